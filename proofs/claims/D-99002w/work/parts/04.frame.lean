/-! THE FRAME: a method's walk against a program in Lean. VV: the machine at a frame, the abstract state u, and M, what is still to be computed by the program in Lean: if M is some w, then the machine ends with w. A row an instruction. -/
set_option maxRecDepth 100000
/-- the tables: classes' ids, fields' places, arrays' class ids by kind (1 int, 2 boolean, 3 byte, 4 long, 5 Object, 6 String) -/
abbrev TT : Type := (Nat → ClassId) × (Nat → Nat → Nat) × (Nat → ClassId)
abbrev vwCl : List vw_C := [(RX1, TX1, 14), (RX2, TX2, 9), (RX3, TX3, 12), (RX4, TX4, 87), (RX5, TX5, 12), (RX6, TX6, 7), (RX7, TX7, 3), (RX8, TX8, 2), (RX9, TX9, 1), (RX10, TX10, 1), (RX11, TX11, 1), (RJ2, TJ2, 3), (RJ19, TJ19, 4), (RJ16, TJ16, 1), (RJ6, TJ6, 6), (RJ20, TJ20, 6)]
abbrev tysAll (t : TT) : List (ClassId × FieldType) := [(t.2.2 1, .int), (t.2.2 2, .boolean), (t.2.2 3, .byte), (t.2.2 4, .long), (t.2.2 5, .object "java/lang/Object"), (t.2.2 6, .object "java/lang/String")]
/-- the words that no list carries -/
def nestWord : Cond → Bool
  | .fieldLinkNest .. => true
  | .methodLinkNest .. => true
  | .castable .. => true
  | .declares .. => true
  | .privateMethod .. => true
  | _ => false
/-- the calls through an interface: class, interface's method, class's method -/
def fwL : List (String × MethodName × MethodName) := [
  ("java/util/ArrayList", ⟨"java/util/List", "add", "(Ljava/lang/Object;)Z"⟩, ⟨"java/util/ArrayList", "add", "(Ljava/lang/Object;)Z"⟩),
  ("java/util/ArrayList", ⟨"java/util/List", "size", "()I"⟩, ⟨"java/util/ArrayList", "size", "()I"⟩),
  ("java/util/ArrayList", ⟨"java/util/List", "get", "(I)Ljava/lang/Object;"⟩, ⟨"java/util/ArrayList", "get", "(I)Ljava/lang/Object;"⟩),
  ("java/util/ArrayList", ⟨"java/util/List", "remove", "(I)Ljava/lang/Object;"⟩, ⟨"java/util/ArrayList", "remove", "(I)Ljava/lang/Object;"⟩),
  ("java/util/ArrayList", ⟨"java/util/List", "isEmpty", "()Z"⟩, ⟨"java/util/ArrayList", "isEmpty", "()Z"⟩),
  ("java/util/ArrayList", ⟨"java/util/Collection", "toArray", "()[Ljava/lang/Object;"⟩, ⟨"java/util/ArrayList", "toArray", "()[Ljava/lang/Object;"⟩),
  ("WhiteBoard$Number", ⟨"WhiteBoard$Form", "of", "([I)I"⟩, ⟨"WhiteBoard$Number", "of", "([I)I"⟩),
  ("WhiteBoard$Value", ⟨"WhiteBoard$Form", "of", "([I)I"⟩, ⟨"WhiteBoard$Value", "of", "([I)I"⟩),
  ("WhiteBoard$Not", ⟨"WhiteBoard$Form", "of", "([I)I"⟩, ⟨"WhiteBoard$Not", "of", "([I)I"⟩),
  ("WhiteBoard$Chain", ⟨"WhiteBoard$Form", "of", "([I)I"⟩, ⟨"WhiteBoard$Chain", "of", "([I)I"⟩)]
/-- what the tables give all through a run -/
def va_Gw (U : State) : Prop := (Cond.interfaceMethod "java/util/Collection" "java/lang/Object" "getClass" "()Ljava/lang/Class;").before #[] U = true ∧ (Cond.publicMethod ⟨"java/lang/Object", "getClass", "()Ljava/lang/Class;"⟩).before #[] U = true ∧ (Cond.unhidden "java/util/ArrayList" "getClass" "()Ljava/lang/Class;").before #[] U = true ∧ va_Nc "java/lang/IllegalArgumentException" "java/util/NoSuchElementException" U
theorem ifm_setVm {A : Array Value} {s : State} {vm' : Vm} (h : s.vm.Alike vm') {ref owner name desc : String} : (Cond.interfaceMethod ref owner name desc).before A (s.setVm vm') = (Cond.interfaceMethod ref owner name desc).before A s := by
  simp only [Cond.before, Cond.holds, Cond.value, State.vm_setVm, h.findClass, State.methodFound?_setVm h, State.methodNamed?_setVm h, arm_isInterface_setVm h]
theorem va_Gw.moved {u U : State} (hvm : u.vm.Alike U.vm) (h : va_Gw u) : va_Gw U := by
  obtain ⟨h1, h2, h3, h4⟩ := h
  have tr : ∀ {c : Cond}, c.onTables = true → c.before #[] (u.setVm U.vm) = true → c.before #[] U = true := by
    intro c hc h
    have e := Cond.onTables_vm (A := #[]) (A' := #[]) (U := u) (U' := U) U.vm c hc
    have hU : U.setVm U.vm = U := rfl
    rw [hU] at e
    rw [← e]
    exact h
  exact ⟨tr rfl (by rw [ifm_setVm hvm]; exact h1), tr rfl (by rw [Cond.publicMethod_setVm hvm]; exact h2), tr rfl (by rw [Cond.unhidden_setVm hvm]; exact h3), h4.moved hvm⟩
def KK (t : TT) (U : State) : Prop := va_K (t.1, t.2.1) vwCl (tysAll t) U ∧ (∀ w ∈ lw_tbl, nestWord w = true → va_Nw w U) ∧ (∀ q ∈ fwL, va_Fw q.1 q.2.1 q.2.2 U) ∧ va_AO "java/lang/Object" U ∧ va_AO "java/lang/String" U ∧ va_Gw U
theorem nestWord_tabs {w : Cond} (h : nestWord w = true) : w.onTables = true := by
  cases w <;> first | rfl | (simp [nestWord] at h)
theorem KK.same {t : TT} {u U : State} (h : u.vm = U.vm) (k : KK t u) : KK t U := by
  obtain ⟨k1, k2, k3, k4, k5, k6⟩ := k
  have hv : u.vm.Alike U.vm := by rw [h]; exact Vm.Alike.refl _
  refine ⟨va_K.moved hv k1, fun w hw hn => va_Nw.same (nestWord_tabs hn) h (k2 w hw hn), fun q hq => ?_, k4.moved hv, k5.moved hv, k6.moved hv⟩
  refine (k3 q hq).moved ?_ hv
  revert q
  decide
theorem KK.warm {t : TT} {s U : State} (hW : s.WarmedH U.vm) (k : KK t s) : KK t U := by
  obtain ⟨k1, k2, k3, k4, k5, k6⟩ := k
  have hv := hW.alike
  refine ⟨va_K.moved hv k1, fun w hw hn => ?_, fun q hq => ?_, k4.moved hv, k5.moved hv, k6.moved hv⟩
  · have h1 := k2 w hw hn
    cases w <;> first
      | exact va_Nw.warmF hW h1
      | exact va_Nw.warmM hW h1
      | exact va_Nw.warmC hW h1
      | exact va_Nw.warmD hW h1
      | exact Cond.privateMethod_warm hW h1
      | (simp [nestWord] at hn)
  · refine (k3 q hq).moved ?_ hv
    revert q
    decide
/-- a method's walk: what holds all along -/
def Cx (t : TT) (p : Program) (s : State) (m : MethodId) (args : Array Value) (meth : Method) (c : Code) (y : MethodName) (cc : ByteArray) (nL : Nat) (ret : Option FieldType) : Prop :=
  p.tables.exec = Jvm.exec ∧ c.code = cc ∧ c.maxLocals = nL ∧ s.vm.findClass y.cls = some m.cls ∧ (∀ w ∈ lw_all, w.before args s = true) ∧ meth.sig.returnType = ret ∧ meth.locks = false ∧ (y.name = "<init>" → meth.name = y.name) ∧ KK t s
def VV {S O : Type} (Rel : S → Heap → Prop) (Ok : O → Nat → Nat → Prop) (Qw : O → State → Prop) (A : Nat → Prop) (p : Program) (l : Launch) (e : Env) (R : Room) (s : State) (m : MethodId) (args : Array Value) (below : List Frame) (meth : Method) (c : Code) (nL : Nat) (pc : Nat) (L : List (Nat × Value)) (st : List Value) (u : S) (M : Option O) : Prop :=
  ∀ w, M = some w → ∀ (H : Heap) (locs : List Loc) (ls : Array Slot) (cells slots : Nat), Ok w cells slots → Rel u H → va_S A s.heap H locs → lv_has ls nL L → W p l e R s m args below meth c H locs cells slots (Qw w) (F0 m pc ls st)
/-- a check -/
def mchk {O : Type} (b : Bool) (M : Option O) : Option O := if b = true then M else none
/-- a value is named -/
def mlet {X O : Type} (x : X) (k : X → Option O) : Option O := k x
theorem mchk_some {O : Type} {b : Bool} {M : Option O} {w : O} (h : mchk b M = some w) : b = true ∧ M = some w := by
  unfold mchk at h
  cases b
  · cases h
  · exact ⟨rfl, h⟩
def inb (i : Int32) (n : Nat) : Bool := !(decide (i < 0) || decide (n ≤ i.toNatClampNeg))
theorem inb_vp {i : Int32} {n : Nat} (h : inb i n = true) : vp_in i n := by
  unfold inb at h
  intro q
  rcases q with q | q <;> simp [q] at h
def FUEL : Nat := 6000
section VF
variable {S O : Type} {Rel : S → Heap → Prop} {Ok : O → Nat → Nat → Prop} {Qw : O → State → Prop} {A : Nat → Prop} {p : Program} {l : Launch} {e : Env} {R : Room} {s : State} {m : MethodId} {args : Array Value} {below : List Frame} {meth : Method} {c : Code} {nL pc : Nat} {L : List (Nat × Value)} {st rest : List Value} {u : S} {M M1 M2 : Option O} {t : TT} {y : MethodName} {cc : ByteArray} {ret : Option FieldType}
theorem v_sub {L' : List (Nat × Value)} (ks : List Nat) (hl : lv_pick L ks = L') (k : VV Rel Ok Qw A p l e R s m args below meth c nL pc L' st u M) : VV Rel Ok Qw A p l e R s m args below meth c nL pc L st u M :=
  fun w hw H locs ls cells slots ok rel hs hl0 => k w hw H locs ls cells slots ok rel hs (lv_sub hl0 ks hl)
theorem v_let {X : Type} {x : X} {k : X → Option O} (h : ∀ z, VV Rel Ok Qw A p l e R s m args below meth c nL pc L st u (k z)) : VV Rel Ok Qw A p l e R s m args below meth c nL pc L st u (mlet x k) := h x
theorem v_topi {x : Int32} {k : Int32 → Option O} (h : ∀ z, VV Rel Ok Qw A p l e R s m args below meth c nL pc L (.int z :: st) u (k z)) : VV Rel Ok Qw A p l e R s m args below meth c nL pc L (.int x :: st) u (mlet x k) := h x
theorem v_topl {x : Int64} {k : Int64 → Option O} (h : ∀ z, VV Rel Ok Qw A p l e R s m args below meth c nL pc L (.long z :: st) u (k z)) : VV Rel Ok Qw A p l e R s m args below meth c nL pc L (.long x :: st) u (mlet x k) := h x
theorem v_chk {b : Bool} (h : b = true → VV Rel Ok Qw A p l e R s m args below meth c nL pc L st u M) : VV Rel Ok Qw A p l e R s m args below meth c nL pc L st u (mchk b M) := by
  intro w hw
  obtain ⟨h1, h2⟩ := mchk_some hw
  exact h h1 w h2
theorem v_none : VV Rel Ok Qw A p l e R s m args below meth c nL pc L st u none := fun w hw => by cases hw
/-- a split in thought alone -/
theorem v_if {cd : Prop} [Decidable cd] (kt : cd → VV Rel Ok Qw A p l e R s m args below meth c nL pc L st u M1) (kf : ¬ cd → VV Rel Ok Qw A p l e R s m args below meth c nL pc L st u M2) : VV Rel Ok Qw A p l e R s m args below meth c nL pc L st u (if cd then M1 else M2) := by
  by_cases h : cd
  · rw [if_pos h]; exact kt h
  · rw [if_neg h]; exact kf h
theorem v_iconst (C : Cx t p s m args meth c y cc nL ret) {n : Int} (v : Int32) (hv : Int32.ofInt n = v) (d : decode cc pc = .ok (.iconst n, 1)) (kk : VV Rel Ok Qw A p l e R s m args below meth c nL (pc + 1) L (.int v :: st) u M) : VV Rel Ok Qw A p l e R s m args below meth c nL pc L (st) u M :=
  fun w hw H locs ls cells slots ok rel hs hl => lv_iconst C.1 C.2.1 d hv (kk w hw H locs ls cells slots ok rel hs hl)
theorem v_bipush (C : Cx t p s m args meth c y cc nL ret) {n : Int} (v : Int32) (hv : (Int8.ofInt n).toInt32 = v) (d : decode cc pc = .ok (.bipush n, 2)) (kk : VV Rel Ok Qw A p l e R s m args below meth c nL (pc + 2) L (.int v :: st) u M) : VV Rel Ok Qw A p l e R s m args below meth c nL pc L (st) u M :=
  fun w hw H locs ls cells slots ok rel hs hl => lv_bipush C.1 C.2.1 d hv (kk w hw H locs ls cells slots ok rel hs hl)
theorem v_sipush (C : Cx t p s m args meth c y cc nL ret) {n : Int} (v : Int32) (hv : (Int16.ofInt n).toInt32 = v) (d : decode cc pc = .ok (.sipush n, 3)) (kk : VV Rel Ok Qw A p l e R s m args below meth c nL (pc + 3) L (.int v :: st) u M) : VV Rel Ok Qw A p l e R s m args below meth c nL pc L (st) u M :=
  fun w hw H locs ls cells slots ok rel hs hl => lv_sipush C.1 C.2.1 d hv (kk w hw H locs ls cells slots ok rel hs hl)
theorem v_lconst (C : Cx t p s m args meth c y cc nL ret) {n : Fin 2} (v : Int64) (hv : Int64.ofNat (n : Nat) = v) (d : decode cc pc = .ok (.lconst n, 1)) (kk : VV Rel Ok Qw A p l e R s m args below meth c nL (pc + 1) L (.long v :: st) u M) : VV Rel Ok Qw A p l e R s m args below meth c nL pc L (st) u M :=
  fun w hw H locs ls cells slots ok rel hs hl => lv_lconst C.1 C.2.1 d hv (kk w hw H locs ls cells slots ok rel hs hl)
theorem v_ldc (C : Cx t p s m args meth c y cc nL ret) {index : Nat} {v : Int32} (hc : Jvm.Cond.constant y.cls index v ∈ lw_all) (d : decode cc pc = .ok (.ldc index, 2)) (kk : VV Rel Ok Qw A p l e R s m args below meth c nL (pc + 2) L (.int v :: st) u M) : VV Rel Ok Qw A p l e R s m args below meth c nL pc L (st) u M :=
  fun w hw H locs ls cells slots ok rel hs hl => lv_ldc C.1 C.2.1 C.2.2.2.1 (C.2.2.2.2.1 _ hc) d (kk w hw H locs ls cells slots ok rel hs hl)
theorem v_ldcw (C : Cx t p s m args meth c y cc nL ret) {index : Nat} {v : Int32} (hc : Jvm.Cond.constant y.cls index v ∈ lw_all) (d : decode cc pc = .ok (.ldc_w index, 3)) (kk : VV Rel Ok Qw A p l e R s m args below meth c nL (pc + 3) L (.int v :: st) u M) : VV Rel Ok Qw A p l e R s m args below meth c nL pc L (st) u M :=
  fun w hw H locs ls cells slots ok rel hs hl => lv_ldcw C.1 C.2.1 C.2.2.2.1 (C.2.2.2.2.1 _ hc) d (kk w hw H locs ls cells slots ok rel hs hl)
theorem v_ldc2 (C : Cx t p s m args meth c y cc nL ret) {index : Nat} {v : Int64} (hc : Jvm.Cond.constantLong y.cls index v ∈ lw_all) (d : decode cc pc = .ok (.ldc2_w index, 3)) (kk : VV Rel Ok Qw A p l e R s m args below meth c nL (pc + 3) L (.long v :: st) u M) : VV Rel Ok Qw A p l e R s m args below meth c nL pc L (st) u M :=
  fun w hw H locs ls cells slots ok rel hs hl => lv_ldc2 C.1 C.2.1 C.2.2.2.1 (C.2.2.2.2.1 _ hc) d (kk w hw H locs ls cells slots ok rel hs hl)
theorem v_iload_n (C : Cx t p s m args meth c y cc nL ret) {k : Fin 4} {i : Nat} {x : Int32} (j : Nat) (hi : (k : Nat) = i) (hL : L[j]? = some (i, .int x)) (d : decode cc pc = .ok (.iload_n k, 1)) (kk : VV Rel Ok Qw A p l e R s m args below meth c nL (pc + 1) L (.int x :: st) u M) : VV Rel Ok Qw A p l e R s m args below meth c nL pc L (st) u M :=
  fun w hw H locs ls cells slots ok rel hs hl => lv_iload_n C.1 C.2.1 d hi (lv_at hl j hL) (kk w hw H locs ls cells slots ok rel hs hl)
theorem v_iload (C : Cx t p s m args meth c y cc nL ret) {i : Nat} {x : Int32} (j : Nat) (hL : L[j]? = some (i, .int x)) (d : decode cc pc = .ok (.iload i, 2)) (kk : VV Rel Ok Qw A p l e R s m args below meth c nL (pc + 2) L (.int x :: st) u M) : VV Rel Ok Qw A p l e R s m args below meth c nL pc L (st) u M :=
  fun w hw H locs ls cells slots ok rel hs hl => lv_iload C.1 C.2.1 d (lv_at hl j hL) (kk w hw H locs ls cells slots ok rel hs hl)
theorem v_lload_n (C : Cx t p s m args meth c y cc nL ret) {k : Fin 4} {i : Nat} {x : Int64} (j : Nat) (hi : (k : Nat) = i) (hL : L[j]? = some (i, .long x)) (d : decode cc pc = .ok (.lload_n k, 1)) (kk : VV Rel Ok Qw A p l e R s m args below meth c nL (pc + 1) L (.long x :: st) u M) : VV Rel Ok Qw A p l e R s m args below meth c nL pc L (st) u M :=
  fun w hw H locs ls cells slots ok rel hs hl => lv_lload_n C.1 C.2.1 d hi (lv_at hl j hL) (kk w hw H locs ls cells slots ok rel hs hl)
theorem v_lload (C : Cx t p s m args meth c y cc nL ret) {i : Nat} {x : Int64} (j : Nat) (hL : L[j]? = some (i, .long x)) (d : decode cc pc = .ok (.lload i, 2)) (kk : VV Rel Ok Qw A p l e R s m args below meth c nL (pc + 2) L (.long x :: st) u M) : VV Rel Ok Qw A p l e R s m args below meth c nL pc L (st) u M :=
  fun w hw H locs ls cells slots ok rel hs hl => lv_lload C.1 C.2.1 d (lv_at hl j hL) (kk w hw H locs ls cells slots ok rel hs hl)
theorem v_aload_n (C : Cx t p s m args meth c y cc nL ret) {k : Fin 4} {i : Nat} {x : Nat} (j : Nat) (hi : (k : Nat) = i) (hL : L[j]? = some (i, .ref x)) (d : decode cc pc = .ok (.aload_n k, 1)) (kk : VV Rel Ok Qw A p l e R s m args below meth c nL (pc + 1) L (.ref x :: st) u M) : VV Rel Ok Qw A p l e R s m args below meth c nL pc L (st) u M :=
  fun w hw H locs ls cells slots ok rel hs hl => lv_aload_n C.1 C.2.1 d hi (lv_at hl j hL) (kk w hw H locs ls cells slots ok rel hs hl)
theorem v_aload (C : Cx t p s m args meth c y cc nL ret) {i : Nat} {x : Nat} (j : Nat) (hL : L[j]? = some (i, .ref x)) (d : decode cc pc = .ok (.aload i, 2)) (kk : VV Rel Ok Qw A p l e R s m args below meth c nL (pc + 2) L (.ref x :: st) u M) : VV Rel Ok Qw A p l e R s m args below meth c nL pc L (st) u M :=
  fun w hw H locs ls cells slots ok rel hs hl => lv_aload C.1 C.2.1 d (lv_at hl j hL) (kk w hw H locs ls cells slots ok rel hs hl)
theorem v_istore_n (C : Cx t p s m args meth c y cc nL ret) {k : Fin 4} {i : Nat} {x : Int32} (L' : List (Nat × Value)) (hi : (k : Nat) = i) (hn : i < nL) (hl2 : (i, Value.int x) :: L.filter (fun q => !(q.1 == i) && !(q.1 + 1 == i && q.2.category == 2)) = L') (d : decode cc pc = .ok (.istore_n k, 1)) (kk : VV Rel Ok Qw A p l e R s m args below meth c nL (pc + 1) L' (st) u M) : VV Rel Ok Qw A p l e R s m args below meth c nL pc L (.int x :: st) u M :=
  fun w hw H locs ls cells slots ok rel hs hl => lv_istore_n C.1 C.2.1 d hi hl hn hl2 (fun ls' hl' => kk w hw H locs ls' cells slots ok rel hs hl')
theorem v_istore (C : Cx t p s m args meth c y cc nL ret) {i : Nat} {x : Int32} (L' : List (Nat × Value)) (hn : i < nL) (hl2 : (i, Value.int x) :: L.filter (fun q => !(q.1 == i) && !(q.1 + 1 == i && q.2.category == 2)) = L') (d : decode cc pc = .ok (.istore i, 2)) (kk : VV Rel Ok Qw A p l e R s m args below meth c nL (pc + 2) L' (st) u M) : VV Rel Ok Qw A p l e R s m args below meth c nL pc L (.int x :: st) u M :=
  fun w hw H locs ls cells slots ok rel hs hl => lv_istore C.1 C.2.1 d hl hn hl2 (fun ls' hl' => kk w hw H locs ls' cells slots ok rel hs hl')
theorem v_lstore_n (C : Cx t p s m args meth c y cc nL ret) {k : Fin 4} {i : Nat} {x : Int64} (L' : List (Nat × Value)) (hi : (k : Nat) = i) (hn : i + 1 < nL) (hl2 : (i, Value.long x) :: L.filter (fun q => !(q.1 == i) && (!(q.1 == i + 1) && !(q.1 + 1 == i && q.2.category == 2))) = L') (d : decode cc pc = .ok (.lstore_n k, 1)) (kk : VV Rel Ok Qw A p l e R s m args below meth c nL (pc + 1) L' (st) u M) : VV Rel Ok Qw A p l e R s m args below meth c nL pc L (.long x :: st) u M :=
  fun w hw H locs ls cells slots ok rel hs hl => lv_lstore_n C.1 C.2.1 d hi hl hn hl2 (fun ls' hl' => kk w hw H locs ls' cells slots ok rel hs hl')
theorem v_lstore (C : Cx t p s m args meth c y cc nL ret) {i : Nat} {x : Int64} (L' : List (Nat × Value)) (hn : i + 1 < nL) (hl2 : (i, Value.long x) :: L.filter (fun q => !(q.1 == i) && (!(q.1 == i + 1) && !(q.1 + 1 == i && q.2.category == 2))) = L') (d : decode cc pc = .ok (.lstore i, 2)) (kk : VV Rel Ok Qw A p l e R s m args below meth c nL (pc + 2) L' (st) u M) : VV Rel Ok Qw A p l e R s m args below meth c nL pc L (.long x :: st) u M :=
  fun w hw H locs ls cells slots ok rel hs hl => lv_lstore C.1 C.2.1 d hl hn hl2 (fun ls' hl' => kk w hw H locs ls' cells slots ok rel hs hl')
theorem v_astore_n (C : Cx t p s m args meth c y cc nL ret) {k : Fin 4} {i : Nat} {x : Nat} (L' : List (Nat × Value)) (hi : (k : Nat) = i) (hn : i < nL) (hl2 : (i, Value.ref x) :: L.filter (fun q => !(q.1 == i) && !(q.1 + 1 == i && q.2.category == 2)) = L') (d : decode cc pc = .ok (.astore_n k, 1)) (kk : VV Rel Ok Qw A p l e R s m args below meth c nL (pc + 1) L' (st) u M) : VV Rel Ok Qw A p l e R s m args below meth c nL pc L (.ref x :: st) u M :=
  fun w hw H locs ls cells slots ok rel hs hl => lv_astore_n C.1 C.2.1 d hi hl hn hl2 (fun ls' hl' => kk w hw H locs ls' cells slots ok rel hs hl')
theorem v_astore (C : Cx t p s m args meth c y cc nL ret) {i : Nat} {x : Nat} (L' : List (Nat × Value)) (hn : i < nL) (hl2 : (i, Value.ref x) :: L.filter (fun q => !(q.1 == i) && !(q.1 + 1 == i && q.2.category == 2)) = L') (d : decode cc pc = .ok (.astore i, 2)) (kk : VV Rel Ok Qw A p l e R s m args below meth c nL (pc + 2) L' (st) u M) : VV Rel Ok Qw A p l e R s m args below meth c nL pc L (.ref x :: st) u M :=
  fun w hw H locs ls cells slots ok rel hs hl => lv_astore C.1 C.2.1 d hl hn hl2 (fun ls' hl' => kk w hw H locs ls' cells slots ok rel hs hl')
theorem v_iinc (C : Cx t p s m args meth c y cc nL ret) {i : Nat} {n : Int} {x : Int32} (v : Int32) (L' : List (Nat × Value)) (k : Nat) (hk : L[k]? = some (i, .int x)) (hv : Int32.ofInt n = v) (hn : i < nL) (hl2 : (i, Value.int (x + v)) :: L.filter (fun q => !(q.1 == i) && !(q.1 + 1 == i && q.2.category == 2)) = L') (d : decode cc pc = .ok (.iinc i n, 3)) (kk : VV Rel Ok Qw A p l e R s m args below meth c nL (pc + 3) L' (st) u M) : VV Rel Ok Qw A p l e R s m args below meth c nL pc L (st) u M :=
  fun w hw H locs ls cells slots ok rel hs hl => lv_iinc C.1 C.2.1 d hl hk (by rw [hv]) hn hl2 (fun ls' hl' => kk w hw H locs ls' cells slots ok rel hs hl')
theorem v_iadd (C : Cx t p s m args meth c y cc nL ret) {x y2 : Int32} (d : decode cc pc = .ok (.iadd, 1)) (kk : VV Rel Ok Qw A p l e R s m args below meth c nL (pc + 1) L (.int (x + y2) :: st) u M) : VV Rel Ok Qw A p l e R s m args below meth c nL pc L (.int y2 :: .int x :: st) u M :=
  fun w hw H locs ls cells slots ok rel hs hl => lv_iadd C.1 C.2.1 d (kk w hw H locs ls cells slots ok rel hs hl)
theorem v_isub (C : Cx t p s m args meth c y cc nL ret) {x y2 : Int32} (d : decode cc pc = .ok (.isub, 1)) (kk : VV Rel Ok Qw A p l e R s m args below meth c nL (pc + 1) L (.int (x - y2) :: st) u M) : VV Rel Ok Qw A p l e R s m args below meth c nL pc L (.int y2 :: .int x :: st) u M :=
  fun w hw H locs ls cells slots ok rel hs hl => lv_isub C.1 C.2.1 d (kk w hw H locs ls cells slots ok rel hs hl)
theorem v_imul (C : Cx t p s m args meth c y cc nL ret) {x y2 : Int32} (d : decode cc pc = .ok (.imul, 1)) (kk : VV Rel Ok Qw A p l e R s m args below meth c nL (pc + 1) L (.int (x * y2) :: st) u M) : VV Rel Ok Qw A p l e R s m args below meth c nL pc L (.int y2 :: .int x :: st) u M :=
  fun w hw H locs ls cells slots ok rel hs hl => lv_imul C.1 C.2.1 d (kk w hw H locs ls cells slots ok rel hs hl)
theorem v_iand (C : Cx t p s m args meth c y cc nL ret) {x y2 : Int32} (d : decode cc pc = .ok (.iand, 1)) (kk : VV Rel Ok Qw A p l e R s m args below meth c nL (pc + 1) L (.int (x &&& y2) :: st) u M) : VV Rel Ok Qw A p l e R s m args below meth c nL pc L (.int y2 :: .int x :: st) u M :=
  fun w hw H locs ls cells slots ok rel hs hl => lv_iand C.1 C.2.1 d (kk w hw H locs ls cells slots ok rel hs hl)
theorem v_ior (C : Cx t p s m args meth c y cc nL ret) {x y2 : Int32} (d : decode cc pc = .ok (.ior, 1)) (kk : VV Rel Ok Qw A p l e R s m args below meth c nL (pc + 1) L (.int (x ||| y2) :: st) u M) : VV Rel Ok Qw A p l e R s m args below meth c nL pc L (.int y2 :: .int x :: st) u M :=
  fun w hw H locs ls cells slots ok rel hs hl => lv_ior C.1 C.2.1 d (kk w hw H locs ls cells slots ok rel hs hl)
theorem v_ixor (C : Cx t p s m args meth c y cc nL ret) {x y2 : Int32} (d : decode cc pc = .ok (.ixor, 1)) (kk : VV Rel Ok Qw A p l e R s m args below meth c nL (pc + 1) L (.int (x ^^^ y2) :: st) u M) : VV Rel Ok Qw A p l e R s m args below meth c nL pc L (.int y2 :: .int x :: st) u M :=
  fun w hw H locs ls cells slots ok rel hs hl => lv_ixor C.1 C.2.1 d (kk w hw H locs ls cells slots ok rel hs hl)
theorem v_ishl (C : Cx t p s m args meth c y cc nL ret) {x y2 : Int32} (d : decode cc pc = .ok (.ishl, 1)) (kk : VV Rel Ok Qw A p l e R s m args below meth c nL (pc + 1) L (.int (x <<< (y2 &&& 31)) :: st) u M) : VV Rel Ok Qw A p l e R s m args below meth c nL pc L (.int y2 :: .int x :: st) u M :=
  fun w hw H locs ls cells slots ok rel hs hl => lv_ishl C.1 C.2.1 d (kk w hw H locs ls cells slots ok rel hs hl)
theorem v_ishr (C : Cx t p s m args meth c y cc nL ret) {x y2 : Int32} (d : decode cc pc = .ok (.ishr, 1)) (kk : VV Rel Ok Qw A p l e R s m args below meth c nL (pc + 1) L (.int (x >>> (y2 &&& 31)) :: st) u M) : VV Rel Ok Qw A p l e R s m args below meth c nL pc L (.int y2 :: .int x :: st) u M :=
  fun w hw H locs ls cells slots ok rel hs hl => lv_ishr C.1 C.2.1 d (kk w hw H locs ls cells slots ok rel hs hl)
theorem v_ladd (C : Cx t p s m args meth c y cc nL ret) {x y2 : Int64} (d : decode cc pc = .ok (.ladd, 1)) (kk : VV Rel Ok Qw A p l e R s m args below meth c nL (pc + 1) L (.long (x + y2) :: st) u M) : VV Rel Ok Qw A p l e R s m args below meth c nL pc L (.long y2 :: .long x :: st) u M :=
  fun w hw H locs ls cells slots ok rel hs hl => lv_ladd C.1 C.2.1 d (kk w hw H locs ls cells slots ok rel hs hl)
theorem v_lsub (C : Cx t p s m args meth c y cc nL ret) {x y2 : Int64} (d : decode cc pc = .ok (.lsub, 1)) (kk : VV Rel Ok Qw A p l e R s m args below meth c nL (pc + 1) L (.long (x - y2) :: st) u M) : VV Rel Ok Qw A p l e R s m args below meth c nL pc L (.long y2 :: .long x :: st) u M :=
  fun w hw H locs ls cells slots ok rel hs hl => lv_lsub C.1 C.2.1 d (kk w hw H locs ls cells slots ok rel hs hl)
theorem v_lor (C : Cx t p s m args meth c y cc nL ret) {x y2 : Int64} (d : decode cc pc = .ok (.lor, 1)) (kk : VV Rel Ok Qw A p l e R s m args below meth c nL (pc + 1) L (.long (x ||| y2) :: st) u M) : VV Rel Ok Qw A p l e R s m args below meth c nL pc L (.long y2 :: .long x :: st) u M :=
  fun w hw H locs ls cells slots ok rel hs hl => lv_lor C.1 C.2.1 d (kk w hw H locs ls cells slots ok rel hs hl)
theorem v_land (C : Cx t p s m args meth c y cc nL ret) {x y2 : Int64} (d : decode cc pc = .ok (.land, 1)) (kk : VV Rel Ok Qw A p l e R s m args below meth c nL (pc + 1) L (.long (x &&& y2) :: st) u M) : VV Rel Ok Qw A p l e R s m args below meth c nL pc L (.long y2 :: .long x :: st) u M :=
  fun w hw H locs ls cells slots ok rel hs hl => lv_land C.1 C.2.1 d (kk w hw H locs ls cells slots ok rel hs hl)
theorem v_idiv (C : Cx t p s m args meth c y cc nL ret) {x y2 : Int32} (hne : ¬ y2 = 0) (d : decode cc pc = .ok (.idiv, 1)) (kk : VV Rel Ok Qw A p l e R s m args below meth c nL (pc + 1) L (.int (x / y2) :: st) u M) : VV Rel Ok Qw A p l e R s m args below meth c nL pc L (.int y2 :: .int x :: st) u M :=
  fun w hw H locs ls cells slots ok rel hs hl => lv_idiv C.1 C.2.1 d hne (kk w hw H locs ls cells slots ok rel hs hl)
theorem v_irem (C : Cx t p s m args meth c y cc nL ret) {x y2 : Int32} (hne : ¬ y2 = 0) (d : decode cc pc = .ok (.irem, 1)) (kk : VV Rel Ok Qw A p l e R s m args below meth c nL (pc + 1) L (.int (x - x / y2 * y2) :: st) u M) : VV Rel Ok Qw A p l e R s m args below meth c nL pc L (.int y2 :: .int x :: st) u M :=
  fun w hw H locs ls cells slots ok rel hs hl => lv_irem C.1 C.2.1 d hne (kk w hw H locs ls cells slots ok rel hs hl)
theorem v_lshl (C : Cx t p s m args meth c y cc nL ret) {x : Int64} {y2 : Int32} (d : decode cc pc = .ok (.lshl, 1)) (kk : VV Rel Ok Qw A p l e R s m args below meth c nL (pc + 1) L (.long (x <<< (y2.toInt64 &&& 63)) :: st) u M) : VV Rel Ok Qw A p l e R s m args below meth c nL pc L (.int y2 :: .long x :: st) u M :=
  fun w hw H locs ls cells slots ok rel hs hl => lv_lshl C.1 C.2.1 d rfl (kk w hw H locs ls cells slots ok rel hs hl)
theorem v_iushr (C : Cx t p s m args meth c y cc nL ret) {x y2 : Int32} (d : decode cc pc = .ok (.iushr, 1)) (kk : VV Rel Ok Qw A p l e R s m args below meth c nL (pc + 1) L (.int ((x.toUInt32 >>> (y2.toUInt32 &&& Int32.toUInt32 31)).toInt32) :: st) u M) : VV Rel Ok Qw A p l e R s m args below meth c nL pc L (.int y2 :: .int x :: st) u M :=
  fun w hw H locs ls cells slots ok rel hs hl => lv_iushr C.1 C.2.1 d rfl (kk w hw H locs ls cells slots ok rel hs hl)
theorem v_i2l (C : Cx t p s m args meth c y cc nL ret) {x : Int32} (d : decode cc pc = .ok (.i2l, 1)) (kk : VV Rel Ok Qw A p l e R s m args below meth c nL (pc + 1) L (.long (x.toInt64) :: st) u M) : VV Rel Ok Qw A p l e R s m args below meth c nL pc L (.int x :: st) u M :=
  fun w hw H locs ls cells slots ok rel hs hl => lv_i2l C.1 C.2.1 d rfl (kk w hw H locs ls cells slots ok rel hs hl)
theorem v_i2b (C : Cx t p s m args meth c y cc nL ret) {x : Int32} (d : decode cc pc = .ok (.i2b, 1)) (kk : VV Rel Ok Qw A p l e R s m args below meth c nL (pc + 1) L (.int (x.toInt8.toInt32) :: st) u M) : VV Rel Ok Qw A p l e R s m args below meth c nL pc L (.int x :: st) u M :=
  fun w hw H locs ls cells slots ok rel hs hl => lv_i2b C.1 C.2.1 d rfl (kk w hw H locs ls cells slots ok rel hs hl)
theorem v_i2c (C : Cx t p s m args meth c y cc nL ret) {x : Int32} (d : decode cc pc = .ok (.i2c, 1)) (kk : VV Rel Ok Qw A p l e R s m args below meth c nL (pc + 1) L (.int ((x.toUInt32 % 65536).toInt32) :: st) u M) : VV Rel Ok Qw A p l e R s m args below meth c nL pc L (.int x :: st) u M :=
  fun w hw H locs ls cells slots ok rel hs hl => lv_i2c C.1 C.2.1 d rfl (kk w hw H locs ls cells slots ok rel hs hl)
theorem v_lcmp (C : Cx t p s m args meth c y cc nL ret) {x y2 : Int64} (d : decode cc pc = .ok (.lcmp, 1)) (kk : VV Rel Ok Qw A p l e R s m args below meth c nL (pc + 1) L (.int (lg_cmp x y2) :: st) u M) : VV Rel Ok Qw A p l e R s m args below meth c nL pc L (.long y2 :: .long x :: st) u M :=
  fun w hw H locs ls cells slots ok rel hs hl => W.lcmp C.1 C.2.1 d (kk w hw H locs ls cells slots ok rel hs hl)
theorem v_dup (C : Cx t p s m args meth c y cc nL ret) {va : Value} (hva : va.category = 1) (d : decode cc pc = .ok (.dup, 1)) (kk : VV Rel Ok Qw A p l e R s m args below meth c nL (pc + 1) L (va :: va :: st) u M) : VV Rel Ok Qw A p l e R s m args below meth c nL pc L (va :: st) u M :=
  fun w hw H locs ls cells slots ok rel hs hl => lv_dup C.1 C.2.1 d hva (kk w hw H locs ls cells slots ok rel hs hl)
theorem v_pop (C : Cx t p s m args meth c y cc nL ret) {va : Value} (hva : va.category = 1) (d : decode cc pc = .ok (.pop, 1)) (kk : VV Rel Ok Qw A p l e R s m args below meth c nL (pc + 1) L (st) u M) : VV Rel Ok Qw A p l e R s m args below meth c nL pc L (va :: st) u M :=
  fun w hw H locs ls cells slots ok rel hs hl => lv_pop C.1 C.2.1 d hva (kk w hw H locs ls cells slots ok rel hs hl)
theorem v_dup_x1 (C : Cx t p s m args meth c y cc nL ret) {va vb : Value} (hva : va.category = 1) (hvb : vb.category = 1) (d : decode cc pc = .ok (.dup_x1, 1)) (kk : VV Rel Ok Qw A p l e R s m args below meth c nL (pc + 1) L (va :: vb :: va :: st) u M) : VV Rel Ok Qw A p l e R s m args below meth c nL pc L (va :: vb :: st) u M :=
  fun w hw H locs ls cells slots ok rel hs hl => lv_dup_x1 C.1 C.2.1 d hva hvb (kk w hw H locs ls cells slots ok rel hs hl)
theorem v_dup2 (C : Cx t p s m args meth c y cc nL ret) {va vb : Value} (hva : va.category = 1) (hvb : vb.category = 1) (d : decode cc pc = .ok (.dup2, 1)) (kk : VV Rel Ok Qw A p l e R s m args below meth c nL (pc + 1) L (va :: vb :: va :: vb :: st) u M) : VV Rel Ok Qw A p l e R s m args below meth c nL pc L (va :: vb :: st) u M :=
  fun w hw H locs ls cells slots ok rel hs hl => lv_dup2_11 C.1 C.2.1 d hva hvb (kk w hw H locs ls cells slots ok rel hs hl)
theorem v_icmp_eq (C : Cx t p s m args meth c y cc nL ret) {x y2 : Int32} {off : Int} (tgt : Nat) (ht : (pc : Int) + off = (tgt : Int)) (d : decode cc pc = .ok (.if_icmp .eq off, 3)) (kt : x = y2 → VV Rel Ok Qw A p l e R s m args below meth c nL tgt L st u M1) (kf : ¬ x = y2 → VV Rel Ok Qw A p l e R s m args below meth c nL (pc + 3) L st u M2) : VV Rel Ok Qw A p l e R s m args below meth c nL pc L (.int y2 :: .int x :: st) u (if x = y2 then M1 else M2) :=
  fun w hw H locs ls cells slots ok rel hs hl => lv_icmp_eq C.1 C.2.1 d ht (fun h => kt h w (by rw [if_pos h] at hw; exact hw) H locs ls cells slots ok rel hs hl) (fun h => kf h w (by rw [if_neg h] at hw; exact hw) H locs ls cells slots ok rel hs hl)
theorem v_if_eq (C : Cx t p s m args meth c y cc nL ret) {x : Int32} {off : Int} (tgt : Nat) (ht : (pc : Int) + off = (tgt : Int)) (d : decode cc pc = .ok (.ifCond .eq off, 3)) (kt : x = 0 → VV Rel Ok Qw A p l e R s m args below meth c nL tgt L st u M1) (kf : ¬ x = 0 → VV Rel Ok Qw A p l e R s m args below meth c nL (pc + 3) L st u M2) : VV Rel Ok Qw A p l e R s m args below meth c nL pc L (.int x :: st) u (if x = 0 then M1 else M2) :=
  fun w hw H locs ls cells slots ok rel hs hl => lv_if_eq C.1 C.2.1 d ht (fun h => kt h w (by rw [if_pos h] at hw; exact hw) H locs ls cells slots ok rel hs hl) (fun h => kf h w (by rw [if_neg h] at hw; exact hw) H locs ls cells slots ok rel hs hl)
theorem v_icmp_ne (C : Cx t p s m args meth c y cc nL ret) {x y2 : Int32} {off : Int} (tgt : Nat) (ht : (pc : Int) + off = (tgt : Int)) (d : decode cc pc = .ok (.if_icmp .ne off, 3)) (kf : x = y2 → VV Rel Ok Qw A p l e R s m args below meth c nL (pc + 3) L st u M2) (kt : ¬ x = y2 → VV Rel Ok Qw A p l e R s m args below meth c nL tgt L st u M1) : VV Rel Ok Qw A p l e R s m args below meth c nL pc L (.int y2 :: .int x :: st) u (if x = y2 then M2 else M1) :=
  fun w hw H locs ls cells slots ok rel hs hl => lv_icmp_ne C.1 C.2.1 d ht (fun h => kt h w (by rw [if_neg h] at hw; exact hw) H locs ls cells slots ok rel hs hl) (fun h => kf h w (by rw [if_pos h] at hw; exact hw) H locs ls cells slots ok rel hs hl)
theorem v_if_ne (C : Cx t p s m args meth c y cc nL ret) {x : Int32} {off : Int} (tgt : Nat) (ht : (pc : Int) + off = (tgt : Int)) (d : decode cc pc = .ok (.ifCond .ne off, 3)) (kf : x = 0 → VV Rel Ok Qw A p l e R s m args below meth c nL (pc + 3) L st u M2) (kt : ¬ x = 0 → VV Rel Ok Qw A p l e R s m args below meth c nL tgt L st u M1) : VV Rel Ok Qw A p l e R s m args below meth c nL pc L (.int x :: st) u (if x = 0 then M2 else M1) :=
  fun w hw H locs ls cells slots ok rel hs hl => lv_if_ne C.1 C.2.1 d ht (fun h => kt h w (by rw [if_neg h] at hw; exact hw) H locs ls cells slots ok rel hs hl) (fun h => kf h w (by rw [if_pos h] at hw; exact hw) H locs ls cells slots ok rel hs hl)
theorem v_icmp_lt (C : Cx t p s m args meth c y cc nL ret) {x y2 : Int32} {off : Int} (tgt : Nat) (ht : (pc : Int) + off = (tgt : Int)) (d : decode cc pc = .ok (.if_icmp .lt off, 3)) (kt : x < y2 → VV Rel Ok Qw A p l e R s m args below meth c nL tgt L st u M1) (kf : ¬ x < y2 → VV Rel Ok Qw A p l e R s m args below meth c nL (pc + 3) L st u M2) : VV Rel Ok Qw A p l e R s m args below meth c nL pc L (.int y2 :: .int x :: st) u (if x < y2 then M1 else M2) :=
  fun w hw H locs ls cells slots ok rel hs hl => lv_icmp_lt C.1 C.2.1 d ht (fun h => kt h w (by rw [if_pos h] at hw; exact hw) H locs ls cells slots ok rel hs hl) (fun h => kf h w (by rw [if_neg h] at hw; exact hw) H locs ls cells slots ok rel hs hl)
theorem v_if_lt (C : Cx t p s m args meth c y cc nL ret) {x : Int32} {off : Int} (tgt : Nat) (ht : (pc : Int) + off = (tgt : Int)) (d : decode cc pc = .ok (.ifCond .lt off, 3)) (kt : x < 0 → VV Rel Ok Qw A p l e R s m args below meth c nL tgt L st u M1) (kf : ¬ x < 0 → VV Rel Ok Qw A p l e R s m args below meth c nL (pc + 3) L st u M2) : VV Rel Ok Qw A p l e R s m args below meth c nL pc L (.int x :: st) u (if x < 0 then M1 else M2) :=
  fun w hw H locs ls cells slots ok rel hs hl => lv_if_lt C.1 C.2.1 d ht (fun h => kt h w (by rw [if_pos h] at hw; exact hw) H locs ls cells slots ok rel hs hl) (fun h => kf h w (by rw [if_neg h] at hw; exact hw) H locs ls cells slots ok rel hs hl)
theorem v_icmp_ge (C : Cx t p s m args meth c y cc nL ret) {x y2 : Int32} {off : Int} (tgt : Nat) (ht : (pc : Int) + off = (tgt : Int)) (d : decode cc pc = .ok (.if_icmp .ge off, 3)) (kt : y2 ≤ x → VV Rel Ok Qw A p l e R s m args below meth c nL tgt L st u M1) (kf : ¬ y2 ≤ x → VV Rel Ok Qw A p l e R s m args below meth c nL (pc + 3) L st u M2) : VV Rel Ok Qw A p l e R s m args below meth c nL pc L (.int y2 :: .int x :: st) u (if y2 ≤ x then M1 else M2) :=
  fun w hw H locs ls cells slots ok rel hs hl => lv_icmp_ge C.1 C.2.1 d ht (fun h => kt h w (by rw [if_pos h] at hw; exact hw) H locs ls cells slots ok rel hs hl) (fun h => kf h w (by rw [if_neg h] at hw; exact hw) H locs ls cells slots ok rel hs hl)
theorem v_if_ge (C : Cx t p s m args meth c y cc nL ret) {x : Int32} {off : Int} (tgt : Nat) (ht : (pc : Int) + off = (tgt : Int)) (d : decode cc pc = .ok (.ifCond .ge off, 3)) (kt : 0 ≤ x → VV Rel Ok Qw A p l e R s m args below meth c nL tgt L st u M1) (kf : ¬ 0 ≤ x → VV Rel Ok Qw A p l e R s m args below meth c nL (pc + 3) L st u M2) : VV Rel Ok Qw A p l e R s m args below meth c nL pc L (.int x :: st) u (if 0 ≤ x then M1 else M2) :=
  fun w hw H locs ls cells slots ok rel hs hl => lv_if_ge C.1 C.2.1 d ht (fun h => kt h w (by rw [if_pos h] at hw; exact hw) H locs ls cells slots ok rel hs hl) (fun h => kf h w (by rw [if_neg h] at hw; exact hw) H locs ls cells slots ok rel hs hl)
theorem v_icmp_gt (C : Cx t p s m args meth c y cc nL ret) {x y2 : Int32} {off : Int} (tgt : Nat) (ht : (pc : Int) + off = (tgt : Int)) (d : decode cc pc = .ok (.if_icmp .gt off, 3)) (kt : y2 < x → VV Rel Ok Qw A p l e R s m args below meth c nL tgt L st u M1) (kf : ¬ y2 < x → VV Rel Ok Qw A p l e R s m args below meth c nL (pc + 3) L st u M2) : VV Rel Ok Qw A p l e R s m args below meth c nL pc L (.int y2 :: .int x :: st) u (if y2 < x then M1 else M2) :=
  fun w hw H locs ls cells slots ok rel hs hl => lv_icmp_gt C.1 C.2.1 d ht (fun h => kt h w (by rw [if_pos h] at hw; exact hw) H locs ls cells slots ok rel hs hl) (fun h => kf h w (by rw [if_neg h] at hw; exact hw) H locs ls cells slots ok rel hs hl)
theorem v_if_gt (C : Cx t p s m args meth c y cc nL ret) {x : Int32} {off : Int} (tgt : Nat) (ht : (pc : Int) + off = (tgt : Int)) (d : decode cc pc = .ok (.ifCond .gt off, 3)) (kt : 0 < x → VV Rel Ok Qw A p l e R s m args below meth c nL tgt L st u M1) (kf : ¬ 0 < x → VV Rel Ok Qw A p l e R s m args below meth c nL (pc + 3) L st u M2) : VV Rel Ok Qw A p l e R s m args below meth c nL pc L (.int x :: st) u (if 0 < x then M1 else M2) :=
  fun w hw H locs ls cells slots ok rel hs hl => lv_if_gt C.1 C.2.1 d ht (fun h => kt h w (by rw [if_pos h] at hw; exact hw) H locs ls cells slots ok rel hs hl) (fun h => kf h w (by rw [if_neg h] at hw; exact hw) H locs ls cells slots ok rel hs hl)
theorem v_icmp_le (C : Cx t p s m args meth c y cc nL ret) {x y2 : Int32} {off : Int} (tgt : Nat) (ht : (pc : Int) + off = (tgt : Int)) (d : decode cc pc = .ok (.if_icmp .le off, 3)) (kt : x ≤ y2 → VV Rel Ok Qw A p l e R s m args below meth c nL tgt L st u M1) (kf : ¬ x ≤ y2 → VV Rel Ok Qw A p l e R s m args below meth c nL (pc + 3) L st u M2) : VV Rel Ok Qw A p l e R s m args below meth c nL pc L (.int y2 :: .int x :: st) u (if x ≤ y2 then M1 else M2) :=
  fun w hw H locs ls cells slots ok rel hs hl => lv_icmp_le C.1 C.2.1 d ht (fun h => kt h w (by rw [if_pos h] at hw; exact hw) H locs ls cells slots ok rel hs hl) (fun h => kf h w (by rw [if_neg h] at hw; exact hw) H locs ls cells slots ok rel hs hl)
theorem v_if_le (C : Cx t p s m args meth c y cc nL ret) {x : Int32} {off : Int} (tgt : Nat) (ht : (pc : Int) + off = (tgt : Int)) (d : decode cc pc = .ok (.ifCond .le off, 3)) (kt : x ≤ 0 → VV Rel Ok Qw A p l e R s m args below meth c nL tgt L st u M1) (kf : ¬ x ≤ 0 → VV Rel Ok Qw A p l e R s m args below meth c nL (pc + 3) L st u M2) : VV Rel Ok Qw A p l e R s m args below meth c nL pc L (.int x :: st) u (if x ≤ 0 then M1 else M2) :=
  fun w hw H locs ls cells slots ok rel hs hl => lv_if_le C.1 C.2.1 d ht (fun h => kt h w (by rw [if_pos h] at hw; exact hw) H locs ls cells slots ok rel hs hl) (fun h => kf h w (by rw [if_neg h] at hw; exact hw) H locs ls cells slots ok rel hs hl)
theorem v_goto (C : Cx t p s m args meth c y cc nL ret) {off : Int} (tgt : Nat) (ht : (pc : Int) + off = (tgt : Int)) (d : decode cc pc = .ok (.goto off, 3)) (kk : VV Rel Ok Qw A p l e R s m args below meth c nL tgt L st u M) : VV Rel Ok Qw A p l e R s m args below meth c nL pc L st u M :=
  fun w hw H locs ls cells slots ok rel hs hl => lv_goto C.1 C.2.1 d ht (kk w hw H locs ls cells slots ok rel hs hl)
theorem v_tableIn (C : Cx t p s m args meth c y cc nL ret) {dflt lo hi : Int} {offs : Array Int} {len : Nat} {x : Int32} (off : Int) (tgt : Nat) (h1 : ¬ x.toInt < lo) (h2 : ¬ hi < x.toInt) (ho : offs[(x.toInt - lo).toNat]? = some off) (ht : (pc : Int) + off = (tgt : Int)) (d : decode cc pc = .ok (.tableswitch dflt lo hi offs, len)) (kk : VV Rel Ok Qw A p l e R s m args below meth c nL tgt L st u M) : VV Rel Ok Qw A p l e R s m args below meth c nL pc L (.int x :: st) u M :=
  fun w hw H locs ls cells slots ok rel hs hl => lv_tableIn C.1 C.2.1 d h1 h2 ho ht (kk w hw H locs ls cells slots ok rel hs hl)
theorem v_tableOut (C : Cx t p s m args meth c y cc nL ret) {dflt lo hi : Int} {offs : Array Int} {len : Nat} {x : Int32} (tgt : Nat) (h : x.toInt < lo ∨ hi < x.toInt) (ht : (pc : Int) + dflt = (tgt : Int)) (d : decode cc pc = .ok (.tableswitch dflt lo hi offs, len)) (kk : VV Rel Ok Qw A p l e R s m args below meth c nL tgt L st u M) : VV Rel Ok Qw A p l e R s m args below meth c nL pc L (.int x :: st) u M :=
  fun w hw H locs ls cells slots ok rel hs hl => lv_tableOut C.1 C.2.1 d h ht (kk w hw H locs ls cells slots ok rel hs hl)
theorem v_lookup (C : Cx t p s m args meth c y cc nL ret) {dflt : Int} {ps : Array (Int × Int)} {len : Nat} {x : Int32} (off : Int) (tgt : Nat) (hp : (ps.toList.zip (ps.toList.drop 1)).all (fun (a, next) => a.1 < next.1) = true) (ho : Op.lookupswitch.offset ps.toList dflt x.toInt = off) (ht : (pc : Int) + off = (tgt : Int)) (d : decode cc pc = .ok (.lookupswitch dflt ps, len)) (kk : VV Rel Ok Qw A p l e R s m args below meth c nL tgt L st u M) : VV Rel Ok Qw A p l e R s m args below meth c nL pc L (.int x :: st) u M :=
  fun w hw H locs ls cells slots ok rel hs hl => lv_lookup C.1 C.2.1 d hp ho ht (kk w hw H locs ls cells slots ok rel hs hl)
end VF
/-! the model's state -/
abbrev MS : Type := (Nat → Int32) × (Nat → Nat → Int32) × Int64
def mS (u : MS) (k : Nat) (v : Int32) : MS := (upd u.1 k v, u.2.1, u.2.2)
def mA (u : MS) (k j : Nat) (v : Int32) : MS := (u.1, fun i => if i = k then upd (u.2.1 k) j v else u.2.1 i, u.2.2)
def mJ (u : MS) (v : Int64) : MS := (u.1, u.2.1, v)
/-- a field's kind: 0 int, 1 int array, 2 boolean array, 3 long, 4 boolean -/
def mKind (k : Nat) : Nat := ([0, 0, 0, 0, 0, 0, 0, 0, 1, 1, 1, 1, 1, 1, 1, 1, 1, 1, 1, 0, 0, 0, 1, 0, 0, 0, 0, 0, 0, 0, 3, 0, 0, 0, 0, 0, 0, 0, 0, 0, 0, 1, 1, 1, 1, 1, 1, 1, 1, 1, 1, 1, 1, 2, 1, 1, 0, 1, 1, 1, 0, 0, 0, 1, 1, 1, 1, 1, 1, 0, 1, 2, 2, 1, 1, 2, 0, 1, 1, 0, 1, 4, 0, 0, 1, 1, 1] : List Nat).getD k 9
def mN (k : Nat) : Nat := ([0, 0, 0, 0, 0, 0, 0, 0, 8, 12, 12, 12, 9, 9, 12, 12, 12, 1400, 700, 0, 0, 0, 3, 0, 0, 0, 0, 0, 0, 0, 0, 0, 0, 0, 0, 0, 0, 0, 0, 0, 0, 8, 12, 12, 12, 9, 9, 12, 12, 12, 34, 1400, 950, 9, 34, 1360, 0, 8, 950, 3, 0, 0, 0, 9, 9, 30, 30, 30, 34, 0, 9, 8, 8, 8, 8, 8, 0, 24, 2700, 0, 8, 0, 0, 0, 34, 1360, 24] : List Nat).getD k 0
/-- the model: its address, its arrays' -/
abbrev GM : Type := Nat × (Nat → Nat)
abbrev mArr (k : Nat) : Prop := mKind k = 1 ∨ mKind k = 2
def mF (g : GM) (u : MS) (k : Nat) : Value := match mKind k with
  | 1 => .ref (g.2 k)
  | 2 => .ref (g.2 k)
  | 3 => .long u.2.2
  | _ => .int (u.1 k)
def WM (g : GM) : Prop := (∀ k, mArr k → g.2 k ≠ g.1) ∧ ∀ j k, mArr j → mArr k → g.2 j = g.2 k → j = k
def RelM (t : TT) (g : GM) (u : MS) (H : Heap) : Prop := WM g ∧ t_OB g.1 (t.1 3) 87 (t.2.1 3) H (mF g u) ∧ ∀ k, mArr k → H[g.2 k]? = some (arrV (t.2.2 (mKind k)) (mN k) (fun j => .int (u.2.1 k j)))
def AM (g : GM) (q : Nat) : Prop := q = g.1 ∨ ∃ k, mArr k ∧ q = g.2 k
def OkM {O : Type} (_ : O) (c s : Nat) : Prop := c = 0 ∧ s = 0
def mkI (r : Int32) : Option Value := some (.int r)
def mkU (_ : Unit) : Option Value := none
def mkJ (r : Int64) : Option Value := some (.long r)
def QM {P : Type} (mk : P → Option Value) (t : TT) (g : GM) (w : P × MS) : Array Value → State → Outcome → State → Prop := fun _ st o T => o = .returned (mk w.1) ∧ RelM t g w.2 T.heap ∧ va_F (AM g) st T
abbrev rmM (lv : Nat) : Room := { frames := lv, cells := 0, slots := 0, locals := 100 * lv }
/-- the contract of a method of the model: if the program in Lean gives w, so does the method -/
def CtM {P : Type} (mk : P → Option Value) (t : TT) (g : GM) (l : Launch) (y : MethodName) (cc : ByteArray) (nL : Nat) (ret : Option FieldType) (lv : Nat) (av : List Value) (u : MS) (M : Option (P × MS)) : Prop :=
  ∀ w, M = some w → Met l y (ws_ y cc nL ret) (rmM lv) (va_Pc av (fun U => RelM t g u U.heap ∧ KK t U)) (QM mk t g w) 0 0 (AM g)
abbrev VM {P : Type} (mk : P → Option Value) (t : TT) (g : GM) (p : Program) (l : Launch) (e : Env) (lv : Nat) (s : State) (m : MethodId) (args : Array Value) (below : List Frame) (meth : Method) (c : Code) (nL : Nat) (pc : Nat) (L : List (Nat × Value)) (st : List Value) (u : MS) (M : Option (P × MS)) : Prop :=
  VV (RelM t g) OkM (fun w => MQ below (QM mk t g w) args s 0 0 (AM g)) (AM g) p l e (rmM lv) s m args below meth c nL pc L st u M
/-- a call's answer goes on -/
def mb {P O : Type} (o : Option (P × MS)) (k : P → MS → Option O) : Option O := match o with
  | some w => k w.1 w.2
  | none => none
theorem mb_some {P O : Type} {o : Option (P × MS)} {k : P → MS → Option O} {w : O} (h : mb o k = some w) : ∃ r, o = some r ∧ k r.1 r.2 = some w := by
  cases o with
  | none => cases h
  | some r => exact ⟨r, rfl, h⟩
def inbM (j : Int32) (k : Nat) : Bool := (mKind k == 1) && inb j (mN k)
def inbZ (j : Int32) (k : Nat) : Bool := (mKind k == 2) && inb j (mN k)
def isB (x : Int32) : Bool := x == 0 || x == 1
theorem isB_nar {x : Int32} (h : isB x = true) : narrow .boolean (.int x) = .int x := by
  unfold isB at h
  rw [Bool.or_eq_true] at h
  rcases h with h | h
  · rw [eq_of_beq h]; rfl
  · rw [eq_of_beq h]; rfl
theorem inbM_k {j : Int32} {k : Nat} (h : inbM j k = true) : mKind k = 1 ∧ vp_in j (mN k) := by
  unfold inbM at h
  rw [Bool.and_eq_true] at h
  exact ⟨eq_of_beq h.1, inb_vp h.2⟩
theorem inbZ_k {j : Int32} {k : Nat} (h : inbZ j k = true) : mKind k = 2 ∧ vp_in j (mN k) := by
  unfold inbZ at h
  rw [Bool.and_eq_true] at h
  exact ⟨eq_of_beq h.1, inb_vp h.2⟩
theorem mA_same (u : MS) (k j : Nat) (v : Int32) : (mA u k j v).2.1 k = upd (u.2.1 k) j v := if_pos rfl
theorem mA_ne (u : MS) {k i : Nat} (j : Nat) (v : Int32) (h : i ≠ k) : (mA u k j v).2.1 i = u.2.1 i := if_neg h
theorem mS_same (u : MS) (k : Nat) (v : Int32) : (mS u k v).1 k = v := if_pos rfl
theorem mS_ne (u : MS) {k i : Nat} (v : Int32) (h : i ≠ k) : (mS u k v).1 i = u.1 i := if_neg h
section VMR
variable {P O : Type} {Qw : O → State → Prop} {p : Program} {l : Launch} {e : Env} {R : Room} {s : State} {m : MethodId} {args : Array Value} {below : List Frame} {meth : Method} {c : Code} {H : Heap} {locs : List Loc} {ls : Array Slot} {cells slots : Nat} {Q : State → Prop} {nL pc : Nat} {L : List (Nat × Value)} {st rest : List Value} {u : MS} {M : Option O} {t : TT} {g : GM} {y : MethodName} {cc : ByteArray} {ret : Option FieldType}
/-- an object's field, read -/
theorem w_getO (C0 : Cx t p s m args meth c y cc nL ret) {a ci N index : Nat} {C ref : String} {T : u_T} {V : Nat → Value} (hin : ∀ w ∈ u_ws C T N, w ∈ lw_all) (hc : vwCl[ci]? = some (C, T, N)) (h : t_OB a (t.1 ci) N (t.2.1 ci) H V) (k : Nat) (hk : k < N) (hlink : (Cond.fieldLink y.cls index ref (T k).2.1 (T k).2.2.1).before args s = true ∨ ∃ host, (Cond.fieldLinkNest y.cls index ref (T k).2.1 (T k).2.2.1 host).before args s = true)
    (hsame : ∀ x, s.fieldFound? (T k).1 (T k).2.1 (T k).2.2.1 = some x → s.fieldFound? ref (T k).2.1 (T k).2.2.1 = some x) (hdg : decode cc pc = .ok (.getfield index, 3))
    (kk : W p l e R s m args below meth c H locs cells slots Q (F0 m (pc + 3) ls (V k :: rest))) : W p l e R s m args below meth c H locs cells slots Q (F0 m pc ls (.ref a :: rest)) := by
  have hV : va_P (t.1, t.2.1) vwCl [(a, .inr (ci, (List.range N).map V))] H := by
    intro i q hq
    match i, hq with
    | 0, hq =>
      cases hq
      refine ⟨_, hc, h.to fun j hj => ?_⟩
      simp [vp_V, List.getD, hj]
    | i + 1, hq => simp at hq
  have hv : ((List.range N).map V)[k]? = some (V k) := by simp [hk]
  rcases hlink with hlink | ⟨host, hlink⟩
  · exact va_get C0.1 C0.2.1 C0.2.2.2.2.1 hin C0.2.2.2.1 C0.2.2.2.2.2.2.2.2.1 hV 0 rfl hc k hk hlink hsame hv hdg kk
  · exact va_getN C0.1 C0.2.1 C0.2.2.2.2.1 hin C0.2.2.2.1 C0.2.2.2.2.2.2.2.2.1 hV 0 rfl hc k hk hlink hsame hv hdg kk
/-- an object's field, written -/
theorem w_putO (C0 : Cx t p s m args meth c y cc nL ret) {a ci N index : Nat} {C ref : String} {T : u_T} {V : Nat → Value} {ty : FieldType} {v : Value} (hin : ∀ w ∈ u_ws C T N, w ∈ lw_all) (ty0 : Nat → FieldType) (hty : ∀ k, k < N → parseFieldDescriptor (T k).2.2.1 = some (ty0 k)) (hnm : ∀ a, a < N → ∀ b, b < N → a ≠ b → (T a).2.1 ≠ (T b).2.1) (hc : vwCl[ci]? = some (C, T, N)) (h : t_OB a (t.1 ci) N (t.2.1 ci) H V) (k : Nat) (hk : k < N) (hlink : (Cond.fieldLink y.cls index ref (T k).2.1 (T k).2.2.1).before args s = true)
    (hsame : ∀ x, s.fieldFound? (T k).1 (T k).2.1 (T k).2.2.1 = some x → s.fieldFound? ref (T k).2.1 (T k).2.2.1 = some x) (hfin : (T k).2.2.2 = false) (hd : parseFieldDescriptor (T k).2.2.1 = some ty) (hn : narrow ty v = v) (hfit : fits ty v = true) (hdg : decode cc pc = .ok (.putfield index, 3))
    (kk : ∀ (H1 : Heap) (j : Nat), t_OB a (t.1 ci) N (t.2.1 ci) H1 (updV V k v) → H1.size = H.size → (∀ q, q ≠ a → H1[q]? = H[q]?) → W p l e R s m args below meth c H1 (locs ++ [⟨a, j⟩]) cells slots Q (F0 m (pc + 3) ls rest)) : W p l e R s m args below meth c H locs cells slots Q (F0 m pc ls (v :: .ref a :: rest)) := by
  have hK := C0.2.2.2.2.2.2.2.2.1
  have hap := va_apart (own := y.cls) C0.2.2.2.2.1 hin ty0 hty hnm hK hc
  obtain ⟨cell, q1, q2, q3, q4⟩ := h
  obtain ⟨hS, hfc, kC, hkC, hkind⟩ := hK.1 ci _ hc
  obtain ⟨cf, kf, fi, f, hi, hsl⟩ := hS k hk
  have hlay := C0.2.2.2.2.1 _ (hin _ (u_in_lay hk))
  unfold u_lay at hlay
  rw [if_neg (by rw [hfin]; decide)] at hlay
  have hst := (u_facts hfc hkC (u_lays C0.2.2.2.2.1 hin hk) hi).1
  have h6 := u_store hfc hkC hkind hlay hi hd hn hfit
  refine W.putK C0.1 C0.2.1 (f := f) ⟨C0.2.2.2.1, hlink, ⟨_, _, _, hsame _ hi⟩, hst⟩ (by rw [q2]; exact h6) q1 q3 (by rw [hsl]; exact k2_hasslot (q4 k hk)) rfl rfl hdg fun H' e1 e2 e3 => ?_
  rw [hsl] at e1 ⊢
  exact kk H' _ ⟨_, e1, q2, q3, t_set q4 hap hk v⟩ e2 e3
theorem relM_set {H1 : Heap} {k : Nat} {v : Int32} (hk : mKind k = 0 ∨ mKind k = 4) (h : RelM t g u H) (h1 : t_OB g.1 (t.1 3) 87 (t.2.1 3) H1 (updV (mF g u) k (.int v))) (oq : ∀ q, q ≠ g.1 → H1[q]? = H[q]?) : RelM t g (mS u k v) H1 := by
  obtain ⟨hw, ho, ha⟩ := h
  refine ⟨hw, h1.to fun j _ => ?_, fun i hi => by rw [oq _ (hw.1 i hi)]; exact ha i hi⟩
  unfold updV mF mS upd
  by_cases hj : j = k
  · subst hj
    rw [if_pos rfl]
    rcases hk with hk | hk <;> rw [hk] <;> simp
  · rw [if_neg hj]
    simp [hj]
theorem relM_setJ {H1 : Heap} {k : Nat} {v : Int64} (hk : k = 30) (h : RelM t g u H) (h1 : t_OB g.1 (t.1 3) 87 (t.2.1 3) H1 (updV (mF g u) k (.long v))) (oq : ∀ q, q ≠ g.1 → H1[q]? = H[q]?) : RelM t g (mJ u v) H1 := by
  obtain ⟨hw, ho, ha⟩ := h
  refine ⟨hw, h1.to fun j hj2 => ?_, fun i hi => by rw [oq _ (hw.1 i hi)]; exact ha i hi⟩
  unfold updV
  by_cases hj : j = k
  · subst hj
    rw [if_pos rfl]
    subst hk
    rfl
  · rw [if_neg hj]
    have h3 : mKind j ≠ 3 := by
      subst hk
      revert hj
      exact (show ∀ j, j < 87 → ¬ j = 30 → mKind j ≠ 3 by decide +kernel) j hj2
    unfold mF mJ
    split <;> first | rfl | contradiction
theorem relM_store {H1 : Heap} {k j : Nat} {v : Int32} (hk : mArr k) (h : RelM t g u H) (e : H1[g.2 k]? = some ((arrV (t.2.2 (mKind k)) (mN k) (fun j => .int (u.2.1 k j))).setSlot j (.int v))) (oq : ∀ q, q ≠ g.2 k → H1[q]? = H[q]?) : RelM t g (mA u k j v) H1 := by
  obtain ⟨hw, ho, ha⟩ := h
  refine ⟨hw, (ho.kept (oq g.1 (fun z => hw.1 k hk z.symm))).to fun i _ => ?_, fun i hi => ?_⟩
  · unfold mF mA
    rfl
  · by_cases hik : i = k
    · subst hik
      rw [e, arrV_store]
      congr 2
      funext q
      rw [mA_same]
      unfold updV upd
      by_cases hq : q = j <;> simp [hq]
    · rw [oq _ (fun z => hik (hw.2 i k hi hk z)), ha i hi, mA_ne u j v hik]
abbrev BM {O : Type} (t : TT) (g : GM) (Qw : O → State → Prop) := VV (S := MS) (O := O) (RelM t g) OkM Qw (AM g)
theorem v_getMi (C0 : Cx t p s m args meth c y cc nL ret) {index : Nat} (k : Nat) (hk : k < 87) (h0 : mKind k = 0 ∨ mKind k = 4) (hlink : Cond.fieldLink y.cls index RX4 (TX4 k).2.1 (TX4 k).2.2.1 ∈ lw_all) (hs : (TX4 k).1 = RX4) (d : decode cc pc = .ok (.getfield index, 3))
    (kk : BM t g Qw p l e R s m args below meth c nL (pc + 3) L (.int (u.1 k) :: st) u M) : BM t g Qw p l e R s m args below meth c nL pc L (.ref g.1 :: st) u M := by
  intro w hw H locs ls cells slots ok rel hS hl
  refine w_getO C0 in_X4 (ci := 3) rfl rel.2.1 k hk (Or.inl (C0.2.2.2.2.1 _ hlink)) (by rw [hs]; exact fun _ h => h) d ?_
  have e1 : mF g u k = .int (u.1 k) := by unfold mF; rcases h0 with h0 | h0 <;> simp [h0]
  rw [e1]
  exact kk w hw H locs ls cells slots ok rel hS hl
theorem v_getMa (C0 : Cx t p s m args meth c y cc nL ret) {index : Nat} (k : Nat) (hk : k < 87) (h0 : mArr k) (hlink : Cond.fieldLink y.cls index RX4 (TX4 k).2.1 (TX4 k).2.2.1 ∈ lw_all) (hs : (TX4 k).1 = RX4) (d : decode cc pc = .ok (.getfield index, 3))
    (kk : BM t g Qw p l e R s m args below meth c nL (pc + 3) L (.ref (g.2 k) :: st) u M) : BM t g Qw p l e R s m args below meth c nL pc L (.ref g.1 :: st) u M := by
  intro w hw H locs ls cells slots ok rel hS hl
  refine w_getO C0 in_X4 (ci := 3) rfl rel.2.1 k hk (Or.inl (C0.2.2.2.2.1 _ hlink)) (by rw [hs]; exact fun _ h => h) d ?_
  have e1 : mF g u k = .ref (g.2 k) := by unfold mF; rcases h0 with h0 | h0 <;> simp [h0]
  rw [e1]
  exact kk w hw H locs ls cells slots ok rel hS hl
theorem v_getMl (C0 : Cx t p s m args meth c y cc nL ret) {index : Nat} (k : Nat) (hk : k < 87) (h0 : mKind k = 3) (hlink : Cond.fieldLink y.cls index RX4 (TX4 k).2.1 (TX4 k).2.2.1 ∈ lw_all) (hs : (TX4 k).1 = RX4) (d : decode cc pc = .ok (.getfield index, 3))
    (kk : BM t g Qw p l e R s m args below meth c nL (pc + 3) L (.long u.2.2 :: st) u M) : BM t g Qw p l e R s m args below meth c nL pc L (.ref g.1 :: st) u M := by
  intro w hw H locs ls cells slots ok rel hS hl
  refine w_getO C0 in_X4 (ci := 3) rfl rel.2.1 k hk (Or.inl (C0.2.2.2.2.1 _ hlink)) (by rw [hs]; exact fun _ h => h) d ?_
  have e1 : mF g u k = .long u.2.2 := by unfold mF; simp [h0]
  rw [e1]
  exact kk w hw H locs ls cells slots ok rel hS hl
theorem v_putMi (C0 : Cx t p s m args meth c y cc nL ret) {index : Nat} {v : Int32} {k1 : MS → Option O} (k : Nat) (hk : k < 87) (h0 : mKind k = 0) (hlink : Cond.fieldLink y.cls index RX4 (TX4 k).2.1 (TX4 k).2.2.1 ∈ lw_all) (hs : (TX4 k).1 = RX4) (hf : (TX4 k).2.2.2 = false) (hd : parseFieldDescriptor (TX4 k).2.2.1 = some .int) (d : decode cc pc = .ok (.putfield index, 3))
    (kk : ∀ u1, BM t g Qw p l e R s m args below meth c nL (pc + 3) L st u1 (k1 u1)) : BM t g Qw p l e R s m args below meth c nL pc L (.int v :: .ref g.1 :: st) u (mlet (mS u k v) k1) := by
  intro w hw H locs ls cells slots ok rel hS hl
  refine w_putO C0 in_X4 tyX4 tyX4_ok nmX4 (ci := 3) rfl rel.2.1 k hk (C0.2.2.2.2.1 _ hlink) (by rw [hs]; exact fun _ h => h) hf hd rfl rfl d (fun H1 j h1 z oq => ?_)
  exact kk (mS u k v) w hw H1 _ ls cells slots ok (relM_set (Or.inl h0) rel h1 oq) (hS.put z oq (Or.inl rfl)) hl
theorem v_putMz (C0 : Cx t p s m args meth c y cc nL ret) {index : Nat} {v : Int32} {k1 : MS → Option O} (k : Nat) (hk : k < 87) (h0 : mKind k = 4) (hb : isB v = true) (hlink : Cond.fieldLink y.cls index RX4 (TX4 k).2.1 (TX4 k).2.2.1 ∈ lw_all) (hs : (TX4 k).1 = RX4) (hf : (TX4 k).2.2.2 = false) (hd : parseFieldDescriptor (TX4 k).2.2.1 = some .boolean) (d : decode cc pc = .ok (.putfield index, 3))
    (kk : ∀ u1, BM t g Qw p l e R s m args below meth c nL (pc + 3) L st u1 (k1 u1)) : BM t g Qw p l e R s m args below meth c nL pc L (.int v :: .ref g.1 :: st) u (mlet (mS u k v) k1) := by
  intro w hw H locs ls cells slots ok rel hS hl
  have hfit : fits .boolean (.int v) = true := by
    unfold isB at hb
    rw [Bool.or_eq_true] at hb
    rcases hb with h | h
    · rw [eq_of_beq h]; rfl
    · rw [eq_of_beq h]; rfl
  refine w_putO C0 in_X4 tyX4 tyX4_ok nmX4 (ci := 3) rfl rel.2.1 k hk (C0.2.2.2.2.1 _ hlink) (by rw [hs]; exact fun _ h => h) hf hd (isB_nar hb) hfit d (fun H1 j h1 z oq => ?_)
  exact kk (mS u k v) w hw H1 _ ls cells slots ok (relM_set (Or.inr h0) rel h1 oq) (hS.put z oq (Or.inl rfl)) hl
theorem v_putMl (C0 : Cx t p s m args meth c y cc nL ret) {index : Nat} {v : Int64} {k1 : MS → Option O} (k : Nat) (hk : k = 30) (hlink : Cond.fieldLink y.cls index RX4 (TX4 k).2.1 (TX4 k).2.2.1 ∈ lw_all) (hd : parseFieldDescriptor (TX4 k).2.2.1 = some .long) (d : decode cc pc = .ok (.putfield index, 3))
    (kk : ∀ u1, BM t g Qw p l e R s m args below meth c nL (pc + 3) L st u1 (k1 u1)) : BM t g Qw p l e R s m args below meth c nL pc L (.long v :: .ref g.1 :: st) u (mlet (mJ u v) k1) := by
  intro w hw H locs ls cells slots ok rel hS hl
  subst hk
  refine w_putO C0 in_X4 tyX4 tyX4_ok nmX4 (ci := 3) rfl rel.2.1 30 (by decide) (C0.2.2.2.2.1 _ hlink) (fun _ h => h) rfl hd rfl rfl d (fun H1 j h1 z oq => ?_)
  exact kk (mJ u v) w hw H1 _ ls cells slots ok (relM_setJ rfl rel h1 oq) (hS.put z oq (Or.inl rfl)) hl
theorem v_ialdM (C0 : Cx t p s m args meth c y cc nL ret) {j : Int32} {k : Nat} (hj : inbM j k = true) (d : decode cc pc = .ok (.iaload, 1))
    (kk : BM t g Qw p l e R s m args below meth c nL (pc + 1) L (.int (u.2.1 k j.toNatClampNeg) :: st) u M) : BM t g Qw p l e R s m args below meth c nL pc L (.int j :: .ref (g.2 k) :: st) u M := by
  intro w hw H locs ls cells slots ok rel hS hl
  obtain ⟨h1, hin⟩ := inbM_k hj
  have hlt : j.toNatClampNeg < mN k := Nat.not_le.mp fun q => hin (Or.inr q)
  have hc := rel.2.2 k (Or.inl h1)
  rw [h1] at hc
  exact W.iald (v := .int (u.2.1 k j.toNatClampNeg)) C0.1 C0.2.1 hc ((C0.2.2.2.2.2.2.2.2.1.2 0 _ rfl).1 (mN k) _) (fun q => by cases q) (by rw [arrV_size]; exact hin) (by rw [arrV_read _ _ hlt]) rfl rfl d (kk w hw H locs ls cells slots ok rel hS hl)
theorem v_baldM (C0 : Cx t p s m args meth c y cc nL ret) {j : Int32} {k : Nat} (hj : inbZ j k = true) (d : decode cc pc = .ok (.baload, 1))
    (kk : BM t g Qw p l e R s m args below meth c nL (pc + 1) L (.int (u.2.1 k j.toNatClampNeg) :: st) u M) : BM t g Qw p l e R s m args below meth c nL pc L (.int j :: .ref (g.2 k) :: st) u M := by
  intro w hw H locs ls cells slots ok rel hS hl
  obtain ⟨h1, hin⟩ := inbZ_k hj
  have hlt : j.toNatClampNeg < mN k := Nat.not_le.mp fun q => hin (Or.inr q)
  have hc := rel.2.2 k (Or.inr h1)
  rw [h1] at hc
  exact W.zald (v := .int (u.2.1 k j.toNatClampNeg)) C0.1 C0.2.1 hc ((C0.2.2.2.2.2.2.2.2.1.2 1 _ rfl).1 (mN k) _) (fun q => by cases q) (by rw [arrV_size]; exact hin) (by rw [arrV_read _ _ hlt]) rfl rfl d (kk w hw H locs ls cells slots ok rel hS hl)
theorem v_iastM (C0 : Cx t p s m args meth c y cc nL ret) {j v : Int32} {k : Nat} {k1 : MS → Option O} (hj : inbM j k = true) (d : decode cc pc = .ok (.iastore, 1))
    (kk : ∀ u1, BM t g Qw p l e R s m args below meth c nL (pc + 1) L st u1 (k1 u1)) : BM t g Qw p l e R s m args below meth c nL pc L (.int v :: .int j :: .ref (g.2 k) :: st) u (mlet (mA u k j.toNatClampNeg v) k1) := by
  intro w hw H locs ls cells slots ok rel hS hl
  obtain ⟨h1, hin⟩ := inbM_k hj
  have hc := rel.2.2 k (Or.inl h1)
  rw [h1] at hc
  refine W.iast C0.1 C0.2.1 hc ((C0.2.2.2.2.2.2.2.2.1.2 0 _ rfl).1 (mN k) _) (fun q => by cases q) (by rw [arrV_size]; exact hin) rfl rfl d (fun H1 e1 z oq => ?_)
  exact kk (mA u k j.toNatClampNeg v) w hw H1 _ ls cells slots ok (relM_store (Or.inl h1) rel (by rw [h1]; exact e1) oq) (hS.put z oq (Or.inr ⟨k, Or.inl h1, rfl⟩)) hl
theorem v_bastM (C0 : Cx t p s m args meth c y cc nL ret) {j v : Int32} {k : Nat} {k1 : MS → Option O} (hj : inbZ j k = true) (hv : isB v = true) (d : decode cc pc = .ok (.bastore, 1))
    (kk : ∀ u1, BM t g Qw p l e R s m args below meth c nL (pc + 1) L st u1 (k1 u1)) : BM t g Qw p l e R s m args below meth c nL pc L (.int v :: .int j :: .ref (g.2 k) :: st) u (mlet (mA u k j.toNatClampNeg v) k1) := by
  intro w hw H locs ls cells slots ok rel hS hl
  obtain ⟨h1, hin⟩ := inbZ_k hj
  have hc := rel.2.2 k (Or.inr h1)
  rw [h1] at hc
  refine W.zast C0.1 C0.2.1 hc ((C0.2.2.2.2.2.2.2.2.1.2 1 _ rfl).1 (mN k) _) (fun q => by cases q) (by rw [arrV_size]; exact hin) rfl rfl d (fun H1 e1 z oq => ?_)
  rw [isB_nar hv] at e1
  exact kk (mA u k j.toNatClampNeg v) w hw H1 _ ls cells slots ok (relM_store (Or.inr h1) rel (by rw [h1]; exact e1) oq) (hS.put z oq (Or.inr ⟨k, Or.inr h1, rfl⟩)) hl
theorem v_alenM (C0 : Cx t p s m args meth c y cc nL ret) {k : Nat} (hk : mKind k = 1) (d : decode cc pc = .ok (.arraylength, 1))
    (kk : BM t g Qw p l e R s m args below meth c nL (pc + 1) L (.int (Int32.ofNat (mN k)) :: st) u M) : BM t g Qw p l e R s m args below meth c nL pc L (.ref (g.2 k) :: st) u M := by
  intro w hw H locs ls cells slots ok rel hS hl
  have hc := rel.2.2 k (Or.inl hk)
  rw [hk] at hc
  exact W.alen C0.1 C0.2.1 hc ((C0.2.2.2.2.2.2.2.2.1.2 0 _ rfl).1 (mN k) _) (by rw [arrV_size]) rfl rfl d (kk w hw H locs ls cells slots ok rel hS hl)
/-- a call comes back -/
theorem w_call {pc : Nat} {st0 : List Value} {mc ms : Nat} {Qa : State → Outcome → State → Prop} {free : Addr → Prop} (hr : va_Run p l e R s m args below meth c H locs cells slots mc ms (F0 m pc ls st0) rest Qa free)
    (kk : ∀ (v : Option Value) (st₀ T : State) (L : List Loc), st₀.heap = H → Qa st₀ (.returned v) T → (∀ q ∈ L, free q.base) → W p l e R s m args below meth c T.heap (locs ++ L) (cells + mc) (slots + ms) Q (F0 m (pc + 3) ls (v.toList ++ rest))) : W p l e R s m args below meth c H locs cells slots Q (F0 m pc ls st0) := by
  intro T hT X
  obtain ⟨v, st₀, t1, T', L, h0, X', hL, e1, e2, hq, st⟩ := hr T hT X
  obtain ⟨t2, a1, b1⟩ := kk v st₀ t1 L h0 hq hL T' e1 X'
  exact ⟨t2, st t2 a1, b1⟩
theorem pcM_blind {av : List Value} {u : MS} : FrameBlind (va_Pc av (fun U => RelM t g u U.heap ∧ KK t U)) := fun a U gf mk q => ⟨q.1, q.2.1, KK.same (u := U) (U := U.calling gf mk a) rfl q.2.2⟩
theorem recM (h : RelM t g u H) (k : KK t s) : ∃ cellB : Cell, H[g.1]? = some cellB ∧ cellB.vm.isStatics = false ∧ s.vm.findClass RX4 = some cellB.cls := by
  obtain ⟨-, ⟨cell, h1, h2, h3, -⟩, -⟩ := h
  have hc := k.1.1 3 (RX4, TX4, 87) rfl
  exact ⟨cell, h1, by rw [h3]; rfl, by rw [h2]; exact hc.2.1⟩
theorem va_S_call {A A1 : Nat → Prop} {H0 H : Heap} {locs L : List Loc} {st T : State} (hS : va_S A H0 H locs) (h0 : st.heap = H) (hF : va_F A1 st T) (hA : ∀ q, A1 q → A q) (hL : ∀ q ∈ L, A1 q.base) : va_S A H0 T.heap (locs ++ L) := by
  refine ⟨Nat.le_trans hS.1 (by rw [← h0]; exact hF.1), fun q h1 h2 => ?_, fun q hq => ?_⟩
  · rw [hF.2 q (by rw [h0]; exact Nat.lt_of_lt_of_le h1 hS.1) (fun z => h2 (hA q z)), h0]
    exact hS.2.1 q h1 h2
  · rcases List.mem_append.mp hq with h | h
    · exact hS.2.2 q h
    · exact hA _ (hL q h)
/-- a method of the model calls another -/
theorem v_callVM {P2 : Type} {mk2 : P2 → Option Value} {lv lv2 n index nL2 : Nat} {y2 : MethodName} {cc2 : ByteArray} {ret2 : Option FieldType} {X : Option (P2 × MS)} {k1 : P2 → MS → Option O} (C0 : Cx t p s m args meth c y cc nL ret) (As rest : List Value) (hct : CtM mk2 t g l y2 cc2 nL2 ret2 lv2 (.ref g.1 :: As) u X)
    (cw : CallW (rmM lv) s args y.cls RX4 index y2 cc2 nL2 ret2 (ws_ y2 cc2 nL2 ret2) (rmM lv2) 0 0 n) (hn : As.length = n) (hst : st = As.reverse ++ .ref g.1 :: rest) (hsm : (rest.map fun v => v.category).sum ≤ 8) (d : decode cc pc = .ok (.invokevirtual index, 3))
    (kk : ∀ r u1, BM t g Qw p l e (rmM lv) s m args below meth c nL (pc + 3) L ((mk2 r).toList ++ rest) u1 (k1 r u1)) : BM t g Qw p l e (rmM lv) s m args below meth c nL pc L st u (mb X k1) := by
  intro w hw H locs ls cells slots ok rel hS hl
  obtain ⟨r, hr, hk1⟩ := mb_some hw
  obtain ⟨rfl, rfl⟩ := ok
  have hP : PreV s H RX4 g.1 (va_Pc (.ref g.1 :: As) (fun U => RelM t g u U.heap ∧ KK t U)) As := ⟨pcM_blind, recM rel C0.2.2.2.2.2.2.2.2, fun U hU hW => ⟨rfl, by rw [hU]; exact rel, C0.2.2.2.2.2.2.2.2.warm hW⟩⟩
  refine w_call (va_runV (As := As) (rest := rest) ⟨C0.1, C0.2.1, C0.2.2.1, C0.2.2.2.1, C0.2.2.2.2.1⟩ (hct r hr) cw hP rfl hn hl.1 hst (lv_room hsm) d ⟨Nat.le_refl 0, Nat.le_refl 0⟩) (fun v st₀ T L2 h0 hq hL2 => ?_)
  obtain ⟨hv, hrel, hF⟩ := hq
  cases hv
  exact kk r.1 r.2 w hk1 T.heap _ ls 0 0 ⟨rfl, rfl⟩ hrel (va_S_call hS h0 hF (fun _ z => z) hL2) hl
theorem v_callSM {P2 : Type} {mk2 : P2 → Option Value} {lv lv2 n index nL2 : Nat} {y2 : MethodName} {cc2 : ByteArray} {ret2 : Option FieldType} {X : Option (P2 × MS)} {k1 : P2 → MS → Option O} (C0 : Cx t p s m args meth c y cc nL ret) (As rest : List Value) (hct : CtM mk2 t g l y2 cc2 nL2 ret2 lv2 As u X)
    (cw : CallB (rmM lv) s args y.cls index y2 cc2 nL2 ret2 (ws_ y2 cc2 nL2 ret2) (rmM lv2) 0 0 n ∧ (Cond.static y2).before args s = true) (hn : As.length = n) (hst : st = As.reverse ++ rest) (hsm : (rest.map fun v => v.category).sum ≤ 8) (d : decode cc pc = .ok (.invokestatic index, 3))
    (kk : ∀ r u1, BM t g Qw p l e (rmM lv) s m args below meth c nL (pc + 3) L ((mk2 r).toList ++ rest) u1 (k1 r u1)) : BM t g Qw p l e (rmM lv) s m args below meth c nL pc L st u (mb X k1) := by
  intro w hw H locs ls cells slots ok rel hS hl
  obtain ⟨r, hr, hk1⟩ := mb_some hw
  obtain ⟨rfl, rfl⟩ := ok
  have hP : PreS s H (va_Pc As (fun U => RelM t g u U.heap ∧ KK t U)) As := ⟨pcM_blind, fun U hU hW => ⟨rfl, by rw [hU]; exact rel, C0.2.2.2.2.2.2.2.2.warm hW⟩⟩
  refine w_call (va_runS (As := As) (rest := rest) ⟨C0.1, C0.2.1, C0.2.2.1, C0.2.2.2.1, C0.2.2.2.2.1⟩ (hct r hr) cw hP rfl hn hl.1 hst (lv_room hsm) d ⟨Nat.le_refl 0, Nat.le_refl 0⟩) (fun v st₀ T L2 h0 hq hL2 => ?_)
  obtain ⟨hv, hrel, hF⟩ := hq
  cases hv
  exact kk r.1 r.2 w hk1 T.heap _ ls 0 0 ⟨rfl, rfl⟩ hrel (va_S_call hS h0 hF (fun _ z => z) hL2) hl
theorem v_iretM (C0 : Cx t p s m args meth c y cc nL (some .int)) {lv : Nat} {v : Int32} (d : decode cc pc = .ok (.ireturn, 1)) : VM mkI t g p l e lv s m args below meth c nL pc L [.int v] u (some (v, u)) := by
  intro w hw H locs ls cells slots ok rel hS hl
  cases hw
  obtain ⟨rfl, rfl⟩ := ok
  exact W.iret C0.1 C0.2.1 C0.2.2.2.2.2.1 (fun T hT _ => ⟨rfl, by rw [hT]; exact rel, hS.F hT⟩) hS.2.2 d C0.2.2.2.2.2.2.1
/-- a boolean answer -/
def rz {S : Type} (v : Int32) (u : S) : Option (Int32 × S) := mchk (isB v) (some (v, u))
theorem v_zretM (C0 : Cx t p s m args meth c y cc nL (some .boolean)) {lv : Nat} {v : Int32} (d : decode cc pc = .ok (.ireturn, 1)) : VM mkI t g p l e lv s m args below meth c nL pc L [.int v] u (rz v u) := by
  intro w hw H locs ls cells slots ok rel hS hl
  obtain ⟨h1, hw⟩ := mchk_some hw
  cases hw
  obtain ⟨rfl, rfl⟩ := ok
  exact W.zret C0.1 C0.2.1 C0.2.2.2.2.2.1 (isB_nar h1) (fun T hT _ => ⟨rfl, by rw [hT]; exact rel, hS.F hT⟩) hS.2.2 d C0.2.2.2.2.2.2.1
theorem v_vretM (C0 : Cx t p s m args meth c y cc nL none) {lv : Nat} (d : decode cc pc = .ok (.return_, 1)) : VM mkU t g p l e lv s m args below meth c nL pc L [] u (some ((), u)) := by
  intro w hw H locs ls cells slots ok rel hS hl
  cases hw
  obtain ⟨rfl, rfl⟩ := ok
  exact W.vret C0.1 C0.2.1 C0.2.2.2.2.2.1 (fun T hT _ => ⟨rfl, by rw [hT]; exact rel, hS.F hT⟩) hS.2.2 d C0.2.2.2.2.2.2.1
theorem v_lretM (C0 : Cx t p s m args meth c y cc nL (some .long)) {lv : Nat} {v : Int64} (d : decode cc pc = .ok (.lreturn, 1)) : VM mkJ t g p l e lv s m args below meth c nL pc L [.long v] u (some (v, u)) := by
  intro w hw H locs ls cells slots ok rel hS hl
  cases hw
  obtain ⟨rfl, rfl⟩ := ok
  exact W.lret C0.1 C0.2.1 C0.2.2.2.2.2.1 (fun T hT _ => ⟨rfl, by rw [hT]; exact rel, hS.F hT⟩) hS.2.2 d C0.2.2.2.2.2.2.1
/-- a contract of the model out of the walk of its body -/
theorem ctM_of {mk : P → Option Value} {lv : Nat} {av : List Value} {M : Option (P × MS)} (L : List (Nat × Value)) (hy : plainName y.cls = true) (hlen : (lg_sl av).length ≤ nL) (hL : lv_args 0 av = L)
    (body : ∀ p e s m args below meth c, Cx t p s m args meth c y cc nL ret → VM mk t g p l e lv s m args below meth c nL 0 L [] u M) : CtM mk t g l y cc nL ret lv av u M := by
  intro w hw
  refine Met.ofW (cc := cc) (maxL := nL) (ret := ret) hy rfl ?_
  intro p e s m args below meth c s₁ B hml hv
  obtain ⟨rfl, hrel, hk⟩ := hv
  have hts := atoms_spec (ws := ws_ y cc nL ret) B.pre
  have hts : ∀ w ∈ lw_all, w.before _ s = true := fun w h => hts w (List.mem_cons_of_mem _ h)
  have hl := lv_entry av (n := nL) hlen
  rw [lg_entry_eq]
  rw [hL] at hl
  exact body p e s m _ below meth c ⟨B.exec, B.bytes, hml, findClass_of_methodNamed B.named, hts, B.returns, B.notSynchronized, fun _ => (name_of_methodNamed B.named B.method).1, hk⟩ w hw s.heap [] _ 0 0 ⟨rfl, rfl⟩ hrel va_S.rf hl
end VMR
def ml0 {S O : Type} (f : (S → Option O) → S → Option O) : Nat → S → Option O
  | 0, _ => none
  | n + 1, u => f (ml0 f n) u
theorem vl0 {S O : Type} {Rel : S → Heap → Prop} {Ok : O → Nat → Nat → Prop} {Qw : O → State → Prop} {A : Nat → Prop} {p : Program} {l : Launch} {e : Env} {R : Room} {s : State} {m : MethodId} {args : Array Value} {below : List Frame} {meth : Method} {c : Code} {nL pc : Nat} {f : (S → Option O) → S → Option O} {L : List (Nat × Value)} (h : ∀ k : S → Option O, (∀  (u : S), VV Rel Ok Qw A p l e R s m args below meth c nL pc (L ) [] u (k u)) → ∀  (u : S), VV Rel Ok Qw A p l e R s m args below meth c nL pc (L ) [] u (f k u)) : ∀ (n : Nat)  (u : S), VV Rel Ok Qw A p l e R s m args below meth c nL pc (L ) [] u (ml0 f n u) := by
  intro n
  induction n with
  | zero => intros; exact v_none
  | succ n ih => exact h _ ih
def ml1 {A0 S O : Type} (f : (A0 → S → Option O) → A0 → S → Option O) : Nat → A0 → S → Option O
  | 0, _, _ => none
  | n + 1, x0, u => f (ml1 f n) x0 u
theorem vl1 {A0 : Type} {S O : Type} {Rel : S → Heap → Prop} {Ok : O → Nat → Nat → Prop} {Qw : O → State → Prop} {A : Nat → Prop} {p : Program} {l : Launch} {e : Env} {R : Room} {s : State} {m : MethodId} {args : Array Value} {below : List Frame} {meth : Method} {c : Code} {nL pc : Nat} {f : (A0 → S → Option O) → A0 → S → Option O} {L : A0 → List (Nat × Value)} (h : ∀ k : A0 → S → Option O, (∀ (x0 : A0) (u : S), VV Rel Ok Qw A p l e R s m args below meth c nL pc (L x0) [] u (k x0 u)) → ∀ (x0 : A0) (u : S), VV Rel Ok Qw A p l e R s m args below meth c nL pc (L x0) [] u (f k x0 u)) : ∀ (n : Nat) (x0 : A0) (u : S), VV Rel Ok Qw A p l e R s m args below meth c nL pc (L x0) [] u (ml1 f n x0 u) := by
  intro n
  induction n with
  | zero => intros; exact v_none
  | succ n ih => exact h _ ih
def ml2 {A0 A1 S O : Type} (f : (A0 → A1 → S → Option O) → A0 → A1 → S → Option O) : Nat → A0 → A1 → S → Option O
  | 0, _, _, _ => none
  | n + 1, x0, x1, u => f (ml2 f n) x0 x1 u
theorem vl2 {A0 A1 : Type} {S O : Type} {Rel : S → Heap → Prop} {Ok : O → Nat → Nat → Prop} {Qw : O → State → Prop} {A : Nat → Prop} {p : Program} {l : Launch} {e : Env} {R : Room} {s : State} {m : MethodId} {args : Array Value} {below : List Frame} {meth : Method} {c : Code} {nL pc : Nat} {f : (A0 → A1 → S → Option O) → A0 → A1 → S → Option O} {L : A0 → A1 → List (Nat × Value)} (h : ∀ k : A0 → A1 → S → Option O, (∀ (x0 : A0) (x1 : A1) (u : S), VV Rel Ok Qw A p l e R s m args below meth c nL pc (L x0 x1) [] u (k x0 x1 u)) → ∀ (x0 : A0) (x1 : A1) (u : S), VV Rel Ok Qw A p l e R s m args below meth c nL pc (L x0 x1) [] u (f k x0 x1 u)) : ∀ (n : Nat) (x0 : A0) (x1 : A1) (u : S), VV Rel Ok Qw A p l e R s m args below meth c nL pc (L x0 x1) [] u (ml2 f n x0 x1 u) := by
  intro n
  induction n with
  | zero => intros; exact v_none
  | succ n ih => exact h _ ih
def ml3 {A0 A1 A2 S O : Type} (f : (A0 → A1 → A2 → S → Option O) → A0 → A1 → A2 → S → Option O) : Nat → A0 → A1 → A2 → S → Option O
  | 0, _, _, _, _ => none
  | n + 1, x0, x1, x2, u => f (ml3 f n) x0 x1 x2 u
theorem vl3 {A0 A1 A2 : Type} {S O : Type} {Rel : S → Heap → Prop} {Ok : O → Nat → Nat → Prop} {Qw : O → State → Prop} {A : Nat → Prop} {p : Program} {l : Launch} {e : Env} {R : Room} {s : State} {m : MethodId} {args : Array Value} {below : List Frame} {meth : Method} {c : Code} {nL pc : Nat} {f : (A0 → A1 → A2 → S → Option O) → A0 → A1 → A2 → S → Option O} {L : A0 → A1 → A2 → List (Nat × Value)} (h : ∀ k : A0 → A1 → A2 → S → Option O, (∀ (x0 : A0) (x1 : A1) (x2 : A2) (u : S), VV Rel Ok Qw A p l e R s m args below meth c nL pc (L x0 x1 x2) [] u (k x0 x1 x2 u)) → ∀ (x0 : A0) (x1 : A1) (x2 : A2) (u : S), VV Rel Ok Qw A p l e R s m args below meth c nL pc (L x0 x1 x2) [] u (f k x0 x1 x2 u)) : ∀ (n : Nat) (x0 : A0) (x1 : A1) (x2 : A2) (u : S), VV Rel Ok Qw A p l e R s m args below meth c nL pc (L x0 x1 x2) [] u (ml3 f n x0 x1 x2 u) := by
  intro n
  induction n with
  | zero => intros; exact v_none
  | succ n ih => exact h _ ih
def ml4 {A0 A1 A2 A3 S O : Type} (f : (A0 → A1 → A2 → A3 → S → Option O) → A0 → A1 → A2 → A3 → S → Option O) : Nat → A0 → A1 → A2 → A3 → S → Option O
  | 0, _, _, _, _, _ => none
  | n + 1, x0, x1, x2, x3, u => f (ml4 f n) x0 x1 x2 x3 u
theorem vl4 {A0 A1 A2 A3 : Type} {S O : Type} {Rel : S → Heap → Prop} {Ok : O → Nat → Nat → Prop} {Qw : O → State → Prop} {A : Nat → Prop} {p : Program} {l : Launch} {e : Env} {R : Room} {s : State} {m : MethodId} {args : Array Value} {below : List Frame} {meth : Method} {c : Code} {nL pc : Nat} {f : (A0 → A1 → A2 → A3 → S → Option O) → A0 → A1 → A2 → A3 → S → Option O} {L : A0 → A1 → A2 → A3 → List (Nat × Value)} (h : ∀ k : A0 → A1 → A2 → A3 → S → Option O, (∀ (x0 : A0) (x1 : A1) (x2 : A2) (x3 : A3) (u : S), VV Rel Ok Qw A p l e R s m args below meth c nL pc (L x0 x1 x2 x3) [] u (k x0 x1 x2 x3 u)) → ∀ (x0 : A0) (x1 : A1) (x2 : A2) (x3 : A3) (u : S), VV Rel Ok Qw A p l e R s m args below meth c nL pc (L x0 x1 x2 x3) [] u (f k x0 x1 x2 x3 u)) : ∀ (n : Nat) (x0 : A0) (x1 : A1) (x2 : A2) (x3 : A3) (u : S), VV Rel Ok Qw A p l e R s m args below meth c nL pc (L x0 x1 x2 x3) [] u (ml4 f n x0 x1 x2 x3 u) := by
  intro n
  induction n with
  | zero => intros; exact v_none
  | succ n ih => exact h _ ih
def ml5 {A0 A1 A2 A3 A4 S O : Type} (f : (A0 → A1 → A2 → A3 → A4 → S → Option O) → A0 → A1 → A2 → A3 → A4 → S → Option O) : Nat → A0 → A1 → A2 → A3 → A4 → S → Option O
  | 0, _, _, _, _, _, _ => none
  | n + 1, x0, x1, x2, x3, x4, u => f (ml5 f n) x0 x1 x2 x3 x4 u
theorem vl5 {A0 A1 A2 A3 A4 : Type} {S O : Type} {Rel : S → Heap → Prop} {Ok : O → Nat → Nat → Prop} {Qw : O → State → Prop} {A : Nat → Prop} {p : Program} {l : Launch} {e : Env} {R : Room} {s : State} {m : MethodId} {args : Array Value} {below : List Frame} {meth : Method} {c : Code} {nL pc : Nat} {f : (A0 → A1 → A2 → A3 → A4 → S → Option O) → A0 → A1 → A2 → A3 → A4 → S → Option O} {L : A0 → A1 → A2 → A3 → A4 → List (Nat × Value)} (h : ∀ k : A0 → A1 → A2 → A3 → A4 → S → Option O, (∀ (x0 : A0) (x1 : A1) (x2 : A2) (x3 : A3) (x4 : A4) (u : S), VV Rel Ok Qw A p l e R s m args below meth c nL pc (L x0 x1 x2 x3 x4) [] u (k x0 x1 x2 x3 x4 u)) → ∀ (x0 : A0) (x1 : A1) (x2 : A2) (x3 : A3) (x4 : A4) (u : S), VV Rel Ok Qw A p l e R s m args below meth c nL pc (L x0 x1 x2 x3 x4) [] u (f k x0 x1 x2 x3 x4 u)) : ∀ (n : Nat) (x0 : A0) (x1 : A1) (x2 : A2) (x3 : A3) (x4 : A4) (u : S), VV Rel Ok Qw A p l e R s m args below meth c nL pc (L x0 x1 x2 x3 x4) [] u (ml5 f n x0 x1 x2 x3 x4 u) := by
  intro n
  induction n with
  | zero => intros; exact v_none
  | succ n ih => exact h _ ih
def ml6 {A0 A1 A2 A3 A4 A5 S O : Type} (f : (A0 → A1 → A2 → A3 → A4 → A5 → S → Option O) → A0 → A1 → A2 → A3 → A4 → A5 → S → Option O) : Nat → A0 → A1 → A2 → A3 → A4 → A5 → S → Option O
  | 0, _, _, _, _, _, _, _ => none
  | n + 1, x0, x1, x2, x3, x4, x5, u => f (ml6 f n) x0 x1 x2 x3 x4 x5 u
theorem vl6 {A0 A1 A2 A3 A4 A5 : Type} {S O : Type} {Rel : S → Heap → Prop} {Ok : O → Nat → Nat → Prop} {Qw : O → State → Prop} {A : Nat → Prop} {p : Program} {l : Launch} {e : Env} {R : Room} {s : State} {m : MethodId} {args : Array Value} {below : List Frame} {meth : Method} {c : Code} {nL pc : Nat} {f : (A0 → A1 → A2 → A3 → A4 → A5 → S → Option O) → A0 → A1 → A2 → A3 → A4 → A5 → S → Option O} {L : A0 → A1 → A2 → A3 → A4 → A5 → List (Nat × Value)} (h : ∀ k : A0 → A1 → A2 → A3 → A4 → A5 → S → Option O, (∀ (x0 : A0) (x1 : A1) (x2 : A2) (x3 : A3) (x4 : A4) (x5 : A5) (u : S), VV Rel Ok Qw A p l e R s m args below meth c nL pc (L x0 x1 x2 x3 x4 x5) [] u (k x0 x1 x2 x3 x4 x5 u)) → ∀ (x0 : A0) (x1 : A1) (x2 : A2) (x3 : A3) (x4 : A4) (x5 : A5) (u : S), VV Rel Ok Qw A p l e R s m args below meth c nL pc (L x0 x1 x2 x3 x4 x5) [] u (f k x0 x1 x2 x3 x4 x5 u)) : ∀ (n : Nat) (x0 : A0) (x1 : A1) (x2 : A2) (x3 : A3) (x4 : A4) (x5 : A5) (u : S), VV Rel Ok Qw A p l e R s m args below meth c nL pc (L x0 x1 x2 x3 x4 x5) [] u (ml6 f n x0 x1 x2 x3 x4 x5 u) := by
  intro n
  induction n with
  | zero => intros; exact v_none
  | succ n ih => exact h _ ih
def ml7 {A0 A1 A2 A3 A4 A5 A6 S O : Type} (f : (A0 → A1 → A2 → A3 → A4 → A5 → A6 → S → Option O) → A0 → A1 → A2 → A3 → A4 → A5 → A6 → S → Option O) : Nat → A0 → A1 → A2 → A3 → A4 → A5 → A6 → S → Option O
  | 0, _, _, _, _, _, _, _, _ => none
  | n + 1, x0, x1, x2, x3, x4, x5, x6, u => f (ml7 f n) x0 x1 x2 x3 x4 x5 x6 u
theorem vl7 {A0 A1 A2 A3 A4 A5 A6 : Type} {S O : Type} {Rel : S → Heap → Prop} {Ok : O → Nat → Nat → Prop} {Qw : O → State → Prop} {A : Nat → Prop} {p : Program} {l : Launch} {e : Env} {R : Room} {s : State} {m : MethodId} {args : Array Value} {below : List Frame} {meth : Method} {c : Code} {nL pc : Nat} {f : (A0 → A1 → A2 → A3 → A4 → A5 → A6 → S → Option O) → A0 → A1 → A2 → A3 → A4 → A5 → A6 → S → Option O} {L : A0 → A1 → A2 → A3 → A4 → A5 → A6 → List (Nat × Value)} (h : ∀ k : A0 → A1 → A2 → A3 → A4 → A5 → A6 → S → Option O, (∀ (x0 : A0) (x1 : A1) (x2 : A2) (x3 : A3) (x4 : A4) (x5 : A5) (x6 : A6) (u : S), VV Rel Ok Qw A p l e R s m args below meth c nL pc (L x0 x1 x2 x3 x4 x5 x6) [] u (k x0 x1 x2 x3 x4 x5 x6 u)) → ∀ (x0 : A0) (x1 : A1) (x2 : A2) (x3 : A3) (x4 : A4) (x5 : A5) (x6 : A6) (u : S), VV Rel Ok Qw A p l e R s m args below meth c nL pc (L x0 x1 x2 x3 x4 x5 x6) [] u (f k x0 x1 x2 x3 x4 x5 x6 u)) : ∀ (n : Nat) (x0 : A0) (x1 : A1) (x2 : A2) (x3 : A3) (x4 : A4) (x5 : A5) (x6 : A6) (u : S), VV Rel Ok Qw A p l e R s m args below meth c nL pc (L x0 x1 x2 x3 x4 x5 x6) [] u (ml7 f n x0 x1 x2 x3 x4 x5 x6 u) := by
  intro n
  induction n with
  | zero => intros; exact v_none
  | succ n ih => exact h _ ih
def ml8 {A0 A1 A2 A3 A4 A5 A6 A7 S O : Type} (f : (A0 → A1 → A2 → A3 → A4 → A5 → A6 → A7 → S → Option O) → A0 → A1 → A2 → A3 → A4 → A5 → A6 → A7 → S → Option O) : Nat → A0 → A1 → A2 → A3 → A4 → A5 → A6 → A7 → S → Option O
  | 0, _, _, _, _, _, _, _, _, _ => none
  | n + 1, x0, x1, x2, x3, x4, x5, x6, x7, u => f (ml8 f n) x0 x1 x2 x3 x4 x5 x6 x7 u
theorem vl8 {A0 A1 A2 A3 A4 A5 A6 A7 : Type} {S O : Type} {Rel : S → Heap → Prop} {Ok : O → Nat → Nat → Prop} {Qw : O → State → Prop} {A : Nat → Prop} {p : Program} {l : Launch} {e : Env} {R : Room} {s : State} {m : MethodId} {args : Array Value} {below : List Frame} {meth : Method} {c : Code} {nL pc : Nat} {f : (A0 → A1 → A2 → A3 → A4 → A5 → A6 → A7 → S → Option O) → A0 → A1 → A2 → A3 → A4 → A5 → A6 → A7 → S → Option O} {L : A0 → A1 → A2 → A3 → A4 → A5 → A6 → A7 → List (Nat × Value)} (h : ∀ k : A0 → A1 → A2 → A3 → A4 → A5 → A6 → A7 → S → Option O, (∀ (x0 : A0) (x1 : A1) (x2 : A2) (x3 : A3) (x4 : A4) (x5 : A5) (x6 : A6) (x7 : A7) (u : S), VV Rel Ok Qw A p l e R s m args below meth c nL pc (L x0 x1 x2 x3 x4 x5 x6 x7) [] u (k x0 x1 x2 x3 x4 x5 x6 x7 u)) → ∀ (x0 : A0) (x1 : A1) (x2 : A2) (x3 : A3) (x4 : A4) (x5 : A5) (x6 : A6) (x7 : A7) (u : S), VV Rel Ok Qw A p l e R s m args below meth c nL pc (L x0 x1 x2 x3 x4 x5 x6 x7) [] u (f k x0 x1 x2 x3 x4 x5 x6 x7 u)) : ∀ (n : Nat) (x0 : A0) (x1 : A1) (x2 : A2) (x3 : A3) (x4 : A4) (x5 : A5) (x6 : A6) (x7 : A7) (u : S), VV Rel Ok Qw A p l e R s m args below meth c nL pc (L x0 x1 x2 x3 x4 x5 x6 x7) [] u (ml8 f n x0 x1 x2 x3 x4 x5 x6 x7 u) := by
  intro n
  induction n with
  | zero => intros; exact v_none
  | succ n ih => exact h _ ih
def ml9 {A0 A1 A2 A3 A4 A5 A6 A7 A8 S O : Type} (f : (A0 → A1 → A2 → A3 → A4 → A5 → A6 → A7 → A8 → S → Option O) → A0 → A1 → A2 → A3 → A4 → A5 → A6 → A7 → A8 → S → Option O) : Nat → A0 → A1 → A2 → A3 → A4 → A5 → A6 → A7 → A8 → S → Option O
  | 0, _, _, _, _, _, _, _, _, _, _ => none
  | n + 1, x0, x1, x2, x3, x4, x5, x6, x7, x8, u => f (ml9 f n) x0 x1 x2 x3 x4 x5 x6 x7 x8 u
theorem vl9 {A0 A1 A2 A3 A4 A5 A6 A7 A8 : Type} {S O : Type} {Rel : S → Heap → Prop} {Ok : O → Nat → Nat → Prop} {Qw : O → State → Prop} {A : Nat → Prop} {p : Program} {l : Launch} {e : Env} {R : Room} {s : State} {m : MethodId} {args : Array Value} {below : List Frame} {meth : Method} {c : Code} {nL pc : Nat} {f : (A0 → A1 → A2 → A3 → A4 → A5 → A6 → A7 → A8 → S → Option O) → A0 → A1 → A2 → A3 → A4 → A5 → A6 → A7 → A8 → S → Option O} {L : A0 → A1 → A2 → A3 → A4 → A5 → A6 → A7 → A8 → List (Nat × Value)} (h : ∀ k : A0 → A1 → A2 → A3 → A4 → A5 → A6 → A7 → A8 → S → Option O, (∀ (x0 : A0) (x1 : A1) (x2 : A2) (x3 : A3) (x4 : A4) (x5 : A5) (x6 : A6) (x7 : A7) (x8 : A8) (u : S), VV Rel Ok Qw A p l e R s m args below meth c nL pc (L x0 x1 x2 x3 x4 x5 x6 x7 x8) [] u (k x0 x1 x2 x3 x4 x5 x6 x7 x8 u)) → ∀ (x0 : A0) (x1 : A1) (x2 : A2) (x3 : A3) (x4 : A4) (x5 : A5) (x6 : A6) (x7 : A7) (x8 : A8) (u : S), VV Rel Ok Qw A p l e R s m args below meth c nL pc (L x0 x1 x2 x3 x4 x5 x6 x7 x8) [] u (f k x0 x1 x2 x3 x4 x5 x6 x7 x8 u)) : ∀ (n : Nat) (x0 : A0) (x1 : A1) (x2 : A2) (x3 : A3) (x4 : A4) (x5 : A5) (x6 : A6) (x7 : A7) (x8 : A8) (u : S), VV Rel Ok Qw A p l e R s m args below meth c nL pc (L x0 x1 x2 x3 x4 x5 x6 x7 x8) [] u (ml9 f n x0 x1 x2 x3 x4 x5 x6 x7 x8 u) := by
  intro n
  induction n with
  | zero => intros; exact v_none
  | succ n ih => exact h _ ih
