/-! mode H: the rows that were lacking -/
set_option maxRecDepth 100000
section VHG
variable {P O : Type} {mk : P → Option Value} {K1 K2 lv : Nat} {Qw : O → HS → State → Prop} {p : Program} {l : Launch} {e : Env} {R : Room} {s : State} {m : MethodId} {args : Array Value} {below : List Frame} {meth : Method} {c : Code} {H : Heap} {locs : List Loc} {ls : Array Slot} {cells slots : Nat} {Q : State → Prop} {nL pc index n : Nat} {L : List (Nat × Value)} {st rest : List Value} {u : HS} {M M1 M2 : Option (OH O)} {t : TT} {G : GH} {y : MethodName} {cc : ByteArray} {ret : Option FieldType}
theorem v_aload_nO (C : Cx t p s m args meth c y cc nL ret) {k : Fin 4} {i : Nat} {x : Option Nat} (j : Nat) (hi : (k : Nat) = i) (hL : L[j]? = some (i, va_rf x)) (d : decode cc pc = .ok (.aload_n k, 1)) (kk : BH t G K1 K2 Qw p l e R s m args below meth c nL (pc + 1) L (va_rf x :: st) u M) : BH t G K1 K2 Qw p l e R s m args below meth c nL pc L st u M := by
  intro w hw H locs ls cells slots ok rel hs hl
  cases x with
  | none => exact lv_aload_nN C.1 C.2.1 d hi (lv_at hl j hL) (kk w hw H locs ls cells slots ok rel hs hl)
  | some a => exact lv_aload_n C.1 C.2.1 d hi (lv_at hl j hL) (kk w hw H locs ls cells slots ok rel hs hl)
theorem v_aloadO (C : Cx t p s m args meth c y cc nL ret) {i : Nat} {x : Option Nat} (j : Nat) (hL : L[j]? = some (i, va_rf x)) (d : decode cc pc = .ok (.aload i, 2)) (kk : BH t G K1 K2 Qw p l e R s m args below meth c nL (pc + 2) L (va_rf x :: st) u M) : BH t G K1 K2 Qw p l e R s m args below meth c nL pc L st u M := by
  intro w hw H locs ls cells slots ok rel hs hl
  cases x with
  | none => exact lv_aloadN C.1 C.2.1 d (lv_at hl j hL) (kk w hw H locs ls cells slots ok rel hs hl)
  | some a => exact lv_aload C.1 C.2.1 d (lv_at hl j hL) (kk w hw H locs ls cells slots ok rel hs hl)
theorem v_astore_nO (C : Cx t p s m args meth c y cc nL ret) {k : Fin 4} {i : Nat} {x : Option Nat} (L' : List (Nat × Value)) (hi : (k : Nat) = i) (hn : i < nL) (hl2 : (i, va_rf x) :: L.filter (fun q => !(q.1 == i) && !(q.1 + 1 == i && q.2.category == 2)) = L') (d : decode cc pc = .ok (.astore_n k, 1)) (kk : BH t G K1 K2 Qw p l e R s m args below meth c nL (pc + 1) L' st u M) : BH t G K1 K2 Qw p l e R s m args below meth c nL pc L (va_rf x :: st) u M := by
  intro w hw H locs ls cells slots ok rel hs hl
  cases x with
  | none => exact lv_astore_nN C.1 C.2.1 d hi hl hn hl2 (fun ls' hl' => kk w hw H locs ls' cells slots ok rel hs hl')
  | some a => exact lv_astore_n C.1 C.2.1 d hi hl hn hl2 (fun ls' hl' => kk w hw H locs ls' cells slots ok rel hs hl')
theorem v_astoreO (C : Cx t p s m args meth c y cc nL ret) {i : Nat} {x : Option Nat} (L' : List (Nat × Value)) (hn : i < nL) (hl2 : (i, va_rf x) :: L.filter (fun q => !(q.1 == i) && !(q.1 + 1 == i && q.2.category == 2)) = L') (d : decode cc pc = .ok (.astore i, 2)) (kk : BH t G K1 K2 Qw p l e R s m args below meth c nL (pc + 2) L' st u M) : BH t G K1 K2 Qw p l e R s m args below meth c nL pc L (va_rf x :: st) u M := by
  intro w hw H locs ls cells slots ok rel hs hl
  cases x with
  | none => exact lv_astoreN C.1 C.2.1 d hl hn hl2 (fun ls' hl' => kk w hw H locs ls' cells slots ok rel hs hl')
  | some a => exact lv_astore C.1 C.2.1 d hl hn hl2 (fun ls' hl' => kk w hw H locs ls' cells slots ok rel hs hl')
theorem or_2535 {x y : Nat} {z : Nat} (h : (z == x || z == y) = true) : z = x ∨ z = y := by
  rcases (Bool.or_eq_true _ _).mp h with h | h
  · exact Or.inl (eq_of_beq h)
  · exact Or.inr (eq_of_beq h)
theorem v_qalen (C0 : CxH t G l p s m args meth c y cc nL ret) {a : Nat} (hc : (hC u a == 25 || hC u a == 35) = true) (d : decode cc pc = .ok (.arraylength, 1))
    (kk : BH t G K1 K2 Qw p l e R s m args below meth c nL (pc + 1) L (.int (Int32.ofNat (hN u a)) :: st) u M) : BH t G K1 K2 Qw p l e R s m args below meth c nL pc L (.ref a :: st) u M := by
  rcases or_2535 hc with h | h
  · exact v_halen C0 5 (by decide) h d kk
  · exact v_salen C0 (Or.inr h) d kk
theorem nb_0 {v : Int32} {n : Nat} (h : (!(decide (v < 0)) && decide (v.toNatClampNeg ≤ n)) = true) : ¬ v < 0 := by
  intro q
  rw [decide_eq_true q] at h
  cases h
theorem nb_1 {v : Int32} {n : Nat} (h : (!(decide (v < 0)) && decide (v.toNatClampNeg ≤ n)) = true) : v.toNatClampNeg ≤ n := of_decide_eq_true ((Bool.and_eq_true _ _).mp h).2
theorem isB_byte {v : Int32} (h : isB v = true) : narrow .byte (.int v) = .int v := by
  unfold isB at h
  rcases (Bool.or_eq_true _ _).mp h with h | h
  · rw [eq_of_beq h]; rfl
  · rw [eq_of_beq h]; rfl
theorem fitv_z {v : Int32} (h : isB v = true) : fitv .boolean (.int v) := by
  unfold isB at h
  rcases (Bool.or_eq_true _ _).mp h with h | h
  · rw [eq_of_beq h]; exact ⟨rfl, rfl⟩
  · rw [eq_of_beq h]; exact ⟨rfl, rfl⟩
/-- a form: 8 a chain, 9 a number, 10 a value, 11 a not -/
def isForm (tag : Nat) : Bool := decide (8 ≤ tag) && decide (tag ≤ 11)
theorem isForm_k {z : Nat} (h : isForm z = true) : z = 8 ∨ z = 9 ∨ z = 10 ∨ z = 11 := by
  have h1 := of_decide_eq_true ((Bool.and_eq_true _ _).mp h).1
  have h2 := of_decide_eq_true ((Bool.and_eq_true _ _).mp h).2
  omega
theorem v_hcastF (C0 : CxH t G l p s m args meth c y cc nL ret) {a index : Nat} (hc : isForm (hC u a) = true) (q1 : Cond.classLink y.cls index "WhiteBoard$Form" ∈ lw_all) (d : decode cc pc = .ok (.checkcast index, 3))
    (kk : BH t G K1 K2 Qw p l e R s m args below meth c nL (pc + 3) L (.ref a :: st) u M) : BH t G K1 K2 Qw p l e R s m args below meth c nL pc L (.ref a :: st) u M := by
  rcases isForm_k hc with h | h | h | h
  · exact v_hcastY C0 7 h (by decide) rfl q1 q544 d kk
  · exact v_hcastY C0 8 h (by decide) rfl q1 q563 d kk
  · exact v_hcastY C0 9 h (by decide) rfl q1 q569 d kk
  · exact v_hcastY C0 10 h (by decide) rfl q1 q555 d kk
theorem v_hcastQ (C0 : CxH t G l p s m args meth c y cc nL ret) {a index : Nat} (hc : hC u a = 25) (q1 : Cond.classLink y.cls index "[Ljava/lang/Object;" ∈ lw_all) (d : decode cc pc = .ok (.checkcast index, 3))
    (kk : BH t G K1 K2 Qw p l e R s m args below meth c nL (pc + 3) L (.ref a :: st) u M) : BH t G K1 K2 Qw p l e R s m args below meth c nL pc L (.ref a :: st) u M := by
  intro w hw H locs ls cells slots ok rel hS hl
  exact va_castE C0.1.1 C0.1.2.1 C0.1.2.2.2.1 (C0.1.2.2.2.2.1 _ q1) (recQ C0 (Or.inl hc) H locs rel hS) d (kk w hw H locs ls cells slots ok rel hS hl)
theorem v_hinstB (C0 : CxH t G l p s m args meth c y cc nL ret) {a index : Nat} (hc : hC u a = 31) (q1 : Cond.classLink y.cls index "java/lang/Integer" ∈ lw_all) (d : decode cc pc = .ok (.instanceof index, 3))
    (kk : BH t G K1 K2 Qw p l e R s m args below meth c nL (pc + 3) L (.int 1 :: st) u M) : BH t G K1 K2 Qw p l e R s m args below meth c nL pc L (.ref a :: st) u M := by
  intro w hw H locs ls cells slots ok rel hS hl
  exact va_instE C0.1.1 C0.1.2.1 C0.1.2.2.2.1 (C0.1.2.2.2.2.1 _ q1) (recB C0 hc H locs rel hS) d (kk w hw H locs ls cells slots ok rel hS hl)
/-- getClass() of a list, through Collection -/
theorem sel_gcI {C : String} {xi z : MethodName} {A : Array Value} (hn : z.cls ≠ "java/lang/invoke/MethodHandle" ∧ z.cls ≠ "java/lang/invoke/VarHandle") (h1 : (Cond.selects C z z).before A s = true) (h2 : (Cond.interfaceMethod xi.cls z.cls xi.name xi.desc).before A s = true) (e1 : z.name = xi.name) (e2 : z.desc = xi.desc) : (Cond.selects C xi z).before A s = true := by
  obtain ⟨c2, r2, m2, q1, q2, q3, q4, -⟩ := Cond.selects_spec h1
  obtain ⟨cL, kL, r1, hcL, hkL, hiL, hfoundL, hn1⟩ := Cond.interfaceMethod_spec h2
  have ez : (⟨z.cls, xi.name, xi.desc⟩ : MethodName) = z := by rw [← e1, ← e2]
  rw [ez] at hn1
  have hf := State.methodFound?_of_named q3 hn
  have er : s.methodFound? xi.cls xi.name xi.desc = s.methodFound? z.cls z.name z.desc := by
    rw [hfoundL, hf]
    exact (hn1.symm.trans q3)
  unfold Cond.before Cond.holds at h1 ⊢
  simp only [Cond.value] at h1 ⊢
  rw [er]
  exact h1
theorem v_getCI (C0 : CxH t G l p s m args meth c y cc nL ret) {a mi count : Nat} (q1 : Cond.methodLink y.cls index ⟨"java/util/Collection", "getClass", "()Ljava/lang/Class;"⟩ ∈ lw_all) (hM : va_Mi "java/util/ArrayList" mi s) (hc : hC u a = 12) (hlv : 1 ≤ lv) (hsm : (st.map fun v => v.category).sum ≤ 8) (d : decode cc pc = .ok (.invokeinterface index count, 5))
    (kk : BH t G K1 K2 Qw p l e (rmH lv K1 K2) s m args below meth c nL (pc + 5) L (.ref mi :: st) u M) : BH t G K1 K2 Qw p l e (rmH lv K1 K2) s m args below meth c nL pc L (.ref a :: st) u M := by
  intro w hw H locs ls cells slots ok rel hS hl
  obtain ⟨hg1, hg2, hg3, -⟩ := C0.1.2.2.2.2.2.2.2.2.2.2.2.2.2
  have hsel := sel_gcI (s := s) (A := args) (xi := ⟨"java/util/Collection", "getClass", "()Ljava/lang/Class;"⟩) (by decide) (C0.1.2.2.2.2.1 _ q435) (va_any rfl hg1) rfl rfl
  obtain ⟨c0, k0, h1, h2, h3⟩ := hM
  obtain ⟨cell, g1, g2, g3⟩ := recO C0 (ci := 11) hc (by decide) rfl H locs rel hS
  cases h1.symm.trans g3
  intro T hT X
  have hFw := C0.1.2.2.2.2.2.2.2.2.2.2.1 _ (List.mem_of_getElem? (i := 5) rfl)
  obtain ⟨vm', X', st'⟩ := X.getClassOfI C0.1.1 C0.1.2.2.2.1 (C0.1.2.2.2.2.1 _ q1) (va_Nw.use rfl (C0.1.2.2.2.2.2.2.2.2.2.1 _ q739 rfl)) (va_any rfl hg1) hsel (C0.1.2.2.2.2.1 _ q419) (va_any rfl hg2) (va_any rfl hg3) (va_any rfl hFw.2.2.2.2) (C0.1.2.2.2.2.1 _ q437) (by decide) (by decide) rfl rfl h1 h2 ⟨cell, by rw [hT]; exact g1, rfl, g2⟩ h3 (g := F0 m pc ls (.ref a :: st)) rfl (by rw [C0.1.2.2.1]; exact hl.1) rfl (by rw [C0.1.2.1]; exact d) hlv (by show 2 * 0 + _ + _ ≤ 100 * lv; have hw : nativeFrameWords "java/lang/Object" "getClass" 1 = 3 := (by decide); omega)
  obtain ⟨t1, a1, b1⟩ := kk w hw H locs ls cells slots ok rel hS hl (T.setVm vm') hT X'
  exact ⟨t1, st' t1 a1, b1⟩
/-- a private member of what a builder extends -/
theorem sel_priv {C : String} {y z : MethodName} {A : Array Value} (h1 : (Cond.selects C z z).before A s = true) (hzy : z.cls = y.cls) (hi : (Cond.instanceMethod y).before A s = true) (hp : (Cond.privateMethod y).before A s = true) (hn : y.cls ≠ "java/lang/invoke/MethodHandle" ∧ y.cls ≠ "java/lang/invoke/VarHandle" := by decide) : (Cond.selects C y y).before A s = true := by
  obtain ⟨c2, r2, m2, q1, q2, q3, q4, kP, hkP, hkPi⟩ := Cond.selects_spec h1
  obtain ⟨mk, methM, hnamed, hmethM, -, -⟩ := Cond.instanceMethod_spec hi
  have ec : mk.cls = m2.cls := by
    have a1 := findClass_of_methodNamed hnamed
    have a2 := findClass_of_methodNamed q3
    rw [hzy] at a2
    exact Option.some.inj (a1.symm.trans a2)
  have hsel : selectMethod {} s.vm c2 mk = .method mk := selectMethod_private hmethM (Cond.privateMethod_at hp mk methM hnamed hmethM)
  have hf := State.methodFound?_of_named hnamed hn
  rw [← ec] at hkP
  simp [Cond.before, Cond.holds, Cond.value, q1, hf, hnamed, hsel, hkP, hkPi]
theorem cwUP {own C owner : String} {index maxL mc ms : Nat} {x y : MethodName} {bytes : ByteArray} {ret : Option FieldType} {R rm : Room} (n : Nat) (ht : ∀ w ∈ lw_all, w.before args s = true) (h1 : Cond.methodLink own index x ∈ lw_all) (h2 : Cond.sameMethod x.cls owner x.name x.desc ∈ lw_all) (h3 : (Cond.selects C x y).before args s = true) (h4 : Cond.instanceMethod y ∈ lw_all) (h5 : Cond.initialized y.cls ∈ lw_all) (h6 : Cond.code y bytes maxL ret ∈ lw_all) (hrc : rm.cells = mc) (hrs : rm.slots = ms)
    (hyx : y = ⟨owner, x.name, x.desc⟩) (_ : owner = owner) (hd : owner ≠ "java/lang/invoke/MethodHandle" ∧ owner ≠ "java/lang/invoke/VarHandle" ∧ (parseMethodDescriptor x.desc).map (fun d => d.parameters.length) = some n) (hR : rm.frames + 1 ≤ R.frames ∧ 8 + (maxL + 11) + rm.locals ≤ R.locals) : va_CU R s args own C owner index x y bytes maxL ret (ws_ y bytes maxL ret) rm mc ms n := by
  refine ⟨⟨hrc, hrs, hR.1, hR.2, pay_in ht (lw_meth h6), List.mem_cons_self⟩, ht _ h6, ht _ h5, ⟨hd.1, hd.2.1⟩, fun sig h => ?_, ht _ h1, ht _ h2, by rw [← hyx]; exact va_Decl.of (ht _ h4) (ht _ h6), h3, ht _ h4⟩
  have h2 := hd.2.2
  rw [h] at h2
  exact (Option.some.inj h2).symm
theorem lw_U {own C owner : String} {idx : Nat} {x y : MethodName} {b : ByteArray} {L : Nat} {r : Option FieldType} (h1 : Cond.methodLink own idx x ∈ lw_all) (h2 : Cond.sameMethod x.cls owner x.name x.desc ∈ lw_all) (h3 : Cond.selects C x y ∈ lw_all) (h4 : Cond.instanceMethod y ∈ lw_all) (h5 : Cond.initialized y.cls ∈ lw_all) (h6 : Cond.code y b L r ∈ lw_all) : GoodIn lw_all (va_wsU own idx C owner x y (ws_ y b L r)) := by
  refine lw_app ?_ (lw_meth h6)
  intro w hw
  simp only [List.mem_cons, List.not_mem_nil, or_false] at hw
  rcases hw with e | e | e | e | e <;> rw [e] <;> assumption
theorem lw_SU {own : String} {idx : Nat} {y : MethodName} {b : ByteArray} {L : Nat} {r : Option FieldType} (h1 : Cond.methodLink own idx y ∈ lw_all) (h2 : Cond.sameMethod y.cls y.cls y.name y.desc ∈ lw_all) (h3 : Cond.superclass own y.cls ∈ lw_all) (h4 : Cond.instanceMethod y ∈ lw_all) (h5 : Cond.initialized y.cls ∈ lw_all) (h6 : Cond.code y b L r ∈ lw_all) : GoodIn lw_all (va_wsSU own idx y (ws_ y b L r)) := by
  refine lw_app ?_ (lw_meth h6)
  intro w hw
  simp only [List.mem_cons, List.not_mem_nil, or_false] at hw
  rcases hw with e | e | e | e | e <;> rw [e] <;> assumption
theorem lw_F {own C : String} {idx : Nat} {x y : MethodName} {b : ByteArray} {L : Nat} {r : Option FieldType} (h1 : Cond.methodLink own idx x ∈ lw_all) (h3 : Cond.selects C x y ∈ lw_all) (h4 : Cond.instanceMethod y ∈ lw_all) (h5 : Cond.initialized y.cls ∈ lw_all) (h6 : Cond.code y b L r ∈ lw_all) : GoodIn lw_all (va_wsF own idx C x y (ws_ y b L r)) := by
  refine lw_app ?_ (lw_meth h6)
  intro w hw
  simp only [List.mem_cons, List.not_mem_nil, or_false] at hw
  rcases hw with e | e | e | e <;> rw [e] <;> assumption
/-- a field is put by a word of nestmates -/
theorem w_putON (C0 : Cx t p s m args meth c y cc nL ret) {a ci N index : Nat} {C ref host : String} {T : u_T} {V : Nat → Value} {ty : FieldType} {v : Value} (hin : ∀ w ∈ u_ws C T N, w ∈ lw_all) (ty0 : Nat → FieldType) (hty : ∀ k, k < N → parseFieldDescriptor (T k).2.2.1 = some (ty0 k)) (hnm : ∀ a, a < N → ∀ b, b < N → a ≠ b → (T a).2.1 ≠ (T b).2.1) (hc : vwCl[ci]? = some (C, T, N)) (h : t_OB a (t.1 ci) N (t.2.1 ci) H V) (k : Nat) (hk : k < N) (hlink : Cond.fieldLinkNest y.cls index ref (T k).2.1 (T k).2.2.1 host ∈ lw_tbl)
    (hsame : ∀ x, s.fieldFound? (T k).1 (T k).2.1 (T k).2.2.1 = some x → s.fieldFound? ref (T k).2.1 (T k).2.2.1 = some x) (hfin : (T k).2.2.2 = false) (hd : parseFieldDescriptor (T k).2.2.1 = some ty) (hn : narrow ty v = v) (hfit : fits ty v = true) (hdg : decode cc pc = .ok (.putfield index, 3))
    (kk : ∀ (H1 : Heap) (j : Nat), t_OB a (t.1 ci) N (t.2.1 ci) H1 (updV V k v) → H1.size = H.size → (∀ q, q ≠ a → H1[q]? = H[q]?) → W p l e R s m args below meth c H1 (locs ++ [⟨a, j⟩]) cells slots Q (F0 m (pc + 3) ls rest)) : W p l e R s m args below meth c H locs cells slots Q (F0 m pc ls (v :: .ref a :: rest)) := by
  have hK := C0.2.2.2.2.2.2.2.2.1
  have hts := C0.2.2.2.2.1
  have hown := C0.2.2.2.1
  have hap := va_apart (own := y.cls) hts hin ty0 hty hnm hK hc
  obtain ⟨cell, q1, q2, q3, q4⟩ := h
  obtain ⟨hS, hfc, kC, hkC, hkind⟩ := hK.1 ci _ hc
  obtain ⟨cf, kf, fi, f, hi, hsl⟩ := hS k hk
  have hlay := hts _ (hin _ (u_in_lay hk))
  unfold u_lay at hlay
  rw [if_neg (by rw [hfin]; decide)] at hlay
  have hst := (u_facts hfc hkC (u_lays hts hin hk) hi).1
  have h6 := u_store hfc hkC hkind hlay hi hd hn hfit
  refine va_WputK C0.1 C0.2.1 (f := f) hown (va_Nw.use rfl (C0.2.2.2.2.2.2.2.2.2.1 _ hlink rfl)) (hsame _ hi) hst (by rw [q2]; exact h6) q1 q3 (by rw [hsl]; exact k2_hasslot (q4 k hk)) rfl rfl hdg fun H' e1 e2 e3 => ?_
  rw [hsl] at e1 ⊢
  exact kk H' _ ⟨_, e1, q2, q3, t_set q4 hap hk v⟩ e2 e3
theorem v_hputIN (C0 : CxH t G l p s m args meth c y cc nL ret) {a index : Nat} {C : String} {T : u_T} {v : Int32} {k1 : HS → Option (OH O)} (ci : Nat) (k : Nat) (hc : hC u a = ci + 1) (h16 : ci < 16) (hcl : vwCl[ci]? = some (C, T, cN ci)) (hin : ∀ w ∈ u_ws C T (cN ci), w ∈ lw_all) (ty0 : Nat → FieldType) (hty : ∀ k, k < cN ci → parseFieldDescriptor (T k).2.2.1 = some (ty0 k)) (hnm : ∀ a, a < cN ci → ∀ b, b < cN ci → a ≠ b → (T a).2.1 ≠ (T b).2.1) (hk : k < cN ci) (hf : fK ci k = 0 ∨ fK ci k = 2 ∨ fK ci k = 4) {ref host : String}
    (hlink : Cond.fieldLinkNest y.cls index ref (T k).2.1 (T k).2.2.1 host ∈ lw_tbl) (hs : ∀ x, s.fieldFound? (T k).1 (T k).2.1 (T k).2.2.1 = some x → s.fieldFound? ref (T k).2.1 (T k).2.2.1 = some x) (hfin : (T k).2.2.2 = false ∨ ((T k).2.2.2 = true ∧ y.name = "<init>" ∧ (T k).1 = y.cls)) (hf2 : (T k).2.2.2 = false) (hfit : fitv (ty0 k) (.int v)) (d : decode cc pc = .ok (.putfield index, 3))
    (kk : ∀ u1, BH t G K1 K2 Qw p l e R s m args below meth c nL (pc + 3) L st u1 (k1 u1)) : BH t G K1 K2 Qw p l e R s m args below meth c nL pc L (.int v :: .ref a :: st) u (mlet (uI u a k v) k1) := by
  intro w hw H locs ls cells slots ok rel hS hl
  refine w_putON C0.1 hin ty0 hty hnm hcl (relC_ob rel hc h16) k hk hlink hs hf2 (hty k hk) hfit.1 hfit.2 d (fun H1 j h1 z oq => ?_)
  exact kk (uI u a k v) w hw H1 _ ls cells slots ok (relI rel hc h16 hf h1 z oq) (hS.put z oq (relW rel hc h16)) hl
theorem v_hputRN (C0 : CxH t G l p s m args meth c y cc nL ret) {a index : Nat} {C : String} {T : u_T} (o : Option Nat) {k1 : HS → Option (OH O)} (ci : Nat) (k : Nat) (hc : hC u a = ci + 1) (h16 : ci < 16) (hcl : vwCl[ci]? = some (C, T, cN ci)) (hin : ∀ w ∈ u_ws C T (cN ci), w ∈ lw_all) (ty0 : Nat → FieldType) (hty : ∀ k, k < cN ci → parseFieldDescriptor (T k).2.2.1 = some (ty0 k)) (hnm : ∀ a, a < cN ci → ∀ b, b < cN ci → a ≠ b → (T a).2.1 ≠ (T b).2.1) (hk : k < cN ci) (hf : fK ci k = 1) {ref host : String}
    (hlink : Cond.fieldLinkNest y.cls index ref (T k).2.1 (T k).2.2.1 host ∈ lw_tbl) (hs : ∀ x, s.fieldFound? (T k).1 (T k).2.1 (T k).2.2.1 = some x → s.fieldFound? ref (T k).2.1 (T k).2.2.1 = some x) (hfin : (T k).2.2.2 = false ∨ ((T k).2.2.2 = true ∧ y.name = "<init>" ∧ (T k).1 = y.cls)) (hf2 : (T k).2.2.2 = false) (hr : (ty0 k).isReference = true) {v : Value} (hv : v = va_rf o) (d : decode cc pc = .ok (.putfield index, 3))
    (kk : ∀ u1, BH t G K1 K2 Qw p l e R s m args below meth c nL (pc + 3) L st u1 (k1 u1)) : BH t G K1 K2 Qw p l e R s m args below meth c nL pc L (v :: .ref a :: st) u (mlet (uR u a k o) k1) := by
  intro w hw H locs ls cells slots ok rel hS hl
  subst hv
  have hfit := fitv_ref o hr
  refine w_putON C0.1 hin ty0 hty hnm hcl (relC_ob rel hc h16) k hk hlink hs hf2 (hty k hk) hfit.1 hfit.2 d (fun H1 j h1 z oq => ?_)
  exact kk (uR u a k o) w hw H1 _ ls cells slots ok (relR rel hc h16 hf h1 z oq) (hS.put z oq (relW rel hc h16)) hl
end VHG
theorem df_X1 : ∀ j, j < cN 0 → defaultValue (tyX1 j) = if fK 0 j = 1 then .null else if fK 0 j = 3 then .long 0 else .int 0 := by decide +kernel
theorem df_X2 : ∀ j, j < cN 1 → defaultValue (tyX2 j) = if fK 1 j = 1 then .null else if fK 1 j = 3 then .long 0 else .int 0 := by decide +kernel
theorem df_X3 : ∀ j, j < cN 2 → defaultValue (tyX3 j) = if fK 2 j = 1 then .null else if fK 2 j = 3 then .long 0 else .int 0 := by decide +kernel
theorem df_X4 : ∀ j, j < cN 3 → defaultValue (tyX4 j) = if fK 3 j = 1 then .null else if fK 3 j = 3 then .long 0 else .int 0 := by decide +kernel
theorem df_X5 : ∀ j, j < cN 4 → defaultValue (tyX5 j) = if fK 4 j = 1 then .null else if fK 4 j = 3 then .long 0 else .int 0 := by decide +kernel
theorem df_X6 : ∀ j, j < cN 5 → defaultValue (tyX6 j) = if fK 5 j = 1 then .null else if fK 5 j = 3 then .long 0 else .int 0 := by decide +kernel
theorem df_X7 : ∀ j, j < cN 6 → defaultValue (tyX7 j) = if fK 6 j = 1 then .null else if fK 6 j = 3 then .long 0 else .int 0 := by decide +kernel
theorem df_X8 : ∀ j, j < cN 7 → defaultValue (tyX8 j) = if fK 7 j = 1 then .null else if fK 7 j = 3 then .long 0 else .int 0 := by decide +kernel
theorem df_X9 : ∀ j, j < cN 8 → defaultValue (tyX9 j) = if fK 8 j = 1 then .null else if fK 8 j = 3 then .long 0 else .int 0 := by decide +kernel
theorem df_X10 : ∀ j, j < cN 9 → defaultValue (tyX10 j) = if fK 9 j = 1 then .null else if fK 9 j = 3 then .long 0 else .int 0 := by decide +kernel
theorem df_X11 : ∀ j, j < cN 10 → defaultValue (tyX11 j) = if fK 10 j = 1 then .null else if fK 10 j = 3 then .long 0 else .int 0 := by decide +kernel
theorem df_J2 : ∀ j, j < cN 11 → defaultValue (tyJ2 j) = if fK 11 j = 1 then .null else if fK 11 j = 3 then .long 0 else .int 0 := by decide +kernel
theorem df_J19 : ∀ j, j < cN 12 → defaultValue (tyJ19 j) = if fK 12 j = 1 then .null else if fK 12 j = 3 then .long 0 else .int 0 := by decide +kernel
