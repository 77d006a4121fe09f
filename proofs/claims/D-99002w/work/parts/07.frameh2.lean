/-! mode H: what the tables and the start give all through; contracts; rows -/
def KW (t : TT) (G : GH) (U : State) (H : Heap) : Prop :=
  KK t U ∧ vk_S 18 sLen sByt (fun i => G.2.1 (10 + i)) (fun i => G.2.1 (30 + i)) G.1 U H ∧
  (∀ i, i < 18 → vk_R "WhiteBoard$Reader" (sPool.getD i (0, "")).1 (sPool.getD i (0, "")).2 (G.2.1 (10 + i)) U) ∧
  vb_C (fun k => G.2.1 (100 + k)) G.1 U H ∧
  va_Z "java/lang/Integer$IntegerCache" "high" "I" (.int 127) G.1 U H ∧
  va_Z "java/lang/Integer$IntegerCache" "cache" "[Ljava/lang/Integer;" (.ref (G.2.1 2)) G.1 U H ∧
  va_T (.object "java/lang/Integer") (G.2.1 2) 256 (fun k => .ref (G.2.1 (100 + k))) G.1 U H ∧
  va_Z "java/lang/String" "COMPACT_STRINGS" "Z" (.int 1) G.1 U H ∧
  va_Z "java/util/ArrayList" "DEFAULTCAPACITY_EMPTY_ELEMENTDATA" "[Ljava/lang/Object;" (.ref (G.2.1 0)) G.1 U H ∧
  va_Z "java/util/ArrayList" "EMPTY_ELEMENTDATA" "[Ljava/lang/Object;" (.ref (G.2.1 1)) G.1 U H ∧
  va_T (.object "java/lang/Object") (G.2.1 0) 0 (fun _ => .null) G.1 U H ∧
  va_T (.object "java/lang/Object") (G.2.1 1) 0 (fun _ => .null) G.1 U H ∧
  va_O "[Ljava/lang/Object;" (G.2.1 0) G.1 U H ∧ va_O "[Ljava/lang/Object;" (G.2.1 1) G.1 U H ∧
  va_Z Bundle.tN "UNASSIGNED_STACK" Bundle.steD (va_rf (G.2.2 0)) G.1 U H ∧
  va_Z Bundle.tN "SUPPRESSED_SENTINEL" Bundle.listD (va_rf (G.2.2 1)) G.1 U H ∧
  va_Z "jdk/internal/util/Preconditions" "SIOOBE_FORMATTER" "Ljava/util/function/BiFunction;" (va_rf (G.2.2 2)) G.1 U H ∧
  vx_Zq Bundle.tN "UNASSIGNED_STACK" Bundle.steD G.1 U H ∧ vx_Zq Bundle.tN "SUPPRESSED_SENTINEL" Bundle.listD G.1 U H ∧
  va_Mi "[Ljava/lang/Object;" (G.2.1 5) U ∧ va_Mi "java/util/ArrayList" (G.2.1 6) U ∧ G.2.1 5 ≠ G.2.1 6 ∧ G.2.1 0 ≠ G.2.1 1
theorem KW.warm {t : TT} {G : GH} {s U : State} {H : Heap} (hW : s.WarmedH U.vm) (k : KW t G s H) : KW t G U H := by
  obtain ⟨k1, k2, k3, k4, k5, k6, k7, k8, k9, k10, k11, k12, a1, a2, k13, k14, k15, k16, k17, k18, k19, k20, k21⟩ := k
  have hv := hW.alike
  exact ⟨k1.warm hW, k2.moved hv, fun i hi => (k3 i hi).warm hW, k4.moved hv, k5.moved hv, k6.moved hv, k7.moved hv, k8.moved hv, k9.moved hv, k10.moved hv, k11.moved hv, k12.moved hv, a1.moved hv, a2.moved hv, k13.moved hv, k14.moved hv, k15.moved hv, k16.moved hv, k17.moved hv, k18.moved hv, k19.moved hv, k20, k21⟩
theorem KW.same {t : TT} {G : GH} {u U : State} {H : Heap} (h : u.vm = U.vm) (k : KW t G u H) : KW t G U H := by
  obtain ⟨k1, k2, k3, k4, k5, k6, k7, k8, k9, k10, k11, k12, a1, a2, k13, k14, k15, k16, k17, k18, k19, k20, k21⟩ := k
  have hv : u.vm.Alike U.vm := by rw [h]; exact Vm.Alike.refl _
  exact ⟨k1.same h, k2.moved hv, fun i hi => vk_R.same h.symm (k3 i hi), k4.moved hv, k5.moved hv, k6.moved hv, k7.moved hv, k8.moved hv, k9.moved hv, k10.moved hv, k11.moved hv, k12.moved hv, a1.moved hv, a2.moved hv, k13.moved hv, k14.moved hv, k15.moved hv, k16.moved hv, k17.moved hv, k18.moved hv, k19.moved hv, k20, k21⟩
theorem KW.kept {t : TT} {G : GH} {U : State} {H H1 : Heap} (k : KW t G U H) (hq : ∀ a : Nat, a < H.size → ¬ G.1 a → H1[a]? = H[a]?) : KW t G U H1 := by
  obtain ⟨k1, k2, k3, k4, k5, k6, k7, k8, k9, k10, k11, k12, a1, a2, k13, k14, k15, k16, k17, k18, k19, k20, k21⟩ := k
  exact ⟨k1, k2.kept hq, k3, k4.kept hq, k5.kept hq, k6.kept hq, k7.kept hq, k8.kept hq, k9.kept hq, k10.kept hq, k11.kept hq, k12.kept hq, a1.kept hq, a2.kept hq, k13.kept hq, k14.kept hq, k15.kept hq, k16.kept hq, k17.kept hq, k18, k19, k20, k21⟩
theorem KW.zU {t : TT} {G : GH} {U : State} {H : Heap} (k : KW t G U H) : vx_Zq Bundle.tN "UNASSIGNED_STACK" Bundle.steD G.1 U H := by
  obtain ⟨k1, k2, k3, k4, k5, k6, k7, k8, k9, k10, k11, k12, a1, a2, k13, k14, k15, k16, k17, k18, k19, k20, k21⟩ := k
  exact k16
theorem KW.zN {t : TT} {G : GH} {U : State} {H : Heap} (k : KW t G U H) : vx_Zq Bundle.tN "SUPPRESSED_SENTINEL" Bundle.listD G.1 U H := by
  obtain ⟨k1, k2, k3, k4, k5, k6, k7, k8, k9, k10, k11, k12, a1, a2, k13, k14, k15, k16, k17, k18, k19, k20, k21⟩ := k
  exact k17
theorem KW.e0 {t : TT} {G : GH} {U : State} {H : Heap} (k : KW t G U H) : va_T (.object "java/lang/Object") (G.2.1 0) 0 (fun _ => .null) G.1 U H := by
  obtain ⟨k1, k2, k3, k4, k5, k6, k7, k8, k9, k10, k11, k12, a1, a2, k13, k14, k15, k16, k17, k18, k19, k20, k21⟩ := k
  exact k11
theorem KW.e1 {t : TT} {G : GH} {U : State} {H : Heap} (k : KW t G U H) : va_T (.object "java/lang/Object") (G.2.1 1) 0 (fun _ => .null) G.1 U H := by
  obtain ⟨k1, k2, k3, k4, k5, k6, k7, k8, k9, k10, k11, k12, a1, a2, k13, k14, k15, k16, k17, k18, k19, k20, k21⟩ := k
  exact k12
theorem KW.o0 {t : TT} {G : GH} {U : State} {H : Heap} (k : KW t G U H) : va_O "[Ljava/lang/Object;" (G.2.1 0) G.1 U H := by
  obtain ⟨k1, k2, k3, k4, k5, k6, k7, k8, k9, k10, k11, k12, a1, a2, k13, k14, k15, k16, k17, k18, k19, k20, k21⟩ := k
  exact a1
theorem KW.o1 {t : TT} {G : GH} {U : State} {H : Heap} (k : KW t G U H) : va_O "[Ljava/lang/Object;" (G.2.1 1) G.1 U H := by
  obtain ⟨k1, k2, k3, k4, k5, k6, k7, k8, k9, k10, k11, k12, a1, a2, k13, k14, k15, k16, k17, k18, k19, k20, k21⟩ := k
  exact a2
theorem KW.cT {t : TT} {G : GH} {U : State} {H : Heap} (k : KW t G U H) : va_T (.object "java/lang/Integer") (G.2.1 2) 256 (fun k => .ref (G.2.1 (100 + k))) G.1 U H := by
  obtain ⟨k1, k2, k3, k4, k5, k6, k7, k8, k9, k10, k11, k12, a1, a2, k13, k14, k15, k16, k17, k18, k19, k20, k21⟩ := k
  exact k7
theorem KW.high {t : TT} {G : GH} {U : State} {H : Heap} (k : KW t G U H) : va_Z "java/lang/Integer$IntegerCache" "high" "I" (.int 127) G.1 U H := by
  obtain ⟨k1, k2, k3, k4, k5, k6, k7, k8, k9, k10, k11, k12, a1, a2, k13, k14, k15, k16, k17, k18, k19, k20, k21⟩ := k
  exact k5
theorem KW.cache {t : TT} {G : GH} {U : State} {H : Heap} (k : KW t G U H) : va_Z "java/lang/Integer$IntegerCache" "cache" "[Ljava/lang/Integer;" (.ref (G.2.1 2)) G.1 U H := by
  obtain ⟨k1, k2, k3, k4, k5, k6, k7, k8, k9, k10, k11, k12, a1, a2, k13, k14, k15, k16, k17, k18, k19, k20, k21⟩ := k
  exact k6
theorem KW.comp {t : TT} {G : GH} {U : State} {H : Heap} (k : KW t G U H) : va_Z "java/lang/String" "COMPACT_STRINGS" "Z" (.int 1) G.1 U H := by
  obtain ⟨k1, k2, k3, k4, k5, k6, k7, k8, k9, k10, k11, k12, a1, a2, k13, k14, k15, k16, k17, k18, k19, k20, k21⟩ := k
  exact k8
theorem KW.dflt {t : TT} {G : GH} {U : State} {H : Heap} (k : KW t G U H) : va_Z "java/util/ArrayList" "DEFAULTCAPACITY_EMPTY_ELEMENTDATA" "[Ljava/lang/Object;" (.ref (G.2.1 0)) G.1 U H := by
  obtain ⟨k1, k2, k3, k4, k5, k6, k7, k8, k9, k10, k11, k12, a1, a2, k13, k14, k15, k16, k17, k18, k19, k20, k21⟩ := k
  exact k9
theorem KW.emp {t : TT} {G : GH} {U : State} {H : Heap} (k : KW t G U H) : va_Z "java/util/ArrayList" "EMPTY_ELEMENTDATA" "[Ljava/lang/Object;" (.ref (G.2.1 1)) G.1 U H := by
  obtain ⟨k1, k2, k3, k4, k5, k6, k7, k8, k9, k10, k11, k12, a1, a2, k13, k14, k15, k16, k17, k18, k19, k20, k21⟩ := k
  exact k10
theorem KW.una {t : TT} {G : GH} {U : State} {H : Heap} (k : KW t G U H) : va_Z Bundle.tN "UNASSIGNED_STACK" Bundle.steD (va_rf (G.2.2 0)) G.1 U H := by
  obtain ⟨k1, k2, k3, k4, k5, k6, k7, k8, k9, k10, k11, k12, a1, a2, k13, k14, k15, k16, k17, k18, k19, k20, k21⟩ := k
  exact k13
theorem KW.sup {t : TT} {G : GH} {U : State} {H : Heap} (k : KW t G U H) : va_Z Bundle.tN "SUPPRESSED_SENTINEL" Bundle.listD (va_rf (G.2.2 1)) G.1 U H := by
  obtain ⟨k1, k2, k3, k4, k5, k6, k7, k8, k9, k10, k11, k12, a1, a2, k13, k14, k15, k16, k17, k18, k19, k20, k21⟩ := k
  exact k14
theorem KW.fmt {t : TT} {G : GH} {U : State} {H : Heap} (k : KW t G U H) : va_Z "jdk/internal/util/Preconditions" "SIOOBE_FORMATTER" "Ljava/util/function/BiFunction;" (va_rf (G.2.2 2)) G.1 U H := by
  obtain ⟨k1, k2, k3, k4, k5, k6, k7, k8, k9, k10, k11, k12, a1, a2, k13, k14, k15, k16, k17, k18, k19, k20, k21⟩ := k
  exact k15
theorem KW.mO {t : TT} {G : GH} {U : State} {H : Heap} (k : KW t G U H) : va_Mi "[Ljava/lang/Object;" (G.2.1 5) U := by
  obtain ⟨k1, k2, k3, k4, k5, k6, k7, k8, k9, k10, k11, k12, a1, a2, k13, k14, k15, k16, k17, k18, k19, k20, k21⟩ := k
  exact k18
theorem KW.mL {t : TT} {G : GH} {U : State} {H : Heap} (k : KW t G U H) : va_Mi "java/util/ArrayList" (G.2.1 6) U := by
  obtain ⟨k1, k2, k3, k4, k5, k6, k7, k8, k9, k10, k11, k12, a1, a2, k13, k14, k15, k16, k17, k18, k19, k20, k21⟩ := k
  exact k19
/-- a method's walk in mode H -/
def CxH (t : TT) (G : GH) (l : Launch) (p : Program) (s : State) (m : MethodId) (args : Array Value) (meth : Method) (c : Code) (y : MethodName) (cc : ByteArray) (nL : Nat) (ret : Option FieldType) : Prop :=
  Cx t p s m args meth c y cc nL ret ∧ KW t G s s.heap ∧ l.stackTraces = false
abbrev OH (P : Type) : Type := P × HS × Nat × Nat
def OkH {P : Type} (K1 K2 : Nat) (w : OH P) (c s : Nat) : Prop := c + w.2.2.1 ≤ K1 ∧ s + w.2.2.2 ≤ K2
def mkA (r : Nat) : Option Value := some (.ref r)
def mkO (r : Option Nat) : Option Value := some (va_rf r)
def QH {P : Type} (mk : P → Option Value) (t : TT) (G : GH) (r : P) (h : HS) : Array Value → State → Outcome → State → Prop := fun _ st o T => o = .returned (mk r) ∧ RelH t G h T.heap ∧ va_F G.1 st T
abbrev rmH (lv K1 K2 : Nat) : Room := { frames := lv, cells := K1, slots := K2, locals := 100 * lv }
def PcH (t : TT) (G : GH) (av : List Value) (h : HS) : Array Value → State → Prop := va_Pc av (fun U => RelH t G h U.heap ∧ KW t G U U.heap)
/-- the contract of a method that doesn't throw -/
def CtH {P : Type} (mk : P → Option Value) (t : TT) (G : GH) (l : Launch) (y : MethodName) (cc : ByteArray) (nL : Nat) (ret : Option FieldType) (lv : Nat) (av : List Value) (h : HS) (M : Option (OH P)) : Prop :=
  ∀ w, M = some w → Met l y (ws_ y cc nL ret) (rmH lv w.2.2.1 w.2.2.2) (PcH t G av h) (QH mk t G w.1 w.2.1) w.2.2.1 w.2.2.2 G.1
/-- an answer, or what was thrown: its class's number, its address -/
abbrev PX (P : Type) : Type := P ⊕ (Nat × Nat)
def exN (i : Nat) : String := match i with
  | 5 => "WhiteBoard$Wrong"
  | 14 => "java/lang/IllegalArgumentException"
  | _ => "java/util/NoSuchElementException"
def QX {P : Type} (mk : P → Option Value) (t : TT) (G : GH) (x : PX P) (h : HS) : Array Value → State → Outcome → State → Prop := fun _ st o T => ∃ r, x = .inl r ∧ o = .returned (mk r) ∧ RelH t G h T.heap ∧ va_F G.1 st T
def XX {P : Type} (t : TT) (G : GH) (x : PX P) (h : HS) : String → Addr → State → State → Prop := fun E q st T => ∃ i, x = .inr (i, q) ∧ E = exN i ∧ RelH t G h T.heap ∧ va_F G.1 st T
def CtX {P : Type} (mk : P → Option Value) (t : TT) (G : GH) (l : Launch) (y : MethodName) (cc : ByteArray) (nL : Nat) (ret : Option FieldType) (lv : Nat) (av : List Value) (h : HS) (M : Option (OH (PX P))) : Prop :=
  ∀ w, M = some w → vx_Met l y (ws_ y cc nL ret) (rmH lv w.2.2.1 w.2.2.2) (PcH t G av h) (QX mk t G w.1 w.2.1) (XX t G w.1 w.2.1) w.2.2.1 w.2.2.2 G.1
def qw {P : Type} (Qw : P → HS → State → Prop) (w : OH P) : State → Prop := Qw w.1 w.2.1
abbrev BH {P : Type} (t : TT) (G : GH) (K1 K2 : Nat) (Qw : P → HS → State → Prop) := VV (S := HS) (O := OH P) (RelH t G) (OkH K1 K2) (qw Qw) G.1
abbrev VH {P : Type} (mk : P → Option Value) (t : TT) (G : GH) (p : Program) (l : Launch) (e : Env) (lv K1 K2 : Nat) (s : State) (m : MethodId) (args : Array Value) (below : List Frame) (meth : Method) (c : Code) (nL : Nat) (pc : Nat) (L : List (Nat × Value)) (st : List Value) (h : HS) (M : Option (OH P)) : Prop :=
  BH t G K1 K2 (fun r h1 => MQ below (QH mk t G r h1) args s K1 K2 G.1) p l e (rmH lv K1 K2) s m args below meth c nL pc L st h M
abbrev VX {P : Type} (mk : P → Option Value) (t : TT) (G : GH) (p : Program) (l : Launch) (e : Env) (lv K1 K2 : Nat) (s : State) (m : MethodId) (args : Array Value) (below : List Frame) (meth : Method) (c : Code) (nL : Nat) (pc : Nat) (L : List (Nat × Value)) (st : List Value) (h : HS) (M : Option (OH (PX P))) : Prop :=
  BH t G K1 K2 (fun r h1 => vx_MQ below (QX mk t G r h1) (XX t G r h1) args s K1 K2 G.1) p l e (rmH lv K1 K2) s m args below meth c nL pc L st h M
/-- what was used is added -/
def addc {P : Type} (c s : Nat) (M : Option (OH P)) : Option (OH P) := match M with
  | some w => some (w.1, w.2.1, c + w.2.2.1, s + w.2.2.2)
  | none => none
def hret {P : Type} (r : P) (h : HS) : Option (OH P) := some (r, h, 0, 0)
def hb {P O : Type} (o : Option (OH P)) (k : P → HS → Option (OH O)) : Option (OH O) := match o with
  | some w => addc w.2.2.1 w.2.2.2 (k w.1 w.2.1)
  | none => none
/-- a call that may throw, in a method that passes it on -/
def hx {P O : Type} (o : Option (OH (PX P))) (k : P → HS → Option (OH (PX O))) : Option (OH (PX O)) := match o with
  | some (.inl r, h, c, s) => addc c s (k r h)
  | some (.inr q, h, c, s) => some (.inr q, h, c, s)
  | none => none
/-- a reference is followed -/
def mderef {O : Type} (o : Option Nat) (k : Nat → Option O) : Option O := match o with
  | some a => k a
  | none => none
/-- is it null? -/
def mnull {O : Type} (o : Option Nat) (M : Option O) (k : Nat → Option O) : Option O := match o with
  | some a => k a
  | none => M
theorem addc_some {P : Type} {c s : Nat} {M : Option (OH P)} {w : OH P} (h : addc c s M = some w) : ∃ v : OH P, M = some v ∧ w = (v.1, v.2.1, c + v.2.2.1, s + v.2.2.2) := by
  cases M with
  | none => cases h
  | some v => exact ⟨v, rfl, (Option.some.inj h).symm⟩
theorem hb_some {P O : Type} {o : Option (OH P)} {k : P → HS → Option (OH O)} {w : OH O} (h : hb o k = some w) : ∃ (r : OH P) (v : OH O), o = some r ∧ k r.1 r.2.1 = some v ∧ w = (v.1, v.2.1, r.2.2.1 + v.2.2.1, r.2.2.2 + v.2.2.2) := by
  cases o with
  | none => cases h
  | some r =>
    obtain ⟨v, h1, h2⟩ := addc_some h
    exact ⟨r, v, rfl, h1, h2⟩
theorem hx_some {P O : Type} {o : Option (OH (PX P))} {k : P → HS → Option (OH (PX O))} {w : OH (PX O)} (h : hx o k = some w) :
    (∃ (r : P) (h1 : HS) (c s : Nat) (v : OH (PX O)), o = some (.inl r, h1, c, s) ∧ k r h1 = some v ∧ w = (v.1, v.2.1, c + v.2.2.1, s + v.2.2.2)) ∨ ∃ (q : Nat × Nat) (h1 : HS) (c s : Nat), o = some (.inr q, h1, c, s) ∧ w = (.inr q, h1, c, s) := by
  match o, h with
  | some (.inl r, h1, c, s), h =>
    obtain ⟨v, e1, e2⟩ := addc_some h
    exact Or.inl ⟨r, h1, c, s, v, rfl, e1, e2⟩
  | some (.inr q, h1, c, s), h => exact Or.inr ⟨q, h1, c, s, rfl, (Option.some.inj h).symm⟩
def fitv (ty : FieldType) (v : Value) : Prop := narrow ty v = v ∧ fits ty v = true
section VHR
variable {P O : Type} {K1 K2 : Nat} {Qw : O → HS → State → Prop} {p : Program} {l : Launch} {e : Env} {R : Room} {s : State} {m : MethodId} {args : Array Value} {below : List Frame} {meth : Method} {c : Code} {H : Heap} {locs : List Loc} {ls : Array Slot} {cells slots : Nat} {Q : State → Prop} {nL pc : Nat} {L : List (Nat × Value)} {st rest : List Value} {u : HS} {M M1 M2 : Option (OH O)} {t : TT} {G : GH} {y : MethodName} {cc : ByteArray} {ret : Option FieldType}
theorem w_putOF (C0 : Cx t p s m args meth c y cc nL ret) {a ci N index : Nat} {C ref : String} {T : u_T} {V : Nat → Value} {ty : FieldType} {v : Value} (hin : ∀ w ∈ u_ws C T N, w ∈ lw_all) (ty0 : Nat → FieldType) (hty : ∀ k, k < N → parseFieldDescriptor (T k).2.2.1 = some (ty0 k)) (hnm : ∀ a, a < N → ∀ b, b < N → a ≠ b → (T a).2.1 ≠ (T b).2.1) (hc : vwCl[ci]? = some (C, T, N)) (h : t_OB a (t.1 ci) N (t.2.1 ci) H V) (k : Nat) (hk : k < N) (hlink : (Cond.fieldLink y.cls index ref (T k).2.1 (T k).2.2.1).before args s = true)
    (hsame : ∀ x, s.fieldFound? (T k).1 (T k).2.1 (T k).2.2.1 = some x → s.fieldFound? ref (T k).2.1 (T k).2.2.1 = some x) (hfin : (T k).2.2.2 = true) (hin2 : y.name = "<init>") (hdecl : (T k).1 = y.cls) (hd : parseFieldDescriptor (T k).2.2.1 = some ty) (hn : narrow ty v = v) (hfit : fits ty v = true) (hdg : decode cc pc = .ok (.putfield index, 3))
    (kk : ∀ (H1 : Heap) (j : Nat), t_OB a (t.1 ci) N (t.2.1 ci) H1 (updV V k v) → H1.size = H.size → (∀ q, q ≠ a → H1[q]? = H[q]?) → W p l e R s m args below meth c H1 (locs ++ [⟨a, j⟩]) cells slots Q (F0 m (pc + 3) ls rest)) : W p l e R s m args below meth c H locs cells slots Q (F0 m pc ls (v :: .ref a :: rest)) := by
  have hK := C0.2.2.2.2.2.2.2.2.1
  have hts := C0.2.2.2.2.1
  have hown := C0.2.2.2.1
  have hap := va_apart (own := y.cls) hts hin ty0 hty hnm hK hc
  obtain ⟨cell, q1, q2, q3, q4⟩ := h
  obtain ⟨hS, hfc, kC, hkC, hkind⟩ := hK.1 ci _ hc
  obtain ⟨cf, kf, fi, f, hi, hsl⟩ := hS k hk
  have hlay := hts _ (hin _ (u_in_lay hk))
  unfold u_lay at hlay
  rw [if_pos hfin] at hlay
  have hst := (u_facts hfc hkC (u_lays hts hin hk) hi).1
  have hcf : m.cls = cf := by
    obtain ⟨_, _, c', _, _, _, -, -, hf', -, -, -, hown2, -⟩ := Cond.laysFinal_spec hlay
    have e1 : c' = cf := by have := hi.symm.trans hf'; simp at this; exact this.1.symm
    rw [hdecl] at hown2
    rw [← e1]; exact Option.some.inj (hown.symm.trans hown2)
  have h6 := u_fits hfc hkC hkind (Or.inr hlay) hi hd hn hfit
  refine W.putFinK C0.1 C0.2.1 hown hlink (hsame _ hi) hst hcf ((C0.2.2.2.2.2.2.2.1 hin2).trans hin2) (by rw [q2]; exact h6) q1 q3 (by rw [hsl]; exact k2_hasslot (q4 k hk)) rfl rfl hdg fun H' e1 e2 e3 => ?_
  rw [hsl] at e1 ⊢
  exact kk H' _ ⟨_, e1, q2, q3, t_set q4 hap hk v⟩ e2 e3
theorem v_deref {o : Option Nat} {k1 : Nat → Option (OH O)} (h : ∀ a, o = some a → BH t G K1 K2 Qw p l e R s m args below meth c nL pc L (.ref a :: st) u (k1 a)) : BH t G K1 K2 Qw p l e R s m args below meth c nL pc L (va_rf o :: st) u (mderef o k1) := by
  cases o with
  | none => exact fun w hw => by cases hw
  | some a => exact h a rfl
/-- the object's part of the relation -/
theorem relC_ob {a ci : Nat} (rel : RelH t G u H) (hc : hC u a = ci + 1) (h16 : ci < 16) : t_OB a (t.1 ci) (cN ci) (t.2.1 ci) H (hF u a) := by
  have h1 := (rel.2.2.2.2.2 a).1.1 (by omega) (by omega)
  rw [hc] at h1
  exact h1
theorem v_hget (C0 : CxH t G l p s m args meth c y cc nL ret) {a index : Nat} {C ref : String} {T : u_T} (ci : Nat) (k : Nat) {v : Value} (hc : hC u a = ci + 1) (h16 : ci < 16) (hcl : vwCl[ci]? = some (C, T, cN ci)) (hin : ∀ w ∈ u_ws C T (cN ci), w ∈ lw_all) (hk : k < cN ci)
    (hlink : Cond.fieldLink y.cls index ref (T k).2.1 (T k).2.2.1 ∈ lw_all ∨ ∃ host, Cond.fieldLinkNest y.cls index ref (T k).2.1 (T k).2.2.1 host ∈ lw_tbl) (hs : ∀ x, s.fieldFound? (T k).1 (T k).2.1 (T k).2.2.1 = some x → s.fieldFound? ref (T k).2.1 (T k).2.2.1 = some x) (hv : hF u a k = v) (d : decode cc pc = .ok (.getfield index, 3))
    (kk : BH t G K1 K2 Qw p l e R s m args below meth c nL (pc + 3) L (v :: st) u M) : BH t G K1 K2 Qw p l e R s m args below meth c nL pc L (.ref a :: st) u M := by
  intro w hw H locs ls cells slots ok rel hS hl
  refine w_getO C0.1 hin hcl (relC_ob rel hc h16) k hk (hlink.imp (fun h => C0.1.2.2.2.2.1 _ h) (fun ⟨host, h⟩ => ⟨host, va_Nw.use rfl (C0.1.2.2.2.2.2.2.2.2.2.1 _ h rfl)⟩)) hs d ?_
  rw [hv]
  exact kk w hw H locs ls cells slots ok rel hS hl
theorem hF_i {a ci k : Nat} (hc : hC u a = ci + 1) (hk : fK ci k = 0 ∨ fK ci k = 2 ∨ fK ci k = 4) : hF u a k = .int (hI u a k) := by
  unfold hF
  rw [hc]
  show (match fK ci k with | 1 => va_rf (hR u a k) | 3 => Value.long 0 | _ => Value.int (hI u a k)) = _
  rcases hk with h | h | h <;> simp [h]
theorem hF_r {a ci k : Nat} (hc : hC u a = ci + 1) (hk : fK ci k = 1) : hF u a k = va_rf (hR u a k) := by
  unfold hF
  rw [hc]
  show (match fK ci k with | 1 => va_rf (hR u a k) | 3 => Value.long 0 | _ => Value.int (hI u a k)) = _
  simp [hk]
theorem sameAt_rfl {b : Nat} : sameAt u u b := ⟨rfl, rfl, rfl, rfl, rfl, rfl, rfl⟩
theorem relI {a ci k : Nat} {v : Int32} {H1 : Heap} (rel : RelH t G u H) (hc : hC u a = ci + 1) (h16 : ci < 16) (hk : fK ci k = 0 ∨ fK ci k = 2 ∨ fK ci k = 4) (h1 : t_OB a (t.1 ci) (cN ci) (t.2.1 ci) H1 (updV (hF u a) k (.int v))) (z : H1.size = H.size) (oq : ∀ q, q ≠ a → H1[q]? = H[q]?) : RelH t G (uI u a k v) H1 := by
  refine rel.upd (fun b hb => ⟨rfl, up2_n _ _ _ hb, rfl, rfl, rfl, rfl, rfl⟩) rfl rfl rfl rfl (by rw [hc]; omega) ⟨fun _ _ => ?_, fun q => ?_, fun q => ?_, fun q => ?_⟩ z oq
  · have e1 : hC (uI u a k v) a - 1 = ci := by show hC u a - 1 = ci; omega
    rw [e1]
    refine h1.to fun j _ => ?_
    unfold updV
    by_cases hj : j = k
    · subst hj
      rw [if_pos rfl, hF_i (u := uI u a j v) hc hk]
      exact congrArg _ (up2_s _ _ _ _).symm
    · rw [if_neg hj]
      unfold hF
      rw [e1]
      show (match fK (hC u a - 1) j with | 1 => va_rf (hR u a j) | 3 => Value.long 0 | _ => Value.int (hI u a j)) = (match fK ci j with | 1 => va_rf (hR u a j) | 3 => Value.long 0 | _ => Value.int (up2 (hI u) a k v a j))
      rw [up2_nk _ _ _ _ hj, hc]
      rfl
  · have q : hC u a = 21 ∨ hC u a = 22 ∨ hC u a = 23 := q
    omega
  · have q : hC u a = 24 := q
    omega
  · have q : hC u a = 25 ∨ hC u a = 26 := q
    omega
theorem relR {a ci k : Nat} {v : Option Nat} {H1 : Heap} (rel : RelH t G u H) (hc : hC u a = ci + 1) (h16 : ci < 16) (hk : fK ci k = 1) (h1 : t_OB a (t.1 ci) (cN ci) (t.2.1 ci) H1 (updV (hF u a) k (va_rf v))) (z : H1.size = H.size) (oq : ∀ q, q ≠ a → H1[q]? = H[q]?) : RelH t G (uR u a k v) H1 := by
  refine rel.upd (fun b hb => ⟨rfl, rfl, up2_n _ _ _ hb, rfl, rfl, rfl, rfl⟩) rfl rfl rfl rfl (by rw [hc]; omega) ⟨fun _ _ => ?_, fun q => ?_, fun q => ?_, fun q => ?_⟩ z oq
  · have e1 : hC (uR u a k v) a - 1 = ci := by show hC u a - 1 = ci; omega
    rw [e1]
    refine h1.to fun j _ => ?_
    unfold updV
    by_cases hj : j = k
    · subst hj
      rw [if_pos rfl, hF_r (u := uR u a j v) hc hk]
      exact congrArg _ (up2_s _ _ _ _).symm
    · rw [if_neg hj]
      unfold hF
      rw [e1]
      show (match fK (hC u a - 1) j with | 1 => va_rf (hR u a j) | 3 => Value.long 0 | _ => Value.int (hI u a j)) = (match fK ci j with | 1 => va_rf (up2 (hR u) a k v a j) | 3 => Value.long 0 | _ => Value.int (hI u a j))
      rw [up2_nk _ _ _ _ hj, hc]
      rfl
  · have q : hC u a = 21 ∨ hC u a = 22 ∨ hC u a = 23 := q
    omega
  · have q : hC u a = 24 := q
    omega
  · have q : hC u a = 25 ∨ hC u a = 26 := q
    omega
theorem relW {a ci : Nat} (rel : RelH t G u H) (hc : hC u a = ci + 1) (h16 : ci < 16) : G.1 a := rel.2.2.2.2.1 a (by omega) (by omega)
theorem v_hputI (C0 : CxH t G l p s m args meth c y cc nL ret) {a index : Nat} {C : String} {T : u_T} {v : Int32} {k1 : HS → Option (OH O)} (ci : Nat) (k : Nat) (hc : hC u a = ci + 1) (h16 : ci < 16) (hcl : vwCl[ci]? = some (C, T, cN ci)) (hin : ∀ w ∈ u_ws C T (cN ci), w ∈ lw_all) (ty0 : Nat → FieldType) (hty : ∀ k, k < cN ci → parseFieldDescriptor (T k).2.2.1 = some (ty0 k)) (hnm : ∀ a, a < cN ci → ∀ b, b < cN ci → a ≠ b → (T a).2.1 ≠ (T b).2.1) (hk : k < cN ci) (hf : fK ci k = 0 ∨ fK ci k = 2 ∨ fK ci k = 4) {ref : String}
    (hlink : Cond.fieldLink y.cls index ref (T k).2.1 (T k).2.2.1 ∈ lw_all) (hs : ∀ x, s.fieldFound? (T k).1 (T k).2.1 (T k).2.2.1 = some x → s.fieldFound? ref (T k).2.1 (T k).2.2.1 = some x) (hfin : (T k).2.2.2 = false ∨ ((T k).2.2.2 = true ∧ y.name = "<init>" ∧ (T k).1 = y.cls)) (hfit : fitv (ty0 k) (.int v)) (d : decode cc pc = .ok (.putfield index, 3))
    (kk : ∀ u1, BH t G K1 K2 Qw p l e R s m args below meth c nL (pc + 3) L st u1 (k1 u1)) : BH t G K1 K2 Qw p l e R s m args below meth c nL pc L (.int v :: .ref a :: st) u (mlet (uI u a k v) k1) := by
  intro w hw H locs ls cells slots ok rel hS hl
  rcases hfin with hf0 | ⟨hf0, hin2, hdecl⟩
  · refine w_putO C0.1 hin ty0 hty hnm hcl (relC_ob rel hc h16) k hk (C0.1.2.2.2.2.1 _ hlink) hs hf0 (hty k hk) hfit.1 hfit.2 d (fun H1 j h1 z oq => ?_)
    exact kk (uI u a k v) w hw H1 _ ls cells slots ok (relI rel hc h16 hf h1 z oq) (hS.put z oq (relW rel hc h16)) hl
  · refine w_putOF C0.1 hin ty0 hty hnm hcl (relC_ob rel hc h16) k hk (C0.1.2.2.2.2.1 _ hlink) hs hf0 hin2 hdecl (hty k hk) hfit.1 hfit.2 d (fun H1 j h1 z oq => ?_)
    exact kk (uI u a k v) w hw H1 _ ls cells slots ok (relI rel hc h16 hf h1 z oq) (hS.put z oq (relW rel hc h16)) hl
theorem fitv_ref {ty : FieldType} (o : Option Nat) (h : ty.isReference = true) : fitv ty (va_rf o) := by
  cases ty <;> first | (cases h; done) | (cases o <;> exact ⟨rfl, rfl⟩)
theorem v_hputR (C0 : CxH t G l p s m args meth c y cc nL ret) {a index : Nat} {C : String} {T : u_T} (o : Option Nat) {k1 : HS → Option (OH O)} (ci : Nat) (k : Nat) (hc : hC u a = ci + 1) (h16 : ci < 16) (hcl : vwCl[ci]? = some (C, T, cN ci)) (hin : ∀ w ∈ u_ws C T (cN ci), w ∈ lw_all) (ty0 : Nat → FieldType) (hty : ∀ k, k < cN ci → parseFieldDescriptor (T k).2.2.1 = some (ty0 k)) (hnm : ∀ a, a < cN ci → ∀ b, b < cN ci → a ≠ b → (T a).2.1 ≠ (T b).2.1) (hk : k < cN ci) (hf : fK ci k = 1) {ref : String}
    (hlink : Cond.fieldLink y.cls index ref (T k).2.1 (T k).2.2.1 ∈ lw_all) (hs : ∀ x, s.fieldFound? (T k).1 (T k).2.1 (T k).2.2.1 = some x → s.fieldFound? ref (T k).2.1 (T k).2.2.1 = some x) (hfin : (T k).2.2.2 = false ∨ ((T k).2.2.2 = true ∧ y.name = "<init>" ∧ (T k).1 = y.cls)) (hr : (ty0 k).isReference = true) {v : Value} (hv : v = va_rf o) (d : decode cc pc = .ok (.putfield index, 3))
    (kk : ∀ u1, BH t G K1 K2 Qw p l e R s m args below meth c nL (pc + 3) L st u1 (k1 u1)) : BH t G K1 K2 Qw p l e R s m args below meth c nL pc L (v :: .ref a :: st) u (mlet (uR u a k o) k1) := by
  intro w hw H locs ls cells slots ok rel hS hl
  subst hv
  have hfit := fitv_ref o hr
  rcases hfin with hf0 | ⟨hf0, hin2, hdecl⟩
  · refine w_putO C0.1 hin ty0 hty hnm hcl (relC_ob rel hc h16) k hk (C0.1.2.2.2.2.1 _ hlink) hs hf0 (hty k hk) hfit.1 hfit.2 d (fun H1 j h1 z oq => ?_)
    exact kk (uR u a k o) w hw H1 _ ls cells slots ok (relR rel hc h16 hf h1 z oq) (hS.put z oq (relW rel hc h16)) hl
  · refine w_putOF C0.1 hin ty0 hty hnm hcl (relC_ob rel hc h16) k hk (C0.1.2.2.2.2.1 _ hlink) hs hf0 hin2 hdecl (hty k hk) hfit.1 hfit.2 d (fun H1 j h1 z oq => ?_)
    exact kk (uR u a k o) w hw H1 _ ls cells slots ok (relR rel hc h16 hf h1 z oq) (hS.put z oq (relW rel hc h16)) hl
end VHR
