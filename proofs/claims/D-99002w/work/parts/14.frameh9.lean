/-! mode W: methods with handlers -/
set_option maxRecDepth 100000
theorem met_ofWH {l : Launch} {y : MethodName} {ws ws' : List Cond} {rm : Room} {Pc : Array Value → State → Prop} {Qc : Array Value → State → Outcome → State → Prop} {mc ms : Nat} {free : Addr → Prop} {cc : ByteArray} {maxL : Nat} {ret : Option FieldType} {hh : List (Nat × Nat × Nat × Nat)}
    (hy : plainName y.cls = true) (hw : ws = Cond.codeWith y cc maxL ret hh :: ws')
    (body : ∀ p e s m args below meth c s₁, BodyLoose p l y (headSpec ws rm) cc maxL ret e s m args below meth c s₁ → c.maxLocals = maxL → Pc args s →
      W p l e (headSpec ws rm).room s m args below meth c s.heap [] 0 0 (MQ below Qc args s mc ms free) (entryFrame m args maxL)) : Met l y ws rm Pc Qc mc ms free := by
  refine MetFree.of_bodyS (code := cc) (maxLocals := maxL) (ret := ret) hy ?_ ?_
  · intro args s m h hn
    obtain ⟨m9, meth, c, hn9, h1, h2, h3, h4, -, h5, h6, -⟩ := Cond.codeWith_spec (atoms_spec (ws := ws) h _ (by rw [hw]; exact List.mem_cons_self))
    cases hn.symm.trans hn9
    exact ⟨meth, c, h1, h2, h3, h4, h5, h6⟩
  · intro p e s m args below meth c s₁ B hml hP _
    have hh0 : s₁.heap = s.heap := by rw [B.state]; rfl
    obtain ⟨t, a1, o, b1, b2, b3⟩ := body p e s m args below meth c s₁ B hml hP s₁ hh0 (Stand.of_body B)
    exact ⟨t, o, a1, b1, b2, b3⟩
/-- a method's walk, its handlers told -/
def CxW (t : TT) (G : GH) (l : Launch) (p : Program) (s : State) (m : MethodId) (args : Array Value) (meth : Method) (c : Code) (y : MethodName) (cc : ByteArray) (nL : Nat) (ret : Option FieldType) (hh : List (Nat × Nat × Nat × Nat)) : Prop :=
  CxH t G l p s m args meth c y cc nL ret ∧ c.exceptionTable.toList = tableOf hh
def CtW {P : Type} (mk : P → Option Value) (t : TT) (G : GH) (l : Launch) (y : MethodName) (cc : ByteArray) (nL : Nat) (ret : Option FieldType) (hh : List (Nat × Nat × Nat × Nat)) (lv : Nat) (av : List Value) (h : HS) (M : Option (OH P)) : Prop :=
  ∀ w, M = some w → Met l y (wsW_ y cc nL ret hh) (rmH lv w.2.2.1 w.2.2.2) (PcH t G av h) (QH mk t G w.1 w.2.1) w.2.2.1 w.2.2.2 G.1
def CtWX {P : Type} (mk : P → Option Value) (t : TT) (G : GH) (l : Launch) (y : MethodName) (cc : ByteArray) (nL : Nat) (ret : Option FieldType) (hh : List (Nat × Nat × Nat × Nat)) (lv : Nat) (av : List Value) (h : HS) (M : Option (OH (PX P))) : Prop :=
  ∀ w, M = some w → vx_Met l y (wsW_ y cc nL ret hh) (rmH lv w.2.2.1 w.2.2.2) (PcH t G av h) (QX mk t G w.1 w.2.1) (XX t G w.1 w.2.1) w.2.2.1 w.2.2.2 G.1
/-- a call whose throw is caught here -/
def hc {P O : Type} (o : Option (OH (PX P))) (k1 : P → HS → Option (OH O)) (k2 : Nat → Nat → HS → Option (OH O)) : Option (OH O) := match o with
  | some (.inl r, h, c, s) => addc c s (k1 r h)
  | some (.inr (i, q), h, c, s) => addc c s (k2 i q h)
  | none => none
theorem hc_some {P O : Type} {o : Option (OH (PX P))} {k1 : P → HS → Option (OH O)} {k2 : Nat → Nat → HS → Option (OH O)} {w : OH O} (h : hc o k1 k2 = some w) :
    (∃ (r : P) (h1 : HS) (c s : Nat) (v : OH O), o = some (.inl r, h1, c, s) ∧ k1 r h1 = some v ∧ w = (v.1, v.2.1, c + v.2.2.1, s + v.2.2.2)) ∨ ∃ (i q : Nat) (h1 : HS) (c s : Nat) (v : OH O), o = some (.inr (i, q), h1, c, s) ∧ k2 i q h1 = some v ∧ w = (v.1, v.2.1, c + v.2.2.1, s + v.2.2.2) := by
  match o, h with
  | some (.inl r, h1, c, s), h =>
    obtain ⟨v, e1, e2⟩ := addc_some h
    exact Or.inl ⟨r, h1, c, s, v, rfl, e1, e2⟩
  | some (.inr (i, q), h1, c, s), h =>
    obtain ⟨v, e1, e2⟩ := addc_some h
    exact Or.inr ⟨i, q, h1, c, s, v, rfl, e1, e2⟩
def hcase {O : Type} (i0 : Nat) (A : Nat → HS → Option O) (k2 : Nat → Nat → HS → Option O) : Nat → Nat → HS → Option O := fun i q u => if i = i0 then A q u else k2 i q u
def hend {O : Type} : Nat → Nat → HS → Option O := fun _ _ _ => none
section VHW
variable {P P2 O : Type} {mk : P → Option Value} {mk2 : P2 → Option Value} {K1 K2 lv lv2 : Nat} {Qw : O → HS → State → Prop} {p : Program} {l : Launch} {e : Env} {R : Room} {s : State} {m : MethodId} {args : Array Value} {below : List Frame} {meth : Method} {c : Code} {nL nL2 pc index n : Nat} {L : List (Nat × Value)} {st rest : List Value} {u : HS} {t : TT} {G : GH} {y y2 : MethodName} {cc cc2 : ByteArray} {ret ret2 : Option FieldType}
def KX (t : TT) (G : GH) (K1 K2 : Nat) (Qw : O → HS → State → Prop) (p : Program) (l : Launch) (e : Env) (R : Room) (s : State) (m : MethodId) (args : Array Value) (below : List Frame) (meth : Method) (c : Code) (nL pc : Nat) (L : List (Nat × Value)) (own : String) (k2 : Nat → Nat → HS → Option (OH O)) : Prop :=
  ∀ i q u1, k2 i q u1 = none ∨ ∃ (pre : List ExceptionTableEntry) (x : ExceptionTableEntry) (suf : List ExceptionTableEntry) (name : String), c.exceptionTable.toList = pre ++ x :: suf ∧
    (∀ z ∈ pre, covers z pc = false ∨ (z.catchType ≠ 0 ∧ ∃ nm : String, (Cond.classLink own z.catchType nm).before args s = true ∧ va_Nc (exN i) nm s)) ∧ covers x pc = true ∧ x.catchType ≠ 0 ∧ (Cond.classLink own x.catchType name).before args s = true ∧ (Cond.castable (exN i) name).before args s = true ∧
    BH t G K1 K2 Qw p l e R s m args below meth c nL x.handlerPc L [.ref q] u1 (k2 i q u1)
theorem kend : KX t G K1 K2 Qw p l e R s m args below meth c nL pc L y.cls hend := fun _ _ _ => Or.inl rfl
theorem kcase0 {i0 a b h ct : Nat} {more : List (Nat × Nat × Nat × Nat)} {A : Nat → HS → Option (OH O)} {k2 : Nat → Nat → HS → Option (OH O)} {name : String} (C0 : CxW t G l p s m args meth c y cc nL ret ((a, b, h, ct) :: more)) (hcov : a ≤ pc ∧ pc < b) (h0 : ct ≠ 0) (q1 : Cond.classLink y.cls ct name ∈ lw_all) (q2 : Cond.castable (exN i0) name ∈ lw_tbl)
    (kk : ∀ q u1, BH t G K1 K2 Qw p l e R s m args below meth c nL h L [.ref q] u1 (A q u1)) (kr : KX t G K1 K2 Qw p l e R s m args below meth c nL pc L y.cls k2) : KX t G K1 K2 Qw p l e R s m args below meth c nL pc L y.cls (hcase i0 A k2) := by
  intro i q u1
  by_cases hi : i = i0
  · subst hi
    refine Or.inr ⟨[], ⟨a, b, h, ct⟩, tableOf more, name, by rw [C0.2]; rfl, fun z hz => (by cases hz), by simp [covers, hcov.1, hcov.2], h0, C0.1.1.2.2.2.2.1 _ q1, va_Nw.use rfl (C0.1.1.2.2.2.2.2.2.2.2.2.1 _ q2 rfl), ?_⟩
    unfold hcase
    rw [if_pos rfl]
    exact kk q u1
  · have e1 : hcase i0 A k2 i q u1 = k2 i q u1 := if_neg hi
    rw [e1]
    exact kr i q u1
theorem kcase1 {i0 a b h ct a0 b0 h00 ct0 : Nat} {more : List (Nat × Nat × Nat × Nat)} {A : Nat → HS → Option (OH O)} {k2 : Nat → Nat → HS → Option (OH O)} {name nm : String} (C0 : CxW t G l p s m args meth c y cc nL ret ((a0, b0, h00, ct0) :: (a, b, h, ct) :: more)) (hcov : a ≤ pc ∧ pc < b) (h0 : ct ≠ 0) (q1 : Cond.classLink y.cls ct name ∈ lw_all) (q2 : Cond.castable (exN i0) name ∈ lw_tbl) (h1 : ct0 ≠ 0) (q3 : Cond.classLink y.cls ct0 nm ∈ lw_all) (q4 : va_Nc (exN i0) nm s)
    (kk : ∀ q u1, BH t G K1 K2 Qw p l e R s m args below meth c nL h L [.ref q] u1 (A q u1)) (kr : KX t G K1 K2 Qw p l e R s m args below meth c nL pc L y.cls k2) : KX t G K1 K2 Qw p l e R s m args below meth c nL pc L y.cls (hcase i0 A k2) := by
  intro i q u1
  by_cases hi : i = i0
  · subst hi
    refine Or.inr ⟨[⟨a0, b0, h00, ct0⟩], ⟨a, b, h, ct⟩, tableOf more, name, by rw [C0.2]; rfl, fun z hz => ?_, by simp [covers, hcov.1, hcov.2], h0, C0.1.1.2.2.2.2.1 _ q1, va_Nw.use rfl (C0.1.1.2.2.2.2.2.2.2.2.2.1 _ q2 rfl), ?_⟩
    · have hz2 := List.mem_singleton.mp hz
      subst hz2
      exact Or.inr ⟨h1, nm, C0.1.1.2.2.2.2.1 _ q3, q4⟩
    · unfold hcase
      rw [if_pos rfl]
      exact kk q u1
  · have e1 : hcase i0 A k2 i q u1 = k2 i q u1 := if_neg hi
    rw [e1]
    exact kr i q u1
theorem nc_of (C0 : CxH t G l p s m args meth c y cc nL ret) : va_Nc "java/lang/IllegalArgumentException" "java/util/NoSuchElementException" s := C0.1.2.2.2.2.2.2.2.2.2.2.2.2.2.2.2.2
theorem v_callC {a : Array Value} (C0 : CxH t G l p s m args meth c y cc nL ret) {X : Option (OH (PX P2))} {k1 : P2 → HS → Option (OH O)} {k2 : Nat → Nat → HS → Option (OH O)} (hrun : ∀ (r : OH (PX P2)) (H : Heap) (locs : List Loc) (ls : Array Slot) (cells slots : Nat), X = some r → RelH t G u H → va_S G.1 s.heap H locs → lv_has ls nL L → cells + r.2.2.1 ≤ K1 → slots + r.2.2.2 ≤ K2 → vx_Run p l e (rmH lv K1 K2) s m args below meth c H locs cells slots r.2.2.1 r.2.2.2 (F0 m pc ls st) rest (QX mk2 t G r.1 r.2.1 a) (XX t G r.1 r.2.1) G.1)
    (kk : ∀ r u1, BH t G K1 K2 Qw p l e (rmH lv K1 K2) s m args below meth c nL (pc + 3) L ((mk2 r).toList ++ rest) u1 (k1 r u1)) (kx : KX t G K1 K2 Qw p l e (rmH lv K1 K2) s m args below meth c nL pc L y.cls k2) : BH t G K1 K2 Qw p l e (rmH lv K1 K2) s m args below meth c nL pc L st u (hc X k1 k2) := by
  intro w hw H locs ls cells slots ok rel hS hl
  obtain ⟨ok1, ok2⟩ := ok
  rcases hc_some hw with ⟨r, h1, c1, s1, v, hX, hk, rfl⟩ | ⟨i0, q0, h1, c1, s1, v, hX, hk, rfl⟩
  · dsimp only at ok1 ok2
    intro T hT Y
    rcases hrun _ H locs ls cells slots hX rel hS hl (by show cells + c1 ≤ K1; omega) (by show slots + s1 ≤ K2; omega) T hT Y with ⟨v0, st₀, t1, T', L2, h0, Y', hL2, e1, e2, ⟨r', er, hv, hrel, hF⟩, step⟩ | ⟨q, st₀, t1, T', L2, E, ce, h0, Y', hL2, e1, e2, ⟨i, er, -⟩, -⟩
    · cases er
      cases hv
      obtain ⟨t2, a1, b1⟩ := kk r h1 v hk t1.heap _ ls (cells + c1) (slots + s1) ⟨by omega, by omega⟩ hrel (va_S_call hS h0 hF (fun _ z => z) hL2) hl T' e1 Y'
      exact ⟨t2, step t2 a1, b1⟩
    · cases er
  · dsimp only at ok1 ok2
    intro T hT Y
    rcases hrun _ H locs ls cells slots hX rel hS hl (by show cells + c1 ≤ K1; omega) (by show slots + s1 ≤ K2; omega) T hT Y with ⟨v0, st₀, t1, T', L2, h0, Y', hL2, e1, e2, ⟨r', er, -⟩, step⟩ | ⟨q, st₀, t1, T', L2, E, ce, h0, Y', hL2, e1, e2, ⟨i, er, hE, hrel, hF⟩, hce, hcv, hcl, step⟩
    · cases er
    · have hS1 := va_S_call hS h0 hF (fun _ z => z) hL2
      cases er
      subst hE
      rcases kx i0 q0 h1 with hn | ⟨pre, x, suf, name, x1, x2, x3, x4, x5, x6, x7⟩
      · rw [hn] at hk; cases hk
      · obtain ⟨t2, a1, b1⟩ := vx_catch (Q := Qw v.1 v.2.1) (H := t1.heap) (ls := ls) (rest := rest) C0.1.2.2.2.1 pre x suf x1 x2 x3 x4 x5 x6 hce hcv hcl (x7 v hk t1.heap _ ls (cells + c1) (slots + s1) ⟨by omega, by omega⟩ hrel hS1 hl) T' e1 Y'
        exact ⟨t2, step.trans a1, b1⟩
theorem v_callVC {b : Nat} {C2 : String} (C0 : CxH t G l p s m args meth c y cc nL ret) {X : Option (OH (PX P2))} {k1 : P2 → HS → Option (OH O)} {k2 : Nat → Nat → HS → Option (OH O)} (As rest : List Value) (hct : CtX mk2 t G l y2 cc2 nL2 ret2 lv2 (.ref b :: As) u X)
    (cw : ∀ mc ms, CallW (rmH lv K1 K2) s args y.cls C2 index y2 cc2 nL2 ret2 (ws_ y2 cc2 nL2 ret2) (rmH lv2 mc ms) mc ms n) (hrc : ∀ H locs, RelH t G u H → va_S G.1 s.heap H locs → ∃ cell : Cell, H[b]? = some cell ∧ cell.vm.isStatics = false ∧ s.vm.findClass C2 = some cell.cls) (hn : As.length = n) (hst : st = As.reverse ++ .ref b :: rest) (hsm : (rest.map fun v => v.category).sum ≤ 8) (d : decode cc pc = .ok (.invokevirtual index, 3))
    (kk : ∀ r u1, BH t G K1 K2 Qw p l e (rmH lv K1 K2) s m args below meth c nL (pc + 3) L ((mk2 r).toList ++ rest) u1 (k1 r u1)) (kx : KX t G K1 K2 Qw p l e (rmH lv K1 K2) s m args below meth c nL pc L y.cls k2) : BH t G K1 K2 Qw p l e (rmH lv K1 K2) s m args below meth c nL pc L st u (hc X k1 k2) :=
  v_callC C0 (fun r H locs ls cells slots hr rel hS hl h1 h2 => vx_runV (As := As) (rest := rest) (cfix C0) (hct r hr) (cw _ _) ⟨pcH_blind, hrc H locs rel hS, pcH_at C0 rel hS⟩ rfl hn hl.1 hst (lv_room hsm) d ⟨h1, h2⟩) kk kx
theorem v_callVCW {b : Nat} {C2 : String} {hh2 : List (Nat × Nat × Nat × Nat)} (C0 : CxH t G l p s m args meth c y cc nL ret) {X : Option (OH (PX P2))} {k1 : P2 → HS → Option (OH O)} {k2 : Nat → Nat → HS → Option (OH O)} (As rest : List Value) (hct : CtWX mk2 t G l y2 cc2 nL2 ret2 hh2 lv2 (.ref b :: As) u X)
    (cw : ∀ mc ms, vx_CVW (rmH lv K1 K2) s args y.cls C2 index y2 cc2 nL2 ret2 hh2 (wsW_ y2 cc2 nL2 ret2 hh2) (rmH lv2 mc ms) mc ms n) (hrc : ∀ H locs, RelH t G u H → va_S G.1 s.heap H locs → ∃ cell : Cell, H[b]? = some cell ∧ cell.vm.isStatics = false ∧ s.vm.findClass C2 = some cell.cls) (hn : As.length = n) (hst : st = As.reverse ++ .ref b :: rest) (hsm : (rest.map fun v => v.category).sum ≤ 8) (d : decode cc pc = .ok (.invokevirtual index, 3))
    (kk : ∀ r u1, BH t G K1 K2 Qw p l e (rmH lv K1 K2) s m args below meth c nL (pc + 3) L ((mk2 r).toList ++ rest) u1 (k1 r u1)) (kx : KX t G K1 K2 Qw p l e (rmH lv K1 K2) s m args below meth c nL pc L y.cls k2) : BH t G K1 K2 Qw p l e (rmH lv K1 K2) s m args below meth c nL pc L st u (hc X k1 k2) :=
  v_callC C0 (fun r H locs ls cells slots hr rel hS hl h1 h2 => vx_runVX (As := As) (rest := rest) (cfix C0) (hct r hr) (cw _ _) ⟨pcH_blind, hrc H locs rel hS, pcH_at C0 rel hS⟩ rfl hn hl.1 hst (lv_room hsm) d ⟨h1, h2⟩) kk kx
/-- a call outside of what is guarded, in a method with handlers: its throw goes on -/
theorem v_callO {a : Array Value} {k1 : P2 → HS → Option (OH (PX P))} (C0 : CxH t G l p s m args meth c y cc nL ret) {X : Option (OH (PX P2))} (hout : ∀ x ∈ c.exceptionTable.toList, covers x pc = false) (hrun : ∀ (r : OH (PX P2)) (H : Heap) (locs : List Loc) (ls : Array Slot) (cells slots : Nat), X = some r → RelH t G u H → va_S G.1 s.heap H locs → lv_has ls nL L → cells + r.2.2.1 ≤ K1 → slots + r.2.2.2 ≤ K2 → vx_Run p l e (rmH lv K1 K2) s m args below meth c H locs cells slots r.2.2.1 r.2.2.2 (F0 m pc ls st) rest (QX mk2 t G r.1 r.2.1 a) (XX t G r.1 r.2.1) G.1)
    (kk : ∀ r u1, VX mk t G p l e lv K1 K2 s m args below meth c nL (pc + 3) L ((mk2 r).toList ++ rest) u1 (k1 r u1)) : VX mk t G p l e lv K1 K2 s m args below meth c nL pc L st u (hx X k1) := by
  intro w hw H locs ls cells slots ok rel hS hl
  obtain ⟨ok1, ok2⟩ := ok
  rcases hx_some hw with ⟨r, h1, c1, s1, v, hX, hk, rfl⟩ | ⟨q0, h1, c1, s1, hX, rfl⟩
  · dsimp only at ok1 ok2
    intro T hT Y
    rcases hrun _ H locs ls cells slots hX rel hS hl (by show cells + c1 ≤ K1; omega) (by show slots + s1 ≤ K2; omega) T hT Y with ⟨v0, st₀, t1, T', L2, h0, Y', hL2, e1, e2, ⟨r', er, hv, hrel, hF⟩, step⟩ | ⟨q, st₀, t1, T', L2, E, ce, h0, Y', hL2, e1, e2, ⟨i, er, -⟩, -⟩
    · cases er
      cases hv
      obtain ⟨t2, a1, b1⟩ := kk r h1 v hk t1.heap _ ls (cells + c1) (slots + s1) ⟨by omega, by omega⟩ hrel (va_S_call hS h0 hF (fun _ z => z) hL2) hl T' e1 Y'
      exact ⟨t2, step t2 a1, b1⟩
    · cases er
  · dsimp only at ok1 ok2
    intro T hT Y
    rcases hrun _ H locs ls cells slots hX rel hS hl (by show cells + c1 ≤ K1; omega) (by show slots + s1 ≤ K2; omega) T hT Y with ⟨v0, st₀, t1, T', L2, h0, Y', hL2, e1, e2, ⟨r', er, -⟩, step⟩ | ⟨q, st₀, t1, T', L2, E, ce, h0, Y', hL2, e1, e2, ⟨i, er, hE, hrel, hF⟩, hce, hcv, hcl, step⟩
    · cases er
    · have hS1 := va_S_call hS h0 hF (fun _ z => z) hL2
      cases er
      obtain ⟨t2, a1, b1⟩ := vx_out (m := m) (ls := ls) (rest := rest) (pc := pc) (H := t1.heap) (Qc := QX mk t G (.inr (i, q)) h1) (XC := XX t G (.inr (i, q) : PX P) h1) hout C0.1.2.2.2.2.2.2.1 hce hcv hcl (fun T2 hT2 _ => ⟨i, rfl, hE, by rw [hT2]; exact hrel, hS1.F hT2⟩) hS1.2.2 (by show cells + c1 ≤ K1; omega) (by show slots + s1 ≤ K2; omega) T' e1 Y'
      exact ⟨t2, step.trans a1, b1⟩
theorem v_callSO {k1 : P2 → HS → Option (OH (PX P))} (C0 : CxH t G l p s m args meth c y cc nL ret) {X : Option (OH (PX P2))} (hout : ∀ x ∈ c.exceptionTable.toList, covers x pc = false) (As rest : List Value) (hct : CtX mk2 t G l y2 cc2 nL2 ret2 lv2 As u X)
    (cw : ∀ mc ms, CallB (rmH lv K1 K2) s args y.cls index y2 cc2 nL2 ret2 (ws_ y2 cc2 nL2 ret2) (rmH lv2 mc ms) mc ms n ∧ (Cond.static y2).before args s = true) (hn : As.length = n) (hst : st = As.reverse ++ rest) (hsm : (rest.map fun v => v.category).sum ≤ 8) (d : decode cc pc = .ok (.invokestatic index, 3))
    (kk : ∀ r u1, VX mk t G p l e lv K1 K2 s m args below meth c nL (pc + 3) L ((mk2 r).toList ++ rest) u1 (k1 r u1)) : VX mk t G p l e lv K1 K2 s m args below meth c nL pc L st u (hx X k1) :=
  v_callO C0 hout (fun r H locs ls cells slots hr rel hS hl h1 h2 => vx_runS (As := As) (rest := rest) (cfix C0) (hct r hr) (cw _ _) ⟨pcH_blind, pcH_at C0 rel hS⟩ rfl hn hl.1 hst (lv_room hsm) d ⟨h1, h2⟩) kk
theorem ctW_of {av : List Value} {M : Option (OH P)} {hh : List (Nat × Nat × Nat × Nat)} (L : List (Nat × Value)) (hl0 : l.stackTraces = false) (hy : plainName y.cls = true) (hlen : (lg_sl av).length ≤ nL) (hL : lv_args 0 av = L)
    (body : ∀ K1 K2 p e s m args below meth c, CxW t G l p s m args meth c y cc nL ret hh → VH mk t G p l e lv K1 K2 s m args below meth c nL 0 L [] u M) : CtW mk t G l y cc nL ret hh lv av u M := by
  intro w hw
  refine met_ofWH (cc := cc) (maxL := nL) (ret := ret) (hh := hh) hy rfl ?_
  intro p e s m args below meth c s₁ B hml hv
  obtain ⟨rfl, hrel, hk⟩ := hv
  have hts := atoms_spec (ws := wsW_ y cc nL ret hh) B.pre
  have htab := vx_table (x := y) B (hts _ List.mem_cons_self)
  have hts : ∀ w ∈ lw_all, w.before _ s = true := fun w h => hts w (List.mem_cons_of_mem _ h)
  have hl := lv_entry av (n := nL) hlen
  rw [lg_entry_eq]
  rw [hL] at hl
  exact body w.2.2.1 w.2.2.2 p e s m _ below meth c ⟨⟨⟨B.exec, B.bytes, hml, findClass_of_methodNamed B.named, hts, B.returns, B.notSynchronized, fun _ => (name_of_methodNamed B.named B.method).1, hk.1⟩, hk, hl0⟩, htab⟩ w hw s.heap [] _ 0 0 ⟨by omega, by omega⟩ hrel va_S.rf hl
theorem ctWX_of {av : List Value} {M : Option (OH (PX P))} {hh : List (Nat × Nat × Nat × Nat)} (L : List (Nat × Value)) (hl0 : l.stackTraces = false) (hy : plainName y.cls = true) (hlen : (lg_sl av).length ≤ nL) (hL : lv_args 0 av = L)
    (body : ∀ K1 K2 p e s m args below meth c, CxW t G l p s m args meth c y cc nL ret hh → VX mk t G p l e lv K1 K2 s m args below meth c nL 0 L [] u M) : CtWX mk t G l y cc nL ret hh lv av u M := by
  intro w hw
  refine vx_ofWH (cc := cc) (maxL := nL) (ret := ret) (hh := hh) hy rfl ?_
  intro p e s m args below meth c s₁ B hml hv
  obtain ⟨rfl, hrel, hk⟩ := hv
  have hts := atoms_spec (ws := wsW_ y cc nL ret hh) B.pre
  have htab := vx_table (x := y) B (hts _ List.mem_cons_self)
  have hts : ∀ w ∈ lw_all, w.before _ s = true := fun w h => hts w (List.mem_cons_of_mem _ h)
  have hl := lv_entry av (n := nL) hlen
  rw [lg_entry_eq]
  rw [hL] at hl
  exact body w.2.2.1 w.2.2.2 p e s m _ below meth c ⟨⟨⟨B.exec, B.bytes, hml, findClass_of_methodNamed B.named, hts, B.returns, B.notSynchronized, fun _ => (name_of_methodNamed B.named B.method).1, hk.1⟩, hk, hl0⟩, htab⟩ w hw s.heap [] _ 0 0 ⟨by omega, by omega⟩ hrel va_S.rf hl
end VHW
