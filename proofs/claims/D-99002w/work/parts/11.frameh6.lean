/-! mode H: what is never written, class objects, calls of inherited members, throws -/
section VHE
variable {P P2 O : Type} {mk : P → Option Value} {mk2 : P2 → Option Value} {K1 K2 lv lv2 : Nat} {Qw : O → HS → State → Prop} {p : Program} {l : Launch} {e : Env} {R : Room} {s : State} {m : MethodId} {args : Array Value} {below : List Frame} {meth : Method} {c : Code} {H : Heap} {locs : List Loc} {ls : Array Slot} {cells slots : Nat} {Q : State → Prop} {nL nL2 pc index n : Nat} {L : List (Nat × Value)} {st rest : List Value} {u : HS} {M M1 M2 : Option (OH O)} {t : TT} {G : GH} {y y2 : MethodName} {cc cc2 : ByteArray} {ret ret2 : Option FieldType} {X : Option (OH P2)} {k1 : P2 → HS → Option (OH O)}
theorem v_sbald (C0 : CxH t G l p s m args meth c y cc nL ret) {j : Int32} {a : Nat} (hj : inA u j a 33 = true) (d : decode cc pc = .ok (.baload, 1))
    (kk : BH t G K1 K2 Qw p l e R s m args below meth c nL (pc + 1) L (.int (hA u a j.toNatClampNeg) :: st) u M) : BH t G K1 K2 Qw p l e R s m args below meth c nL pc L (.int j :: .ref a :: st) u M := by
  intro w hw H locs ls cells slots ok rel hS hl
  obtain ⟨h1, hin⟩ := inA_k hj
  have hlt : j.toNatClampNeg < hN u a := Nat.not_le.mp fun q => hin (Or.inr q)
  obtain ⟨i, hi, ha, hn, hv⟩ := (rel.2.2.2.2.2 a).2.2.2.1 h1
  obtain ⟨-, -, -, scr, g1, g2, g3, g4, -, g6, g7⟩ := C0.2.1.2.1.1 i hi
  dsimp only at g1 g7
  rw [← ha] at g1 g7
  have hcs : H[a]? = some scr := by rw [hS.2.1 a (Array.getElem?_eq_some_iff.mp g1).1 g7]; exact g1
  rw [hn] at hlt hin
  have hval := hv _ hlt
  rw [hval] at kk
  exact W.bald (v := .int ((sByt.getD i []).getD j.toNatClampNeg 0)) C0.1.1 C0.1.2.1 hcs (State.isArrayOf_alike (Vm.Alike.refl _) g2) g3 (fun q => hin (q.imp id (fun q => by omega))) (g6 _ hlt) rfl rfl d (kk w hw H locs ls cells slots ok rel hS hl)
theorem v_salen (C0 : CxH t G l p s m args meth c y cc nL ret) {a : Nat} (hc : hC u a = 33 ∨ hC u a = 35) (d : decode cc pc = .ok (.arraylength, 1))
    (kk : BH t G K1 K2 Qw p l e R s m args below meth c nL (pc + 1) L (.int (Int32.ofNat (hN u a)) :: st) u M) : BH t G K1 K2 Qw p l e R s m args below meth c nL pc L (.ref a :: st) u M := by
  intro w hw H locs ls cells slots ok rel hS hl
  rcases hc with h1 | h1
  · obtain ⟨i, hi, ha, hn, hv⟩ := (rel.2.2.2.2.2 a).2.2.2.1 h1
    obtain ⟨-, -, -, scr, g1, g2, g3, -, g5, -, g7⟩ := C0.2.1.2.1.1 i hi
    dsimp only at g1 g7
    rw [← ha] at g1 g7
    have hcs : H[a]? = some scr := by rw [hS.2.1 a (Array.getElem?_eq_some_iff.mp g1).1 g7]; exact g1
    exact W.alen C0.1.1 C0.1.2.1 hcs g2 (by rw [g5, hn]) rfl rfl d (kk w hw H locs ls cells slots ok rel hS hl)
  · have hx := (rel.2.2.2.2.2 a).2.2.2.2.2 h1
    have hT0 : va_T (.object "java/lang/Object") a 0 (fun _ => .null) G.1 s s.heap := by
      rcases hx.1 with h | h
      · rw [h]; exact C0.2.1.e0
      · rw [h]; exact C0.2.1.e1
    obtain ⟨scr, g1, g2, g3, -, g5, -, g7⟩ := hT0
    have hcs : H[a]? = some scr := by rw [hS.2.1 a (Array.getElem?_eq_some_iff.mp g1).1 g7]; exact g1
    exact W.alen C0.1.1 C0.1.2.1 hcs g2 (by rw [g5, hx.2]) rfl rfl d (kk w hw H locs ls cells slots ok rel hS hl)
/-- the cache of boxes -/
theorem v_caald (C0 : CxH t G l p s m args meth c y cc nL ret) {j : Int32} {a : Nat} (hj : inA u j a 34 = true) (d : decode cc pc = .ok (.aaload, 1))
    (kk : BH t G K1 K2 Qw p l e R s m args below meth c nL (pc + 1) L (va_rf (hQ u a j.toNatClampNeg) :: st) u M) : BH t G K1 K2 Qw p l e R s m args below meth c nL pc L (.int j :: .ref a :: st) u M := by
  intro w hw H locs ls cells slots ok rel hS hl
  obtain ⟨h1, hin⟩ := inA_k hj
  have hlt : j.toNatClampNeg < hN u a := Nat.not_le.mp fun q => hin (Or.inr q)
  obtain ⟨ha, hn, hv⟩ := (rel.2.2.2.2.2 a).2.2.2.2.1 h1
  rw [hn] at hlt hin
  rw [hv _ hlt] at kk
  have hT0 := C0.2.1.cT
  rw [← ha] at hT0
  obtain ⟨scr, g1, g2, g3, g4, -, g6, g7⟩ := hT0
  have hcs : H[a]? = some scr := by rw [hS.2.1 a (Array.getElem?_eq_some_iff.mp g1).1 g7]; exact g1
  exact W.aald (v := .ref (G.2.1 (100 + j.toNatClampNeg))) C0.1.1 C0.1.2.1 hcs g2 rfl g3 (fun q => hin (q.imp id (fun q => by omega))) (g6 _ hlt) rfl rfl d (kk w hw H locs ls cells slots ok rel hS hl)
/-- getClass() -/
theorem v_getC (C0 : CxH t G l p s m args meth c y cc nL ret) {a mi : Nat} {C : String} (q1 : Cond.methodLink y.cls index ⟨"java/lang/Object", "getClass", "()Ljava/lang/Class;"⟩ ∈ lw_all) (q2 : Cond.declares ⟨"java/lang/Object", "getClass", "()Ljava/lang/Class;"⟩ ∈ lw_tbl) (q3 : Cond.selects C ⟨"java/lang/Object", "getClass", "()Ljava/lang/Class;"⟩ ⟨"java/lang/Object", "getClass", "()Ljava/lang/Class;"⟩ ∈ lw_all) (q4 : Cond.instanceMethod ⟨"java/lang/Object", "getClass", "()Ljava/lang/Class;"⟩ ∈ lw_all) (q5 : Cond.native ⟨"java/lang/Object", "getClass", "()Ljava/lang/Class;"⟩ ∈ lw_all) (hM : va_Mi C mi s)
    (hr : ∀ H locs, RelH t G u H → va_S G.1 s.heap H locs → ∃ cell : Cell, H[a]? = some cell ∧ cell.vm.isStatics = false ∧ s.vm.findClass C = some cell.cls) (hlv : 1 ≤ lv) (hsm : (st.map fun v => v.category).sum ≤ 8) (d : decode cc pc = .ok (.invokevirtual index, 3))
    (kk : BH t G K1 K2 Qw p l e (rmH lv K1 K2) s m args below meth c nL (pc + 3) L (.ref mi :: st) u M) : BH t G K1 K2 Qw p l e (rmH lv K1 K2) s m args below meth c nL pc L (.ref a :: st) u M := by
  intro w hw H locs ls cells slots ok rel hS hl
  exact va_getC C0.1.1 C0.1.2.1 (by rw [C0.1.2.2.1]; exact hl.1.symm) C0.1.2.2.2.1 (C0.1.2.2.2.2.1 _ q1) (va_Nw.use rfl (C0.1.2.2.2.2.2.2.2.2.2.1 _ q2 rfl)) (C0.1.2.2.2.2.1 _ q3) (C0.1.2.2.2.2.1 _ q4) (C0.1.2.2.2.2.1 _ q5) hM (hr H locs rel hS) hlv (by show _ ≤ 100 * lv; omega) d (kk w hw H locs ls cells slots ok rel hS hl)
/-- a row of objects (any) is of class Object[] -/
theorem recQ {a : Nat} (C0 : CxH t G l p s m args meth c y cc nL ret) (hc : hC u a = 25 ∨ hC u a = 35) : ∀ H locs, RelH t G u H → va_S G.1 s.heap H locs → ∃ cell : Cell, H[a]? = some cell ∧ cell.vm.isStatics = false ∧ s.vm.findClass "[Ljava/lang/Object;" = some cell.cls := by
  intro H locs rel hS
  have hK := C0.1.2.2.2.2.2.2.2.2.1
  obtain ⟨kA, comp, r1, r2, r3, r4⟩ := (hK.2 4 _ rfl).2
  rcases hc with h1 | h1
  · exact ⟨_, relC_qa (kd := 5) rel (Or.inl rfl) h1, rfl, r4⟩
  · have hx := (rel.2.2.2.2.2 a).2.2.2.2.2 h1
    have hO0 : va_O "[Ljava/lang/Object;" a G.1 s s.heap := by
      rcases hx.1 with h | h
      · rw [h]; exact C0.2.1.o0
      · rw [h]; exact C0.2.1.o1
    obtain ⟨cell, g1, g2, g3, -⟩ := hO0.kept hS.2.1
    exact ⟨cell, g1, g2, g3⟩
theorem v_ldcM (C0 : CxH t G l p s m args meth c y cc nL ret) {mi : Nat} {C : String} (q1 : Cond.classLink y.cls index C ∈ lw_all) (hM : va_Mi C mi s) (d : decode cc pc = .ok (.ldc index, 2))
    (kk : BH t G K1 K2 Qw p l e R s m args below meth c nL (pc + 2) L (.ref mi :: st) u M) : BH t G K1 K2 Qw p l e R s m args below meth c nL pc L st u M :=
  fun w hw H locs ls cells slots ok rel hS hl => va_ldcM C0.1.1 C0.1.2.1 C0.1.2.2.2.1 (C0.1.2.2.2.2.1 _ q1) hM d (kk w hw H locs ls cells slots ok rel hS hl)
/-- a member that a StringBuilder inherits -/
theorem v_callUH {b ci : Nat} {C2 owner : String} {T2 : u_T} {N2 : Nat} {x : MethodName} (C0 : CxH t G l p s m args meth c y cc nL ret) (As rest : List Value) (hct : CtH mk2 t G l y2 cc2 nL2 ret2 lv2 (.ref b :: As) u X)
    (cw : ∀ mc ms, va_CU (rmH lv K1 K2) s args y.cls C2 owner index x y2 cc2 nL2 ret2 (ws_ y2 cc2 nL2 ret2) (rmH lv2 mc ms) mc ms n) (hcb : hC u b = ci + 1) (h16 : ci < 16) (hcl : vwCl[ci]? = some (C2, T2, N2)) (hn : As.length = n) (hst : st = As.reverse ++ .ref b :: rest) (hsm : (rest.map fun v => v.category).sum ≤ 8) (d : decode cc pc = .ok (.invokevirtual index, 3))
    (kk : ∀ r u1, BH t G K1 K2 Qw p l e (rmH lv K1 K2) s m args below meth c nL (pc + 3) L ((mk2 r).toList ++ rest) u1 (k1 r u1)) : BH t G K1 K2 Qw p l e (rmH lv K1 K2) s m args below meth c nL pc L st u (hb X k1) :=
  v_callH (fun r H locs ls cells slots hr rel hS hl h1 h2 => va_runU (As := As) (rest := rest) (cfix C0) (hct r hr) (cw _ _) ⟨pcH_blind, recH C0.1.2.2.2.2.2.2.2.2 rel hcb h16 hcl, pcH_at C0 rel hS⟩ rfl hn hl.1 hst (lv_room hsm) d ⟨h1, h2⟩) kk
theorem v_callSUH {b ci : Nat} {C2 : String} {T2 : u_T} {N2 : Nat} (C0 : CxH t G l p s m args meth c y cc nL ret) (As rest : List Value) (hct : CtH mk2 t G l y2 cc2 nL2 ret2 lv2 (.ref b :: As) u X)
    (cw : ∀ mc ms, va_CS (rmH lv K1 K2) s args y.cls index y2 cc2 nL2 ret2 (ws_ y2 cc2 nL2 ret2) (rmH lv2 mc ms) mc ms n) (hcb : hC u b = ci + 1) (h16 : ci < 16) (hcl : vwCl[ci]? = some (C2, T2, N2)) (hn : As.length = n) (hst : st = As.reverse ++ .ref b :: rest) (hsm : (rest.map fun v => v.category).sum ≤ 8) (d : decode cc pc = .ok (.invokespecial index, 3))
    (kk : ∀ r u1, BH t G K1 K2 Qw p l e (rmH lv K1 K2) s m args below meth c nL (pc + 3) L ((mk2 r).toList ++ rest) u1 (k1 r u1)) : BH t G K1 K2 Qw p l e (rmH lv K1 K2) s m args below meth c nL pc L st u (hb X k1) :=
  v_callH (fun r H locs ls cells slots hr rel hS hl h1 h2 => va_runSU (As := As) (rest := rest) (C := C2) (C0.1.2.2.2.2.2.2.2.2.1.1 ci _ hcl).2 (cfix C0) (hct r hr) (cw _ _) ⟨pcH_blind, recH C0.1.2.2.2.2.2.2.2.2 rel hcb h16 hcl, pcH_at C0 rel hS⟩ rfl hn hl.1 hst (lv_room hsm) d ⟨h1, h2⟩) kk
/-! throws -/
def exChain : List String := ["java/lang/RuntimeException", "java/lang/Exception"]
def hthrow {P : Type} (i : Nat) (u : HS) : Option (OH (PX P)) := some (.inr (i, hZ u), nX u, 1, 6)
def hthrowA {P : Type} (i q : Nat) (u : HS) : Option (OH (PX P)) := some (.inr (i, q), u, 0, 0)
theorem relX {H1 : Heap} (rel : RelH t G u H) (z : H1.size = H.size + 1) (oq : ∀ q, q < H.size → H1[q]? = H[q]?) : RelH t G (nX u) H1 := by
  have e0 : hC (nX u) (hZ u) = 0 := up1_s _ _ _
  refine rel.push (fun b hb => ⟨up1_n _ _ hb, rfl, rfl, rfl, rfl, rfl, rfl⟩) rfl rfl rfl (by rw [e0]; omega) ⟨fun q => ?_, fun q => ?_, fun q => ?_, fun q => ?_⟩ z oq
  · rw [e0] at q; omega
  · rw [e0] at q; omega
  · rw [e0] at q; omega
  · rw [e0] at q; omega
theorem tbl_at (C0 : CxH t G l p s m args meth c y cc nL ret) {w : Cond} (hw : w ∈ lw_tbl) (hg : (goodWord w || nestWord w) = true) : w.before args s = true := by
  rw [Bool.or_eq_true] at hg
  rcases hg with hg | hg
  · exact C0.1.2.2.2.2.1 _ (List.mem_filter.mpr ⟨hw, hg⟩)
  · exact va_Nw.use (nestWord_tabs hg) (C0.1.2.2.2.2.2.2.2.2.2.1 _ hw hg)
theorem v_xthrow (C0 : CxX t G l p s m args meth c y cc nL ret) {cls : String} {ik ic : Nat} (i : Nat) (hi : exN i = cls) (hcls : Bundle.fit cls = true) (qk : Cond.classLink y.cls ik cls ∈ lw_all) (qi : Cond.initialized cls ∈ lw_all) (hat : ∀ w ∈ vx_at0 y.cls ic cls exChain, w ∈ lw_tbl ∧ (goodWord w || nestWord w) = true) (hgood : ∀ w ∈ Cond.classLink y.cls ik cls :: Cond.initialized cls :: vx_at0 y.cls ic cls exChain, vx_ot w = true) (hlv : 6 ≤ lv) (hsm : (st.map fun v => v.category).sum ≤ 8)
    (d0 : decode cc pc = .ok (.new ik, 3)) (d3 : decode cc (pc + 3) = .ok (.dup, 1)) (d4 : decode cc (pc + 4) = .ok (.invokespecial ic, 3)) (d7 : decode cc (pc + 7) = .ok (.athrow, 1)) : VX mk t G p l e lv K1 K2 s m args below meth c nL pc L st u (hthrow i u) := by
  intro w hw H locs ls cells slots ok rel hS hl
  cases hw
  obtain ⟨ok1, ok2⟩ := ok
  dsimp only at ok1 ok2
  refine vx_throw0 C0.1.1.1 C0.1.1.2.1 C0.1.2.2 (own := y.cls) (cls := cls) (names := exChain) (A := G.1) C0.1.1.2.2.2.1 hcls (by decide) (C0.1.1.2.2.2.2.1 _ qk) (C0.1.1.2.2.2.2.1 _ qi) (fun w hw => tbl_at C0.1 (hat w hw).1 (hat w hw).2) hgood C0.1.2.1.zU C0.1.2.1.zN hS (by rw [C0.1.1.2.2.1]; exact hl.1) d0 d3 d4 d7 (fun x hx => (C0.2 x hx).elim) (by show 2 + 3 < lv; omega) (by show _ + (13 * (2 + 1) + 42) ≤ 100 * lv; omega) (by show cells + 1 ≤ K1; omega) (by show slots + 6 ≤ K2; omega) C0.1.1.2.2.2.2.2.2.1 (fun T hv hz hk => ⟨i, by rw [rel.1], hi.symm, relX rel hz hk, Nat.le_trans hS.1 (by omega), fun q h1 h2 => ?_⟩) hS.2.2 (by omega) (by omega)
  rw [hk q (Nat.lt_of_lt_of_le h1 hS.1)]
  exact hS.2.1 q h1 h2
/-- the thrown object was made here -/
theorem v_xathrow (C0 : CxX t G l p s m args meth c y cc nL ret) {q : Nat} (hc : hC u q = 6) (d : decode cc pc = .ok (.athrow, 1)) : VX mk t G p l e lv K1 K2 s m args below meth c nL pc L (.ref q :: st) u (hthrowA 5 q u) := by
  intro w hw H locs ls cells slots ok rel hS hl
  cases hw
  obtain ⟨ok1, ok2⟩ := ok
  dsimp only at ok1 ok2
  obtain ⟨cell, h1, h2, h3, -⟩ := relC_ob (ci := 5) rel hc (by omega)
  have hf := (C0.1.1.2.2.2.2.2.2.2.2.1.1 5 _ rfl).2.1
  exact vx_athrow C0.1.1.1 C0.1.1.2.1 d (vx_out (E := RX6) (fun x hx => (C0.2 x hx).elim) C0.1.1.2.2.2.2.2.2.1 h1 h3 (by rw [h2]; exact hf) (fun T hT _ => ⟨5, rfl, rfl, by rw [hT]; exact rel, hS.F hT⟩) hS.2.2 (by omega) (by omega))
/-- a call that may throw; what is thrown goes on -/
theorem v_callX {a : Array Value} (C0 : CxX t G l p s m args meth c y cc nL ret) {X : Option (OH (PX P2))} {k1 : P2 → HS → Option (OH (PX P))} (hrun : ∀ (r : OH (PX P2)) (H : Heap) (locs : List Loc) (ls : Array Slot) (cells slots : Nat), X = some r → RelH t G u H → va_S G.1 s.heap H locs → lv_has ls nL L → cells + r.2.2.1 ≤ K1 → slots + r.2.2.2 ≤ K2 → vx_Run p l e (rmH lv K1 K2) s m args below meth c H locs cells slots r.2.2.1 r.2.2.2 (F0 m pc ls st) rest (QX mk2 t G r.1 r.2.1 a) (XX t G r.1 r.2.1) G.1)
    (kk : ∀ r u1, VX mk t G p l e lv K1 K2 s m args below meth c nL (pc + 3) L ((mk2 r).toList ++ rest) u1 (k1 r u1)) : VX mk t G p l e lv K1 K2 s m args below meth c nL pc L st u (hx X k1) := by
  intro w hw H locs ls cells slots ok rel hS hl
  obtain ⟨ok1, ok2⟩ := ok
  rcases hx_some hw with ⟨r, h1, c1, s1, v, hX, hk, rfl⟩ | ⟨q0, h1, c1, s1, hX, rfl⟩
  · dsimp only at ok1 ok2
    intro T hT Y
    rcases hrun _ H locs ls cells slots hX rel hS hl (by show cells + c1 ≤ K1; omega) (by show slots + s1 ≤ K2; omega) T hT Y with ⟨v0, st₀, t1, T', L2, h0, Y', hL2, e1, e2, ⟨r', er, hv, hrel, hF⟩, step⟩ | ⟨q, st₀, t1, T', L2, E, ce, h0, Y', hL2, e1, e2, ⟨i, er, -⟩, -⟩
    · cases er
      cases hv
      obtain ⟨t2, a1, b1⟩ := kk r h1 v hk t1.heap _ ls (cells + c1) (slots + s1) ⟨by omega, by omega⟩ hrel (va_S_call hS h0 hF (fun _ z => z) hL2) hl T' e1 Y'
      exact ⟨t2, step t2 a1, b1⟩
    · cases er
  · dsimp only at ok1 ok2
    intro T hT Y
    rcases hrun _ H locs ls cells slots hX rel hS hl (by show cells + c1 ≤ K1; omega) (by show slots + s1 ≤ K2; omega) T hT Y with ⟨v0, st₀, t1, T', L2, h0, Y', hL2, e1, e2, ⟨r', er, -⟩, step⟩ | ⟨q, st₀, t1, T', L2, E, ce, h0, Y', hL2, e1, e2, ⟨i, er, hE, hrel, hF⟩, hce, hcv, hcl, step⟩
    · cases er
    · have hS1 := va_S_call hS h0 hF (fun _ z => z) hL2
      cases er
      obtain ⟨t2, a1, b1⟩ := vx_out (m := m) (ls := ls) (rest := rest) (pc := pc) (H := t1.heap) (Qc := QX mk t G (.inr (i, q)) h1) (XC := XX t G (.inr (i, q) : PX P) h1) (fun x hx => (C0.2 x hx).elim) C0.1.1.2.2.2.2.2.2.1 hce hcv hcl (fun T2 hT2 _ => ⟨i, rfl, hE, by rw [hT2]; exact hrel, hS1.F hT2⟩) hS1.2.2 (by show cells + c1 ≤ K1; omega) (by show slots + s1 ≤ K2; omega) T' e1 Y'
      exact ⟨t2, step.trans a1, b1⟩
theorem v_callVX {b : Nat} {C2 : String} (C0 : CxX t G l p s m args meth c y cc nL ret) {X : Option (OH (PX P2))} {k1 : P2 → HS → Option (OH (PX P))} (As rest : List Value) (hct : CtX mk2 t G l y2 cc2 nL2 ret2 lv2 (.ref b :: As) u X)
    (cw : ∀ mc ms, CallW (rmH lv K1 K2) s args y.cls C2 index y2 cc2 nL2 ret2 (ws_ y2 cc2 nL2 ret2) (rmH lv2 mc ms) mc ms n) (hrc : ∀ H locs, RelH t G u H → va_S G.1 s.heap H locs → ∃ cell : Cell, H[b]? = some cell ∧ cell.vm.isStatics = false ∧ s.vm.findClass C2 = some cell.cls) (hn : As.length = n) (hst : st = As.reverse ++ .ref b :: rest) (hsm : (rest.map fun v => v.category).sum ≤ 8) (d : decode cc pc = .ok (.invokevirtual index, 3))
    (kk : ∀ r u1, VX mk t G p l e lv K1 K2 s m args below meth c nL (pc + 3) L ((mk2 r).toList ++ rest) u1 (k1 r u1)) : VX mk t G p l e lv K1 K2 s m args below meth c nL pc L st u (hx X k1) :=
  v_callX C0 (fun r H locs ls cells slots hr rel hS hl h1 h2 => vx_runV (As := As) (rest := rest) (cfix C0.1) (hct r hr) (cw _ _) ⟨pcH_blind, hrc H locs rel hS, pcH_at C0.1 rel hS⟩ rfl hn hl.1 hst (lv_room hsm) d ⟨h1, h2⟩) kk
theorem v_callSX (C0 : CxX t G l p s m args meth c y cc nL ret) {X : Option (OH (PX P2))} {k1 : P2 → HS → Option (OH (PX P))} (As rest : List Value) (hct : CtX mk2 t G l y2 cc2 nL2 ret2 lv2 As u X)
    (cw : ∀ mc ms, CallB (rmH lv K1 K2) s args y.cls index y2 cc2 nL2 ret2 (ws_ y2 cc2 nL2 ret2) (rmH lv2 mc ms) mc ms n ∧ (Cond.static y2).before args s = true) (hn : As.length = n) (hst : st = As.reverse ++ rest) (hsm : (rest.map fun v => v.category).sum ≤ 8) (d : decode cc pc = .ok (.invokestatic index, 3))
    (kk : ∀ r u1, VX mk t G p l e lv K1 K2 s m args below meth c nL (pc + 3) L ((mk2 r).toList ++ rest) u1 (k1 r u1)) : VX mk t G p l e lv K1 K2 s m args below meth c nL pc L st u (hx X k1) :=
  v_callX C0 (fun r H locs ls cells slots hr rel hS hl h1 h2 => vx_runS (As := As) (rest := rest) (cfix C0.1) (hct r hr) (cw _ _) ⟨pcH_blind, pcH_at C0.1 rel hS⟩ rfl hn hl.1 hst (lv_room hsm) d ⟨h1, h2⟩) kk
end VHE
