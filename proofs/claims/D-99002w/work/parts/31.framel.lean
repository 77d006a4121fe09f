/-! mode L: the law. State: what the WhiteBoard's side has (HS), what the model has (MS) -/
set_option maxRecDepth 100000
abbrev LST : Type := HS × MS
abbrev OL : Type := Int32 × Nat × Nat
def laddc (c s : Nat) (M : Option OL) : Option OL := match M with
  | some w => some (w.1, c + w.2.1, s + w.2.2)
  | none => none
theorem laddc_some {c s : Nat} {M : Option OL} {w : OL} (h : laddc c s M = some w) : ∃ v : OL, M = some v ∧ w = (v.1, c + v.2.1, s + v.2.2) := by
  cases M with
  | none => cases h
  | some v => exact ⟨v, rfl, (Option.some.inj h).symm⟩
/-- a call on the WhiteBoard's side -/
def lxc {P : Type} (X : Option (OH P)) (v : LST) (k : P → LST → Option OL) : Option OL := match X with
  | some w => laddc w.2.2.1 w.2.2.2 (k w.1 (w.2.1, v.2))
  | none => none
/-- a call of the model -/
def lmc {P : Type} (X : Option (P × MS)) (v : LST) (k : P → LST → Option OL) : Option OL := match X with
  | some w => k w.1 (v.1, w.2)
  | none => none
def lret (r : Int32) : Option OL := some (r, 0, 0)
theorem lxc_some {P : Type} {X : Option (OH P)} {v : LST} {k : P → LST → Option OL} {w : OL} (h : lxc X v k = some w) : ∃ (r : OH P) (z : OL), X = some r ∧ k r.1 (r.2.1, v.2) = some z ∧ w = (z.1, r.2.2.1 + z.2.1, r.2.2.2 + z.2.2) := by
  cases X with
  | none => cases h
  | some r =>
    obtain ⟨z, h1, h2⟩ := laddc_some h
    exact ⟨r, z, rfl, h1, h2⟩
theorem lmc_some {P : Type} {X : Option (P × MS)} {v : LST} {k : P → LST → Option OL} {w : OL} (h : lmc X v k = some w) : ∃ r : P × MS, X = some r ∧ k r.1 (v.1, r.2) = some w := by
  cases X with
  | none => cases h
  | some r => exact ⟨r, rfl, h⟩
def RelL (t : TT) (G : GH) (g : GM) (v : LST) (H : Heap) : Prop := RelH t G v.1 H ∧ RelM t g v.2 H
def OkL (w : OL) (c s : Nat) : Prop := w.1 = 1 ∧ c + w.2.1 ≤ 1200128 ∧ s + w.2.2 ≤ 5501098
section VL
variable {P2 : Type} {mk2 : P2 → Option Value} {lv2 : Nat} {p : Program} {l : Launch} {e : Env} {R : Room} {s : State} {m : MethodId} {args : Array Value} {below : List Frame} {meth : Method} {c : Code} {H : Heap} {locs : List Loc} {ls : Array Slot} {cells slots : Nat} {Q : State → Prop} {nL2 pc index n b b0 N : Nat} {xs : Nat → Int32} {L : List (Nat × Value)} {st rest : List Value} {v : LST} {M : Option OL} {t : TT} {G : GH} {g : GM} {y2 : MethodName} {cc2 : ByteArray} {ret2 : Option FieldType}
/-- less room will do -/
theorem w_room {R' : Room} {gf : JFrame} (h1 : R'.frames ≤ R.frames) (h2 : R'.locals ≤ R.locals) (h3 : R'.cells ≤ R.cells) (h4 : R'.slots ≤ R.slots) (k : W p l e R' s m args below meth c H locs cells slots Q gf) : W p l e R s m args below meth c H locs cells slots Q gf := by
  intro T hT X
  refine k T hT ⟨X.admits, X.cas, X.clock, X.frames, ?_, X.hears, X.method, X.code, X.here, X.tail, X.warmed, X.limits, X.bytes, X.same⟩
  have h := X.room
  simp only [State.hasRoom, Bool.and_eq_true, decide_eq_true_eq] at h ⊢
  obtain ⟨⟨⟨⟨a1, a2⟩, a3⟩, a4⟩, a5⟩ := h
  exact ⟨⟨⟨⟨by omega, by omega⟩, by omega⟩, by omega⟩, a5⟩
theorem lw_ret9 {b : Nat} (hx : p.tables.exec = Jvm.exec) (hb : c.code = code) (hr : meth.sig.returnType = Pilot.CWhiteBoardLaw_law_r5622_b3886e.ret) (hlocks : meth.locks = false) {pc : Nat} {H : Heap} {ls : Array Slot} (hdg : decode code pc = .ok (.ireturn, 1)) : W p l e R s m #[Value.ref b] below meth c H [] 1200128 5501098 (lw_Z below #[Value.ref b] s) (F0 m pc ls [.int 1]) := by
  intro T hT X
  obtain ⟨fs, hret, hrun, hended, hW, hframe⟩ := X.leave (v := some (.int 1)) (hlocks := hlocks) (fun h => by rw [hr] at h; cases h)
  have hmeth' : T.vm.method? m = some meth := X.method'
  refine ⟨T.setFrames fs, ?_, .returned (some (.int 1)), hrun, hended, rfl, ⟨_, rfl⟩, hW, hframe⟩
  jvm_step X.here [X.here.top, hx, hb, hdg, hmeth', hr, Pilot.CWhiteBoardLaw_law_r5622_b3886e.ret, narrow_b1]
  (try refine ⟨rfl, ?_⟩); (try refine ⟨rfl, ?_⟩)
  first | (intro acts; rw [hret _ acts rfl rfl rfl]) | rw [hret _ _ rfl rfl rfl]
  exact Steps.refl _
/-- the law's walk: what holds all along -/
def CxL (t : TT) (G : GH) (g : GM) (l : Launch) (p : Program) (s : State) (m : MethodId) (b : Nat) (meth : Method) (c : Code) (N : Nat) (xs : Nat → Int32) : Prop :=
  CxH t G l p s m #[Value.ref b] meth c x code 7 Pilot.CWhiteBoardLaw_law_r5622_b3886e.ret ∧ (∀ q, G.1 q → s.heap.size ≤ q ∧ ¬ AM g q) ∧ (∀ q, AM g q → s.heap.size ≤ q) ∧ va_X b N xs s s.heap ∧ b < s.heap.size
abbrev VL (t : TT) (G : GH) (g : GM) (p : Program) (l : Launch) (e : Env) (s : State) (m : MethodId) (b : Nat) (below : List Frame) (meth : Method) (c : Code) (pc : Nat) (L : List (Nat × Value)) (st : List Value) (v : LST) (M : Option OL) : Prop :=
  VV (S := LST) (O := OL) (RelL t G g) OkL (fun _ => lw_Z below #[Value.ref b] s) (fun q => s.heap.size ≤ q) p l e (rmH 1000 1200128 5501098) s m #[Value.ref b] below meth c 7 pc L st v M
theorem relM_kept {u : MS} {H1 : Heap} (r : RelM t g u H) (h : ∀ q, AM g q → q < H.size → H1[q]? = H[q]?) : RelM t g u H1 := by
  obtain ⟨r1, r2, r3⟩ := r
  refine ⟨r1, r2.kept (h _ (Or.inl rfl) ?_), fun k hk => ?_⟩
  · obtain ⟨cell, q1, -⟩ := r2
    exact (Array.getElem?_eq_some_iff.mp q1).1
  · rw [h _ (Or.inr ⟨k, hk, rfl⟩) (Array.getElem?_eq_some_iff.mp (r3 k hk)).1]
    exact r3 k hk
theorem relH_kept {h : HS} {H1 : Heap} (r : RelH t G h H) (hG : ∀ q, G.1 q → ¬ AM g q) (z : H1.size = H.size) (hq : ∀ q, ¬ AM g q → q < H.size → H1[q]? = H[q]?) : RelH t G h H1 := by
  obtain ⟨r1, r2, r3, r4, r5, r6⟩ := id r
  refine ⟨by rw [z]; exact r1, r2, r3, by rw [z]; exact r4, r5, fun a => ⟨?_, (r6 a).2⟩⟩
  by_cases ha : 1 ≤ hC h a ∧ hC h a < 30
  · by_cases hz : a < H.size
    · exact relC_same ⟨rfl, rfl, rfl, rfl, rfl, rfl, rfl⟩ (hq a (hG a (r5 a ha.1 ha.2)) hz) (r6 a).1
    · have := r.out (b := a) (Nat.le_of_not_lt hz)
      exact ⟨fun a1 a2 => absurd (Or.inl ⟨a1, a2⟩) this, fun a1 => absurd (Or.inr ⟨by omega, by omega⟩) this, fun a1 => absurd (Or.inr ⟨by omega, by omega⟩) this, fun a1 => absurd (Or.inr ⟨by omega, by omega⟩) this⟩
  · exact ⟨fun a1 a2 => absurd ⟨a1, by omega⟩ ha, fun a1 => absurd ⟨by omega, by omega⟩ ha, fun a1 => absurd ⟨by omega, by omega⟩ ha, fun a1 => absurd ⟨by omega, by omega⟩ ha⟩
theorem met_size {y : MethodName} {ws : List Cond} {rm : Room} {Pc : Array Value → State → Prop} {Qc : Array Value → State → Outcome → State → Prop} {free : Addr → Prop} (hM : Met l y ws rm Pc Qc 0 0 free) : Met l y ws rm Pc (fun a st o T => Qc a st o T ∧ T.heap.size = st.heap.size) 0 0 free := by
  intro p e ha hc hk s m args below hf hap hP hK
  obtain ⟨n, o, h1, h2, h3, h4, L, hL, hL2⟩ := hM p e ha hc hk s m args below hf hap hP hK
  refine ⟨n, o, h1, h2, h3, ⟨h4, ?_⟩, L, hL, hL2⟩
  obtain ⟨-, -, -, a1, a2, -⟩ := hL
  exact Nat.le_antisymm a2 a1
theorem pcL_at {av : List Value} (C0 : CxL t G g l p s m b meth c N xs) {h : HS} (rel : RelH t G h H) (hS : va_S (fun q => s.heap.size ≤ q) s.heap H locs) : ∀ U : State, U.heap = H → s.WarmedH U.vm → PcH t G av h av.toArray U := fun U hU hW => ⟨rfl, by rw [hU]; exact rel, by rw [hU]; exact (C0.1.2.1.kept fun q hq _ => hS.2.1 q hq (Nat.not_le.mpr hq)).warm hW⟩
theorem v_callLX {a : Array Value} {X : Option (OH P2)} {k1 : P2 → LST → Option OL} (C0 : CxL t G g l p s m b meth c N xs) (hrun : ∀ (r : OH P2) (H : Heap) (locs : List Loc) (ls : Array Slot) (cells slots : Nat), X = some r → RelH t G v.1 H → va_S (fun q => s.heap.size ≤ q) s.heap H locs → lv_has ls 7 L → cells + r.2.2.1 ≤ 1200128 → slots + r.2.2.2 ≤ 5501098 → va_Run p l e (rmH 1000 1200128 5501098) s m #[Value.ref b] below meth c H locs cells slots r.2.2.1 r.2.2.2 (F0 m pc ls st) rest (QH mk2 t G r.1 r.2.1 a) G.1)
    (kk : ∀ r v1, VL t G g p l e s m b below meth c (pc + 3) L ((mk2 r).toList ++ rest) v1 (k1 r v1)) : VL t G g p l e s m b below meth c pc L st v (lxc X v k1) := by
  intro w hw H locs ls cells slots ok rel hS hl
  obtain ⟨r, z, hr, hk, rfl⟩ := lxc_some hw
  obtain ⟨ok0, ok1, ok2⟩ := ok
  dsimp only at ok0 ok1 ok2
  refine w_call (hrun r H locs ls cells slots hr rel.1 hS hl (by omega) (by omega)) (fun v0 st₀ T L2 h0 hq hL2 => ?_)
  obtain ⟨hv, hrel, hF⟩ := hq
  cases hv
  have hM : RelM t g v.2 T.heap := relM_kept rel.2 fun q h1 h2 => by
    rw [hF.2 q (by rw [h0]; exact h2) (fun hg => (C0.2.1 q hg).2 h1), h0]
  exact kk r.1 (r.2.1, v.2) z hk T.heap _ ls (cells + _) (slots + _) ⟨ok0, by omega, by omega⟩ ⟨hrel, hM⟩ (va_S_call hS h0 hF (fun q hg => (C0.2.1 q hg).1) hL2) hl
theorem v_callLS {hh2 : List (Nat × Nat × Nat × Nat)} {X : Option (OH P2)} {k1 : P2 → LST → Option OL} (C0 : CxL t G g l p s m b meth c N xs) (As rest : List Value) (hct : CtW mk2 t G l y2 cc2 nL2 ret2 hh2 lv2 As v.1 X)
    (cw : ∀ mc ms, vx_CSW (rmH 1000 1200128 5501098) s #[Value.ref b] x.cls index y2 cc2 nL2 ret2 hh2 (wsW_ y2 cc2 nL2 ret2 hh2) (rmH lv2 mc ms) mc ms n) (hn : As.length = n) (hst : st = As.reverse ++ rest) (hsm : (rest.map fun v => v.category).sum ≤ 8) (d : decode code pc = .ok (.invokestatic index, 3))
    (kk : ∀ r v1, VL t G g p l e s m b below meth c (pc + 3) L ((mk2 r).toList ++ rest) v1 (k1 r v1)) : VL t G g p l e s m b below meth c pc L st v (lxc X v k1) :=
  v_callLX C0 (fun r H locs ls cells slots hr rel hS hl h1 h2 => vx_runSW (As := As) (rest := rest) (cfix C0.1) (hct r hr) (cw _ _) ⟨pcH_blind, pcL_at C0 rel hS⟩ rfl hn hl.1 hst (lv_room hsm) d ⟨h1, h2⟩) kk
theorem v_callLV {b2 ci : Nat} {C2 : String} {T2 : u_T} {N2 : Nat} {X : Option (OH P2)} {k1 : P2 → LST → Option OL} (C0 : CxL t G g l p s m b meth c N xs) (As rest : List Value) (hct : CtH mk2 t G l y2 cc2 nL2 ret2 lv2 (.ref b2 :: As) v.1 X)
    (cw : ∀ mc ms, CallW (rmH 1000 1200128 5501098) s #[Value.ref b] x.cls C2 index y2 cc2 nL2 ret2 (ws_ y2 cc2 nL2 ret2) (rmH lv2 mc ms) mc ms n) (hcb : hC v.1 b2 = ci + 1) (h16 : ci < 16) (hcl : vwCl[ci]? = some (C2, T2, N2)) (hn : As.length = n) (hst : st = As.reverse ++ .ref b2 :: rest) (hsm : (rest.map fun v => v.category).sum ≤ 8) (d : decode code pc = .ok (.invokevirtual index, 3))
    (kk : ∀ r v1, VL t G g p l e s m b below meth c (pc + 3) L ((mk2 r).toList ++ rest) v1 (k1 r v1)) : VL t G g p l e s m b below meth c pc L st v (lxc X v k1) :=
  v_callLX C0 (fun r H locs ls cells slots hr rel hS hl h1 h2 => va_runV (As := As) (rest := rest) (cfix C0.1) (hct r hr) (cw _ _) ⟨pcH_blind, recH C0.1.1.2.2.2.2.2.2.2.2 rel hcb h16 hcl, pcL_at C0 rel hS⟩ rfl hn hl.1 hst (lv_room hsm) d ⟨h1, h2⟩) kk
theorem v_callLM {X : Option (P2 × MS)} {k1 : P2 → LST → Option OL} (C0 : CxL t G g l p s m b meth c N xs) (As rest : List Value) (hct : CtM mk2 t g l y2 cc2 nL2 ret2 lv2 (.ref g.1 :: As) v.2 X)
    (cw : CallW (rmM 1000) s #[Value.ref b] x.cls RX4 index y2 cc2 nL2 ret2 (ws_ y2 cc2 nL2 ret2) (rmM lv2) 0 0 n) (hn : As.length = n) (hst : st = As.reverse ++ .ref g.1 :: rest) (hsm : (rest.map fun v => v.category).sum ≤ 8) (d : decode code pc = .ok (.invokevirtual index, 3))
    (kk : ∀ r v1, VL t G g p l e s m b below meth c (pc + 3) L ((mk2 r).toList ++ rest) v1 (k1 r v1)) : VL t G g p l e s m b below meth c pc L st v (lmc X v k1) := by
  intro w hw H locs ls cells slots ok rel hS hl
  obtain ⟨r, hr, hk⟩ := lmc_some hw
  have ok' := ok
  obtain ⟨ok0, ok1, ok2⟩ := ok'
  have hKK := C0.1.1.2.2.2.2.2.2.2.2
  have hP : PreV s H RX4 g.1 (va_Pc (.ref g.1 :: As) (fun U => RelM t g v.2 U.heap ∧ KK t U)) As := ⟨pcM_blind, recM rel.2 hKK, fun U hU hW => ⟨rfl, by rw [hU]; exact rel.2, hKK.warm hW⟩⟩
  have cw' : CallW (rmH 1000 1200128 5501098) s #[Value.ref b] x.cls RX4 index y2 cc2 nL2 ret2 (ws_ y2 cc2 nL2 ret2) (rmM lv2) 0 0 n := cw
  refine w_call (va_runV (As := As) (rest := rest) (cfix C0.1) (met_size (hct r hr)) cw' hP rfl hn hl.1 hst (lv_room hsm) d ⟨by show cells + 0 ≤ 1200128; omega, by show slots + 0 ≤ 5501098; omega⟩) (fun v0 st₀ T L2 h0 hq hL2 => ?_)
  obtain ⟨⟨hv, hrel, hF⟩, hz⟩ := hq
  cases hv
  have hH : RelH t G v.1 T.heap := relH_kept rel.1 (fun q hg => (C0.2.1 q hg).2) (by rw [hz, h0]) fun q h1 h2 => by
    rw [hF.2 q (by rw [h0]; exact h2) h1, h0]
  exact kk r.1 (v.1, r.2) w hk T.heap _ ls cells slots ok ⟨hH, hrel⟩ (va_S_call hS h0 hF (fun q hg => C0.2.2.1 q hg) hL2) hl
theorem v_Llald (C0 : CxL t G g l p s m b meth c N xs) {j : Int32} {a : Nat} (hj : inA v.1 j a 24 = true) (d : decode code pc = .ok (.laload, 1))
    (kk : VL t G g p l e s m b below meth c (pc + 1) L (.long (hJ v.1 a j.toNatClampNeg) :: st) v M) : VL t G g p l e s m b below meth c pc L (.int j :: .ref a :: st) v M := by
  intro w hw H locs ls cells slots ok rel hS hl
  obtain ⟨h1, hin⟩ := inA_k hj
  have hlt : j.toNatClampNeg < hN v.1 a := Nat.not_le.mp fun q => hin (Or.inr q)
  have hcell := relC_la rel.1 h1
  exact W.lald (v := .long (hJ v.1 a j.toNatClampNeg)) C0.1.1.1 C0.1.1.2.1 hcell ((C0.1.1.2.2.2.2.2.2.2.2.1.2 3 _ rfl).1 _ _) (fun q => by cases q) (by rw [arrV_size]; exact hin) (by rw [arrV_read _ _ hlt]) rfl rfl d (kk w hw H locs ls cells slots ok rel hS hl)
theorem v_Lscr (C0 : CxL t G g l p s m b meth c N xs) {j : Int32} (hj : inb j N = true) (d : decode code pc = .ok (.iaload, 1))
    (kk : VL t G g p l e s m b below meth c (pc + 1) L (.int (xs j.toNatClampNeg) :: st) v M) : VL t G g p l e s m b below meth c pc L (.int j :: .ref b :: st) v M := by
  intro w hw H locs ls cells slots ok rel hS hl
  have hin := inb_vp hj
  have hlt : j.toNatClampNeg < N := Nat.not_le.mp fun q => hin (Or.inr q)
  obtain ⟨scr, g1, g2, g3, g4, g5⟩ := C0.2.2.2.1
  have hcell : H[b]? = some scr := by rw [hS.2.1 b C0.2.2.2.2 (Nat.not_le.mpr C0.2.2.2.2)]; exact g1
  exact W.iald (v := .int (xs j.toNatClampNeg)) C0.1.1.1 C0.1.1.2.1 hcell g2 g3 (by rw [g4]; exact hin) (g5 _ hlt) rfl rfl d (kk w hw H locs ls cells slots ok rel hS hl)
theorem v_Llen (C0 : CxL t G g l p s m b meth c N xs) (d : decode code pc = .ok (.arraylength, 1))
    (kk : VL t G g p l e s m b below meth c (pc + 1) L (.int (Int32.ofNat N) :: st) v M) : VL t G g p l e s m b below meth c pc L (.ref b :: st) v M := by
  intro w hw H locs ls cells slots ok rel hS hl
  obtain ⟨scr, g1, g2, g3, g4, g5⟩ := C0.2.2.2.1
  have hcell : H[b]? = some scr := by rw [hS.2.1 b C0.2.2.2.2 (Nat.not_le.mpr C0.2.2.2.2)]; exact g1
  exact W.alen C0.1.1.1 C0.1.1.2.1 hcell g2 (by rw [g4]) rfl rfl d (kk w hw H locs ls cells slots ok rel hS hl)
theorem v_lret (C0 : CxL t G g l p s m b meth c N xs) {r : Int32} (d : decode code pc = .ok (.ireturn, 1)) : VL t G g p l e s m b below meth c pc L [.int r] v (lret r) := by
  intro w hw H locs ls cells slots ok rel hS hl
  cases hw
  obtain ⟨ok0, ok1, ok2⟩ := ok
  dsimp only at ok0 ok1 ok2
  subst ok0
  exact W.widen (Nat.le_trans (Nat.le_add_right _ _) ok1) (Nat.le_trans (Nat.le_add_right _ _) ok2) (va_forget hS.2.2 (lw_ret9 C0.1.1.1 C0.1.1.2.1 C0.1.1.2.2.2.2.2.1 C0.1.1.2.2.2.2.2.2.1 d))
end VL
