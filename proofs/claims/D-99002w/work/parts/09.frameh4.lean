/-! mode H: calls, returns, throws -/
section VHC
variable {P P2 O : Type} {mk2 : P2 → Option Value} {K1 K2 lv lv2 : Nat} {Qw : O → HS → State → Prop} {p : Program} {l : Launch} {e : Env} {R : Room} {s : State} {m : MethodId} {args : Array Value} {below : List Frame} {meth : Method} {c : Code} {H : Heap} {locs : List Loc} {ls : Array Slot} {cells slots : Nat} {Q : State → Prop} {nL nL2 pc index n : Nat} {L : List (Nat × Value)} {st rest : List Value} {u : HS} {M M1 M2 : Option (OH O)} {t : TT} {G : GH} {y y2 : MethodName} {cc cc2 : ByteArray} {ret ret2 : Option FieldType} {X : Option (OH P2)} {k1 : P2 → HS → Option (OH O)}
theorem pcH_blind {av : List Value} {h : HS} : FrameBlind (PcH t G av h) := fun a U gf mk q => ⟨q.1, q.2.1, KW.same (u := U) (U := U.calling gf mk a) rfl q.2.2⟩
theorem pcH_at {av : List Value} (C0 : CxH t G l p s m args meth c y cc nL ret) (rel : RelH t G u H) (hS : va_S G.1 s.heap H locs) : ∀ U : State, U.heap = H → s.WarmedH U.vm → PcH t G av u av.toArray U := fun U hU hW => ⟨rfl, by rw [hU]; exact rel, by rw [hU]; exact (C0.2.1.kept hS.2.1).warm hW⟩
theorem v_callH {a : Array Value} (hrun : ∀ (r : OH P2) (H : Heap) (locs : List Loc) (ls : Array Slot) (cells slots : Nat), X = some r → RelH t G u H → va_S G.1 s.heap H locs → lv_has ls nL L → cells + r.2.2.1 ≤ K1 → slots + r.2.2.2 ≤ K2 → va_Run p l e (rmH lv K1 K2) s m args below meth c H locs cells slots r.2.2.1 r.2.2.2 (F0 m pc ls st) rest (QH mk2 t G r.1 r.2.1 a) G.1)
    (kk : ∀ r u1, BH t G K1 K2 Qw p l e (rmH lv K1 K2) s m args below meth c nL (pc + 3) L ((mk2 r).toList ++ rest) u1 (k1 r u1)) : BH t G K1 K2 Qw p l e (rmH lv K1 K2) s m args below meth c nL pc L st u (hb X k1) := by
  intro w hw H locs ls cells slots ok rel hS hl
  obtain ⟨r, v, hr, hk, rfl⟩ := hb_some hw
  obtain ⟨ok1, ok2⟩ := ok
  dsimp only at ok1 ok2
  refine w_call (hrun r H locs ls cells slots hr rel hS hl (by omega) (by omega)) (fun v0 st₀ T L2 h0 hq hL2 => ?_)
  obtain ⟨hv, hrel, hF⟩ := hq
  cases hv
  exact kk r.1 r.2.1 v hk T.heap _ ls (cells + _) (slots + _) ⟨by omega, by omega⟩ hrel (va_S_call hS h0 hF (fun _ z => z) hL2) hl
theorem w_call5 {pc : Nat} {st0 : List Value} {mc ms : Nat} {Qa : State → Outcome → State → Prop} {free : Addr → Prop} (hr : va_Run5 p l e R s m args below meth c H locs cells slots mc ms (F0 m pc ls st0) rest Qa free)
    (kk : ∀ (v : Option Value) (st₀ T : State) (L : List Loc), st₀.heap = H → Qa st₀ (.returned v) T → (∀ q ∈ L, free q.base) → W p l e R s m args below meth c T.heap (locs ++ L) (cells + mc) (slots + ms) Q (F0 m (pc + 5) ls (v.toList ++ rest))) : W p l e R s m args below meth c H locs cells slots Q (F0 m pc ls st0) := by
  intro T hT X
  obtain ⟨v, st₀, t1, T', L, h0, X', hL, e1, e2, hq, st⟩ := hr T hT X
  obtain ⟨t2, a1, b1⟩ := kk v st₀ t1 L h0 hq hL T' e1 X'
  exact ⟨t2, st t2 a1, b1⟩
theorem v_callH5 {a : Array Value} (hrun : ∀ (r : OH P2) (H : Heap) (locs : List Loc) (ls : Array Slot) (cells slots : Nat), X = some r → RelH t G u H → va_S G.1 s.heap H locs → lv_has ls nL L → cells + r.2.2.1 ≤ K1 → slots + r.2.2.2 ≤ K2 → va_Run5 p l e (rmH lv K1 K2) s m args below meth c H locs cells slots r.2.2.1 r.2.2.2 (F0 m pc ls st) rest (QH mk2 t G r.1 r.2.1 a) G.1)
    (kk : ∀ r u1, BH t G K1 K2 Qw p l e (rmH lv K1 K2) s m args below meth c nL (pc + 5) L ((mk2 r).toList ++ rest) u1 (k1 r u1)) : BH t G K1 K2 Qw p l e (rmH lv K1 K2) s m args below meth c nL pc L st u (hb X k1) := by
  intro w hw H locs ls cells slots ok rel hS hl
  obtain ⟨r, v, hr, hk, rfl⟩ := hb_some hw
  obtain ⟨ok1, ok2⟩ := ok
  dsimp only at ok1 ok2
  refine w_call5 (hrun r H locs ls cells slots hr rel hS hl (by omega) (by omega)) (fun v0 st₀ T L2 h0 hq hL2 => ?_)
  obtain ⟨hv, hrel, hF⟩ := hq
  cases hv
  exact kk r.1 r.2.1 v hk T.heap _ ls (cells + _) (slots + _) ⟨by omega, by omega⟩ hrel (va_S_call hS h0 hF (fun _ z => z) hL2) hl
abbrev cfix (C0 : CxH t G l p s m args meth c y cc nL ret) : CallFix p m c cc nL s args lw_all y.cls := ⟨C0.1.1, C0.1.2.1, C0.1.2.2.1, C0.1.2.2.2.1, C0.1.2.2.2.2.1⟩
theorem v_callVH {b : Nat} {C2 : String} (C0 : CxH t G l p s m args meth c y cc nL ret) (As rest : List Value) (hct : CtH mk2 t G l y2 cc2 nL2 ret2 lv2 (.ref b :: As) u X)
    (cw : ∀ mc ms, CallW (rmH lv K1 K2) s args y.cls C2 index y2 cc2 nL2 ret2 (ws_ y2 cc2 nL2 ret2) (rmH lv2 mc ms) mc ms n) (hrc : ∀ H locs, RelH t G u H → va_S G.1 s.heap H locs → ∃ cell : Cell, H[b]? = some cell ∧ cell.vm.isStatics = false ∧ s.vm.findClass C2 = some cell.cls) (hn : As.length = n) (hst : st = As.reverse ++ .ref b :: rest) (hsm : (rest.map fun v => v.category).sum ≤ 8) (d : decode cc pc = .ok (.invokevirtual index, 3))
    (kk : ∀ r u1, BH t G K1 K2 Qw p l e (rmH lv K1 K2) s m args below meth c nL (pc + 3) L ((mk2 r).toList ++ rest) u1 (k1 r u1)) : BH t G K1 K2 Qw p l e (rmH lv K1 K2) s m args below meth c nL pc L st u (hb X k1) :=
  v_callH (fun r H locs ls cells slots hr rel hS hl h1 h2 => va_runV (As := As) (rest := rest) (cfix C0) (hct r hr) (cw _ _) ⟨pcH_blind, hrc H locs rel hS, pcH_at C0 rel hS⟩ rfl hn hl.1 hst (lv_room hsm) d ⟨h1, h2⟩) kk
theorem v_callSH (C0 : CxH t G l p s m args meth c y cc nL ret) (As rest : List Value) (hct : CtH mk2 t G l y2 cc2 nL2 ret2 lv2 As u X)
    (cw : ∀ mc ms, CallB (rmH lv K1 K2) s args y.cls index y2 cc2 nL2 ret2 (ws_ y2 cc2 nL2 ret2) (rmH lv2 mc ms) mc ms n ∧ (Cond.static y2).before args s = true) (hn : As.length = n) (hst : st = As.reverse ++ rest) (hsm : (rest.map fun v => v.category).sum ≤ 8) (d : decode cc pc = .ok (.invokestatic index, 3))
    (kk : ∀ r u1, BH t G K1 K2 Qw p l e (rmH lv K1 K2) s m args below meth c nL (pc + 3) L ((mk2 r).toList ++ rest) u1 (k1 r u1)) : BH t G K1 K2 Qw p l e (rmH lv K1 K2) s m args below meth c nL pc L st u (hb X k1) :=
  v_callH (fun r H locs ls cells slots hr rel hS hl h1 h2 => va_runS (As := As) (rest := rest) (cfix C0) (hct r hr) (cw _ _) ⟨pcH_blind, pcH_at C0 rel hS⟩ rfl hn hl.1 hst (lv_room hsm) d ⟨h1, h2⟩) kk
theorem v_callIH {b : Nat} (C0 : CxH t G l p s m args meth c y cc nL ret) (As rest : List Value) (hct : CtH mk2 t G l y2 cc2 nL2 none lv2 (.ref b :: As) u X)
    (cw : ∀ mc ms, CallB (rmH lv K1 K2) s args y.cls index y2 cc2 nL2 none (ws_ y2 cc2 nL2 none) (rmH lv2 mc ms) mc ms n ∧ y2.name = "<init>" ∧ (Cond.instanceMethod y2).before args s = true) (hn : As.length = n) (hst : st = As.reverse ++ .ref b :: rest) (hsm : (rest.map fun v => v.category).sum ≤ 8) (d : decode cc pc = .ok (.invokespecial index, 3))
    (kk : ∀ r u1, BH t G K1 K2 Qw p l e (rmH lv K1 K2) s m args below meth c nL (pc + 3) L ((mk2 r).toList ++ rest) u1 (k1 r u1)) : BH t G K1 K2 Qw p l e (rmH lv K1 K2) s m args below meth c nL pc L st u (hb X k1) :=
  v_callH (fun r H locs ls cells slots hr rel hS hl h1 h2 => va_runI (As := As) (rest := rest) (cfix C0) (hct r hr) (cw _ _) ⟨pcH_blind, pcH_at C0 rel hS⟩ rfl hn hl.1 hst (lv_room hsm) d ⟨h1, h2⟩) kk
theorem v_callVNH {b : Nat} {C2 host : String} (C0 : CxH t G l p s m args meth c y cc nL ret) (As rest : List Value) (hct : CtH mk2 t G l y2 cc2 nL2 ret2 lv2 (.ref b :: As) u X)
    (cw : ∀ mc ms, va_CN (rmH lv K1 K2) s args y.cls index y2 host cc2 nL2 ret2 (ws_ y2 cc2 nL2 ret2) (rmH lv2 mc ms) mc ms n ∧ (Cond.instanceMethod y2).before args s = true ∧ (Cond.selects C2 y2 y2).before args s = true) (hrc : ∀ H locs, RelH t G u H → va_S G.1 s.heap H locs → ∃ cell : Cell, H[b]? = some cell ∧ cell.vm.isStatics = false ∧ s.vm.findClass C2 = some cell.cls) (hn : As.length = n) (hst : st = As.reverse ++ .ref b :: rest) (hsm : (rest.map fun v => v.category).sum ≤ 8) (d : decode cc pc = .ok (.invokevirtual index, 3))
    (kk : ∀ r u1, BH t G K1 K2 Qw p l e (rmH lv K1 K2) s m args below meth c nL (pc + 3) L ((mk2 r).toList ++ rest) u1 (k1 r u1)) : BH t G K1 K2 Qw p l e (rmH lv K1 K2) s m args below meth c nL pc L st u (hb X k1) :=
  v_callH (fun r H locs ls cells slots hr rel hS hl h1 h2 => va_runVN (As := As) (rest := rest) (cfix C0) (hct r hr) (cw _ _) ⟨pcH_blind, hrc H locs rel hS, pcH_at C0 rel hS⟩ rfl hn hl.1 hst (lv_room hsm) d ⟨h1, h2⟩) kk
theorem v_callSNH {host : String} (C0 : CxH t G l p s m args meth c y cc nL ret) (As rest : List Value) (hct : CtH mk2 t G l y2 cc2 nL2 ret2 lv2 As u X)
    (cw : ∀ mc ms, va_CN (rmH lv K1 K2) s args y.cls index y2 host cc2 nL2 ret2 (ws_ y2 cc2 nL2 ret2) (rmH lv2 mc ms) mc ms n ∧ (Cond.static y2).before args s = true ∧ True) (hn : As.length = n) (hst : st = As.reverse ++ rest) (hsm : (rest.map fun v => v.category).sum ≤ 8) (d : decode cc pc = .ok (.invokestatic index, 3))
    (kk : ∀ r u1, BH t G K1 K2 Qw p l e (rmH lv K1 K2) s m args below meth c nL (pc + 3) L ((mk2 r).toList ++ rest) u1 (k1 r u1)) : BH t G K1 K2 Qw p l e (rmH lv K1 K2) s m args below meth c nL pc L st u (hb X k1) :=
  v_callH (fun r H locs ls cells slots hr rel hS hl h1 h2 => va_runSN (As := As) (rest := rest) (cfix C0) (hct r hr) (cw _ _) ⟨pcH_blind, pcH_at C0 rel hS⟩ rfl hn hl.1 hst (lv_room hsm) d ⟨h1, h2⟩) kk
theorem v_callINH {b : Nat} {host : String} (C0 : CxH t G l p s m args meth c y cc nL ret) (As rest : List Value) (hct : CtH mk2 t G l y2 cc2 nL2 none lv2 (.ref b :: As) u X)
    (cw : ∀ mc ms, va_CN (rmH lv K1 K2) s args y.cls index y2 host cc2 nL2 none (ws_ y2 cc2 nL2 none) (rmH lv2 mc ms) mc ms n ∧ y2.name = "<init>" ∧ (Cond.instanceMethod y2).before args s = true) (hn : As.length = n) (hst : st = As.reverse ++ .ref b :: rest) (hsm : (rest.map fun v => v.category).sum ≤ 8) (d : decode cc pc = .ok (.invokespecial index, 3))
    (kk : ∀ r u1, BH t G K1 K2 Qw p l e (rmH lv K1 K2) s m args below meth c nL (pc + 3) L ((mk2 r).toList ++ rest) u1 (k1 r u1)) : BH t G K1 K2 Qw p l e (rmH lv K1 K2) s m args below meth c nL pc L st u (hb X k1) :=
  v_callH (fun r H locs ls cells slots hr rel hS hl h1 h2 => va_runIN (As := As) (rest := rest) (cfix C0) (hct r hr) (cw _ _) ⟨pcH_blind, pcH_at C0 rel hS⟩ rfl hn hl.1 hst (lv_room hsm) d ⟨h1, h2⟩) kk
/-- through an interface -/
theorem v_callFH {b count ci : Nat} {C2 : String} {T2 : u_T} {N2 : Nat} {x : MethodName} (C0 : CxH t G l p s m args meth c y cc nL ret) (As rest : List Value) (hct : CtH mk2 t G l y2 cc2 nL2 ret2 lv2 (.ref b :: As) u X)
    (cw : ∀ mc ms, va_CI (rmH lv K1 K2) s args y.cls C2 index x y2 cc2 nL2 ret2 (ws_ y2 cc2 nL2 ret2) (rmH lv2 mc ms) mc ms n) (hcb : hC u b = ci + 1) (h16 : ci < 16) (hcl : vwCl[ci]? = some (C2, T2, N2)) (hn : As.length = n) (hst : st = As.reverse ++ .ref b :: rest) (hsm : (rest.map fun v => v.category).sum ≤ 8) (d : decode cc pc = .ok (.invokeinterface index count, 5))
    (kk : ∀ r u1, BH t G K1 K2 Qw p l e (rmH lv K1 K2) s m args below meth c nL (pc + 5) L ((mk2 r).toList ++ rest) u1 (k1 r u1)) : BH t G K1 K2 Qw p l e (rmH lv K1 K2) s m args below meth c nL pc L st u (hb X k1) :=
  v_callH5 (fun r H locs ls cells slots hr rel hS hl h1 h2 => va_runF (As := As) (rest := rest) (C0.1.2.2.2.2.2.2.2.2.1.1 ci _ hcl).2 (cfix C0) (hct r hr) (cw _ _) ⟨pcH_blind, recH C0.1.2.2.2.2.2.2.2.2 rel hcb h16 hcl, pcH_at C0 rel hS⟩ rfl hn hl.1 hst (lv_room hsm) d ⟨h1, h2⟩) kk
theorem v_objInit {a : Nat} (C0 : CxH t G l p s m args meth c y cc nL ret) (hlink : Cond.methodLink y.cls index Lib.objectInit ∈ lw_all) (hinst : Cond.instanceMethod Lib.objectInit ∈ lw_all) (hcode : Cond.code Lib.objectInit ⟨#[0xb1]⟩ 1 none ∈ lw_all) (hlv : 1 ≤ lv) (hsm : (st.map fun v => v.category).sum ≤ 8) (d : decode cc pc = .ok (.invokespecial index, 3))
    (kk : BH t G K1 K2 Qw p l e (rmH lv K1 K2) s m args below meth c nL (pc + 3) L st u M) : BH t G K1 K2 Qw p l e (rmH lv K1 K2) s m args below meth c nL pc L (.ref a :: st) u M := by
  intro w hw H locs ls cells slots ok rel hS hl
  have h8 := lv_room (m := m) (pc := pc) (ls := ls) (rest := .ref a :: st) hsm
  exact W.objInit C0.1.1 C0.1.2.1 C0.1.2.2.2.1 (C0.1.2.2.2.2.1 _ hlink) (C0.1.2.2.2.2.1 _ hinst) (C0.1.2.2.2.2.1 _ hcode) rfl (by rw [C0.1.2.2.1]; exact hl.1) rfl d (by show 1 ≤ lv; exact hlv) (by show _ ≤ 100 * lv; omega) (kk w hw H locs ls cells slots ok rel hS hl)
/-! returns -/
theorem v_hiret (C0 : CxH t G l p s m args meth c y cc nL (some .int)) {v : Int32} (d : decode cc pc = .ok (.ireturn, 1)) : VH mkI t G p l e lv K1 K2 s m args below meth c nL pc L [.int v] u (hret v u) := by
  intro w hw H locs ls cells slots ok rel hS hl
  cases hw
  exact W.widen (Nat.le_trans (Nat.le_add_right _ _) ok.1) (Nat.le_trans (Nat.le_add_right _ _) ok.2) (W.iret C0.1.1 C0.1.2.1 C0.1.2.2.2.2.2.1 (fun T hT _ => ⟨rfl, by rw [hT]; exact rel, hS.F hT⟩) hS.2.2 d C0.1.2.2.2.2.2.2.1)
def hz {P : Type} (f : Int32 → P) (v : Int32) (u : HS) : Option (OH P) := mchk (isB v) (hret (f v) u)
theorem v_hzret (C0 : CxH t G l p s m args meth c y cc nL (some .boolean)) {v : Int32} (d : decode cc pc = .ok (.ireturn, 1)) : VH mkI t G p l e lv K1 K2 s m args below meth c nL pc L [.int v] u (hz id v u) := by
  intro w hw H locs ls cells slots ok rel hS hl
  obtain ⟨h1, hw⟩ := mchk_some hw
  cases hw
  exact W.widen (Nat.le_trans (Nat.le_add_right _ _) ok.1) (Nat.le_trans (Nat.le_add_right _ _) ok.2) (W.zret C0.1.1 C0.1.2.1 C0.1.2.2.2.2.2.1 (isB_nar h1) (fun T hT _ => ⟨rfl, by rw [hT]; exact rel, hS.F hT⟩) hS.2.2 d C0.1.2.2.2.2.2.2.1)
/-- an answer of type char -/
def isCh (x : Int32) : Bool := decide ((x.toUInt32 % 65536).toInt32 = x)
theorem isCh_nar {x : Int32} (h : isCh x = true) : narrow .char (.int x) = .int x := by
  have h1 := of_decide_eq_true h
  rw [← h1]
  exact pk_nc x
theorem v_hcret (C0 : CxH t G l p s m args meth c y cc nL (some .char)) {v : Int32} (hv : isCh v = true) (d : decode cc pc = .ok (.ireturn, 1)) : VH mkI t G p l e lv K1 K2 s m args below meth c nL pc L [.int v] u (hret v u) := by
  intro w hw H locs ls cells slots ok rel hS hl
  cases hw
  exact W.widen (Nat.le_trans (Nat.le_add_right _ _) ok.1) (Nat.le_trans (Nat.le_add_right _ _) ok.2) (W.zret C0.1.1 C0.1.2.1 C0.1.2.2.2.2.2.1 (isCh_nar hv) (fun T hT _ => ⟨rfl, by rw [hT]; exact rel, hS.F hT⟩) hS.2.2 d C0.1.2.2.2.2.2.2.1)
/-- an answer of type byte -/
theorem v_hbret (C0 : CxH t G l p s m args meth c y cc nL (some .byte)) {v : Int32} (hv : narrow .byte (.int v) = .int v) (d : decode cc pc = .ok (.ireturn, 1)) : VH mkI t G p l e lv K1 K2 s m args below meth c nL pc L [.int v] u (hret v u) := by
  intro w hw H locs ls cells slots ok rel hS hl
  cases hw
  exact W.widen (Nat.le_trans (Nat.le_add_right _ _) ok.1) (Nat.le_trans (Nat.le_add_right _ _) ok.2) (W.zret C0.1.1 C0.1.2.1 C0.1.2.2.2.2.2.1 hv (fun T hT _ => ⟨rfl, by rw [hT]; exact rel, hS.F hT⟩) hS.2.2 d C0.1.2.2.2.2.2.2.1)
theorem v_hvret (C0 : CxH t G l p s m args meth c y cc nL none) (d : decode cc pc = .ok (.return_, 1)) : VH mkU t G p l e lv K1 K2 s m args below meth c nL pc L [] u (hret () u) := by
  intro w hw H locs ls cells slots ok rel hS hl
  cases hw
  exact W.widen (Nat.le_trans (Nat.le_add_right _ _) ok.1) (Nat.le_trans (Nat.le_add_right _ _) ok.2) (W.vret C0.1.1 C0.1.2.1 C0.1.2.2.2.2.2.1 (fun T hT _ => ⟨rfl, by rw [hT]; exact rel, hS.F hT⟩) hS.2.2 d C0.1.2.2.2.2.2.2.1)
theorem v_haret {rt : FieldType} (C0 : CxH t G l p s m args meth c y cc nL (some rt)) (hrt : (∃ n, rt = .object n) ∨ ∃ t, rt = .array t) {v : Nat} (d : decode cc pc = .ok (.areturn, 1)) : VH mkA t G p l e lv K1 K2 s m args below meth c nL pc L [.ref v] u (hret v u) := by
  intro w hw H locs ls cells slots ok rel hS hl
  cases hw
  exact W.widen (Nat.le_trans (Nat.le_add_right _ _) ok.1) (Nat.le_trans (Nat.le_add_right _ _) ok.2) (W.aret C0.1.1 C0.1.2.1 C0.1.2.2.2.2.2.1 hrt (Or.inr ⟨v, rfl⟩) (fun T hT _ => ⟨rfl, by rw [hT]; exact rel, hS.F hT⟩) hS.2.2 d C0.1.2.2.2.2.2.2.1)
theorem v_horet {rt : FieldType} (C0 : CxH t G l p s m args meth c y cc nL (some rt)) (hrt : (∃ n, rt = .object n) ∨ ∃ t, rt = .array t) {v : Value} (o : Option Nat) (hv : v = va_rf o) (d : decode cc pc = .ok (.areturn, 1)) : VH mkO t G p l e lv K1 K2 s m args below meth c nL pc L [v] u (hret o u) := by
  intro w hw H locs ls cells slots ok rel hS hl
  cases hw
  subst hv
  exact W.widen (Nat.le_trans (Nat.le_add_right _ _) ok.1) (Nat.le_trans (Nat.le_add_right _ _) ok.2) (W.aret C0.1.1 C0.1.2.1 C0.1.2.2.2.2.2.1 hrt (by cases o with | none => exact Or.inl rfl | some a => exact Or.inr ⟨a, rfl⟩) (fun T hT _ => ⟨rfl, by rw [hT]; exact rel, hS.F hT⟩) hS.2.2 d C0.1.2.2.2.2.2.2.1)
/-! the same, in a method that may throw -/
theorem v_xiret (C0 : CxH t G l p s m args meth c y cc nL (some .int)) {v : Int32} (d : decode cc pc = .ok (.ireturn, 1)) : VX mkI t G p l e lv K1 K2 s m args below meth c nL pc L [.int v] u (hret (.inl v) u) := by
  intro w hw H locs ls cells slots ok rel hS hl
  cases hw
  exact vx_ret (W.widen (Nat.le_trans (Nat.le_add_right _ _) ok.1) (Nat.le_trans (Nat.le_add_right _ _) ok.2) (W.iret C0.1.1 C0.1.2.1 C0.1.2.2.2.2.2.1 (fun T hT _ => ⟨v, rfl, rfl, by rw [hT]; exact rel, hS.F hT⟩) hS.2.2 d C0.1.2.2.2.2.2.2.1))
theorem v_xzret (C0 : CxH t G l p s m args meth c y cc nL (some .boolean)) {v : Int32} (d : decode cc pc = .ok (.ireturn, 1)) : VX mkI t G p l e lv K1 K2 s m args below meth c nL pc L [.int v] u (hz .inl v u) := by
  intro w hw H locs ls cells slots ok rel hS hl
  obtain ⟨h1, hw⟩ := mchk_some hw
  cases hw
  exact vx_ret (W.widen (Nat.le_trans (Nat.le_add_right _ _) ok.1) (Nat.le_trans (Nat.le_add_right _ _) ok.2) (W.zret C0.1.1 C0.1.2.1 C0.1.2.2.2.2.2.1 (isB_nar h1) (fun T hT _ => ⟨v, rfl, rfl, by rw [hT]; exact rel, hS.F hT⟩) hS.2.2 d C0.1.2.2.2.2.2.2.1))
theorem v_xvret (C0 : CxH t G l p s m args meth c y cc nL none) (d : decode cc pc = .ok (.return_, 1)) : VX mkU t G p l e lv K1 K2 s m args below meth c nL pc L [] u (hret (.inl ()) u) := by
  intro w hw H locs ls cells slots ok rel hS hl
  cases hw
  exact vx_ret (W.widen (Nat.le_trans (Nat.le_add_right _ _) ok.1) (Nat.le_trans (Nat.le_add_right _ _) ok.2) (W.vret C0.1.1 C0.1.2.1 C0.1.2.2.2.2.2.1 (fun T hT _ => ⟨(), rfl, rfl, by rw [hT]; exact rel, hS.F hT⟩) hS.2.2 d C0.1.2.2.2.2.2.2.1))
theorem v_xaret {rt : FieldType} (C0 : CxH t G l p s m args meth c y cc nL (some rt)) (hrt : (∃ n, rt = .object n) ∨ ∃ t, rt = .array t) {v : Nat} (d : decode cc pc = .ok (.areturn, 1)) : VX mkA t G p l e lv K1 K2 s m args below meth c nL pc L [.ref v] u (hret (.inl v) u) := by
  intro w hw H locs ls cells slots ok rel hS hl
  cases hw
  exact vx_ret (W.widen (Nat.le_trans (Nat.le_add_right _ _) ok.1) (Nat.le_trans (Nat.le_add_right _ _) ok.2) (W.aret C0.1.1 C0.1.2.1 C0.1.2.2.2.2.2.1 hrt (Or.inr ⟨v, rfl⟩) (fun T hT _ => ⟨v, rfl, rfl, by rw [hT]; exact rel, hS.F hT⟩) hS.2.2 d C0.1.2.2.2.2.2.2.1))
/-! null or not -/
theorem v_ifnull (C0 : CxH t G l p s m args meth c y cc nL ret) {o : Option Nat} {k2 : Nat → Option (OH O)} {off : Int} (tgt : Nat) (ht : (pc : Int) + off = (tgt : Int)) (d : decode cc pc = .ok (.ifnull off, 3)) (kt : o = none → BH t G K1 K2 Qw p l e R s m args below meth c nL tgt L st u M) (kf : ∀ a, o = some a → BH t G K1 K2 Qw p l e R s m args below meth c nL (pc + 3) L st u (k2 a)) : BH t G K1 K2 Qw p l e R s m args below meth c nL pc L (va_rf o :: st) u (mnull o M k2) := by
  intro w hw H locs ls cells slots ok rel hS hl
  cases o with
  | none => exact lv_ifnullN C0.1.1 C0.1.2.1 d ht (kt rfl w hw H locs ls cells slots ok rel hS hl)
  | some a => exact lv_ifnull C0.1.1 C0.1.2.1 d (kf a rfl w hw H locs ls cells slots ok rel hS hl)
theorem v_ifnonnull (C0 : CxH t G l p s m args meth c y cc nL ret) {o : Option Nat} {k2 : Nat → Option (OH O)} {off : Int} (tgt : Nat) (ht : (pc : Int) + off = (tgt : Int)) (d : decode cc pc = .ok (.ifnonnull off, 3)) (kf : o = none → BH t G K1 K2 Qw p l e R s m args below meth c nL (pc + 3) L st u M) (kt : ∀ a, o = some a → BH t G K1 K2 Qw p l e R s m args below meth c nL tgt L st u (k2 a)) : BH t G K1 K2 Qw p l e R s m args below meth c nL pc L (va_rf o :: st) u (mnull o M k2) := by
  intro w hw H locs ls cells slots ok rel hS hl
  cases o with
  | none => exact lv_ifnonnullN C0.1.1 C0.1.2.1 d (kf rfl w hw H locs ls cells slots ok rel hS hl)
  | some a => exact lv_ifnonnull C0.1.1 C0.1.2.1 d ht (kt a rfl w hw H locs ls cells slots ok rel hS hl)
theorem v_null (C0 : CxH t G l p s m args meth c y cc nL ret) (d : decode cc pc = .ok (.aconst_null, 1)) (kk : BH t G K1 K2 Qw p l e R s m args below meth c nL (pc + 1) L (.null :: st) u M) : BH t G K1 K2 Qw p l e R s m args below meth c nL pc L st u M :=
  fun w hw H locs ls cells slots ok rel hS hl => lv_null C0.1.1 C0.1.2.1 d (kk w hw H locs ls cells slots ok rel hS hl)
theorem v_acmp_ne (C0 : CxH t G l p s m args meth c y cc nL ret) {a b : Nat} {off : Int} (tgt : Nat) (ht : (pc : Int) + off = (tgt : Int)) (d : decode cc pc = .ok (.if_acmp .ne off, 3)) (kf : a = b → BH t G K1 K2 Qw p l e R s m args below meth c nL (pc + 3) L st u M2) (kt : ¬ a = b → BH t G K1 K2 Qw p l e R s m args below meth c nL tgt L st u M1) : BH t G K1 K2 Qw p l e R s m args below meth c nL pc L (.ref b :: .ref a :: st) u (if a = b then M2 else M1) := by
  intro w hw H locs ls cells slots ok rel hS hl
  refine lv_acmp_ne (rx := some a) (ry := some b) C0.1.1 C0.1.2.1 d ht (fun h => ?_) (fun h => ?_)
  · have h2 : ¬ a = b := fun z => h (by rw [z])
    rw [if_neg h2] at hw
    exact kt h2 w hw H locs ls cells slots ok rel hS hl
  · have h2 : a = b := Option.some.inj h
    rw [if_pos h2] at hw
    exact kf h2 w hw H locs ls cells slots ok rel hS hl
theorem v_acmp_eq (C0 : CxH t G l p s m args meth c y cc nL ret) {a b : Nat} {off : Int} (tgt : Nat) (ht : (pc : Int) + off = (tgt : Int)) (d : decode cc pc = .ok (.if_acmp .eq off, 3)) (kt : a = b → BH t G K1 K2 Qw p l e R s m args below meth c nL tgt L st u M1) (kf : ¬ a = b → BH t G K1 K2 Qw p l e R s m args below meth c nL (pc + 3) L st u M2) : BH t G K1 K2 Qw p l e R s m args below meth c nL pc L (.ref b :: .ref a :: st) u (if a = b then M1 else M2) := by
  intro w hw H locs ls cells slots ok rel hS hl
  refine lv_acmp_eq (rx := some a) (ry := some b) C0.1.1 C0.1.2.1 d ht (fun h => ?_) (fun h => ?_)
  · have h2 : a = b := Option.some.inj h
    rw [if_pos h2] at hw
    exact kt h2 w hw H locs ls cells slots ok rel hS hl
  · have h2 : ¬ a = b := fun z => h (by rw [z])
    rw [if_neg h2] at hw
    exact kf h2 w hw H locs ls cells slots ok rel hS hl
/-! statics, strings, boxes -/
theorem v_gets (C0 : CxH t G l p s m args meth c y cc nL ret) {C nm ds ref : String} {v : Value} (hZ : va_Z C nm ds v G.1 s s.heap) (hlink : Cond.fieldLink y.cls index ref nm ds ∈ lw_all) (hs : ∀ x, s.fieldFound? C nm ds = some x → s.fieldFound? ref nm ds = some x) (d : decode cc pc = .ok (.getstatic index, 3))
    (kk : BH t G K1 K2 Qw p l e R s m args below meth c nL (pc + 3) L (v :: st) u M) : BH t G K1 K2 Qw p l e R s m args below meth c nL pc L st u M :=
  fun w hw H locs ls cells slots ok rel hS hl => va_gets C0.1.1 C0.1.2.1 hZ hS C0.1.2.2.2.1 (C0.1.2.2.2.2.1 _ hlink) hs d (kk w hw H locs ls cells slots ok rel hS hl)
/-- the constants' addresses stand in the state too -/
theorem v_K (hk : hK u = G.2.1 → hO u = G.2.2 → BH t G K1 K2 Qw p l e R s m args below meth c nL pc L st u M) : BH t G K1 K2 Qw p l e R s m args below meth c nL pc L st u M :=
  fun w hw H locs ls cells slots ok rel hS hl => hk rel.2.1 rel.2.2.1 w hw H locs ls cells slots ok rel hS hl
theorem v_hldc (C0 : CxH t G l p s m args meth c y cc nL ret) {tx : String} {q : Nat} (hy : y.cls = "WhiteBoard$Reader") (i : Nat) (hi : i < 18) (hx : sPool.getD i (0, "") = (index, tx)) (hq : q = G.2.1 (10 + i)) (d : decode cc pc = .ok (.ldc index, 2))
    (kk : BH t G K1 K2 Qw p l e R s m args below meth c nL (pc + 2) L (.ref q :: st) u M) : BH t G K1 K2 Qw p l e R s m args below meth c nL pc L st u M := by
  intro w hw H locs ls cells slots ok rel hS hl
  have h1 := C0.2.1.2.2.1 i hi
  rw [hx, ← hq] at h1
  exact va_ldcS C0.1.1 C0.1.2.1 C0.1.2.2.2.1 (by rw [hy]; exact h1) d (kk w hw H locs ls cells slots ok rel hS hl)
theorem v_hgetS (C0 : CxH t G l p s m args meth c y cc nL ret) {a : Nat} {v : Value} (k : Nat) (hc : hC u a = 30) (hk : (k = 0 ∧ v = va_rf (hR u a 0)) ∨ (k = 1 ∧ v = .int (hI u a 1))) (hlink : Cond.fieldLink y.cls index "java/lang/String" (if k = 0 then "value" else "coder") (if k = 0 then "[B" else "B") ∈ lw_all) (d : decode cc pc = .ok (.getfield index, 3))
    (kk : BH t G K1 K2 Qw p l e R s m args below meth c nL (pc + 3) L (v :: st) u M) : BH t G K1 K2 Qw p l e R s m args below meth c nL pc L (.ref a :: st) u M := by
  intro w hw H locs ls cells slots ok rel hS hl
  obtain ⟨i, hi, ha, h0, h1⟩ := (rel.2.2.2.2.2 a).2.1 hc
  obtain ⟨-, g1, g2, -⟩ := C0.2.1.2.1.1 i hi
  rcases hk with ⟨rfl, rfl⟩ | ⟨rfl, rfl⟩
  · rw [h0] at kk
    rw [ha]
    exact vk_getf C0.1.1 C0.1.2.1 g2 hS C0.1.2.2.2.1 (C0.1.2.2.2.2.1 _ hlink) (fun _ h => h) d (kk w hw H locs ls cells slots ok rel hS hl)
  · rw [h1] at kk
    rw [ha]
    exact vk_getf C0.1.1 C0.1.2.1 g1 hS C0.1.2.2.2.1 (C0.1.2.2.2.2.1 _ hlink) (fun _ h => h) d (kk w hw H locs ls cells slots ok rel hS hl)
theorem v_hgetB (C0 : CxH t G l p s m args meth c y cc nL ret) {a : Nat} (hc : hC u a = 31) (hlink : Cond.fieldLink y.cls index "java/lang/Integer" "value" "I" ∈ lw_all) (d : decode cc pc = .ok (.getfield index, 3))
    (kk : BH t G K1 K2 Qw p l e R s m args below meth c nL (pc + 3) L (.int (hI u a 0) :: st) u M) : BH t G K1 K2 Qw p l e R s m args below meth c nL pc L (.ref a :: st) u M := by
  intro w hw H locs ls cells slots ok rel hS hl
  obtain ⟨k, hk, ha, h0⟩ := (rel.2.2.2.2.2 a).2.2.1 hc
  have g1 := C0.2.1.2.2.2.1.2 k hk
  rw [h0] at kk
  rw [ha]
  exact vk_getf C0.1.1 C0.1.2.1 g1 hS C0.1.2.2.2.1 (C0.1.2.2.2.2.1 _ hlink) (fun _ h => h) d (kk w hw H locs ls cells slots ok rel hS hl)
theorem recS {a : Nat} (C0 : CxH t G l p s m args meth c y cc nL ret) (hc : hC u a = 30) : ∀ H locs, RelH t G u H → va_S G.1 s.heap H locs → ∃ cell : Cell, H[a]? = some cell ∧ cell.vm.isStatics = false ∧ s.vm.findClass "java/lang/String" = some cell.cls := by
  intro H locs rel hS
  obtain ⟨i, hi, ha, -⟩ := (rel.2.2.2.2.2 a).2.1 hc
  obtain ⟨⟨cell, g1, g2, g3, -⟩, -⟩ := (C0.2.1.2.1.kept hS.2.1).1 i hi
  dsimp only at g1
  rw [← ha] at g1
  exact ⟨cell, g1, g2, g3⟩
theorem recB {a : Nat} (C0 : CxH t G l p s m args meth c y cc nL ret) (hc : hC u a = 31) : ∀ H locs, RelH t G u H → va_S G.1 s.heap H locs → ∃ cell : Cell, H[a]? = some cell ∧ cell.vm.isStatics = false ∧ s.vm.findClass "java/lang/Integer" = some cell.cls := by
  intro H locs rel hS
  obtain ⟨k, hk, ha, -⟩ := (rel.2.2.2.2.2 a).2.2.1 hc
  obtain ⟨cell, g1, g2, g3, -⟩ := (C0.2.1.2.2.2.1.kept hS.2.1).1 k hk
  dsimp only at g1
  rw [← ha] at g1
  exact ⟨cell, g1, g2, g3⟩
theorem recO {a ci : Nat} {C : String} {T : u_T} {N : Nat} (C0 : CxH t G l p s m args meth c y cc nL ret) (hc : hC u a = ci + 1) (h16 : ci < 16) (hcl : vwCl[ci]? = some (C, T, N)) : ∀ H locs, RelH t G u H → va_S G.1 s.heap H locs → ∃ cell : Cell, H[a]? = some cell ∧ cell.vm.isStatics = false ∧ s.vm.findClass C = some cell.cls := fun _ _ rel _ => recH C0.1.2.2.2.2.2.2.2.2 rel hc h16 hcl
/-- contracts out of walks -/
theorem ctH_of {mk : P → Option Value} {av : List Value} {M : Option (OH P)} (L : List (Nat × Value)) (hl0 : l.stackTraces = false) (hy : plainName y.cls = true) (hlen : (lg_sl av).length ≤ nL) (hL : lv_args 0 av = L)
    (body : ∀ K1 K2 p e s m args below meth c, CxH t G l p s m args meth c y cc nL ret → VH mk t G p l e lv K1 K2 s m args below meth c nL 0 L [] u M) : CtH mk t G l y cc nL ret lv av u M := by
  intro w hw
  refine Met.ofW (cc := cc) (maxL := nL) (ret := ret) hy rfl ?_
  intro p e s m args below meth c s₁ B hml hv
  obtain ⟨rfl, hrel, hk⟩ := hv
  have hts := atoms_spec (ws := ws_ y cc nL ret) B.pre
  have hts : ∀ w ∈ lw_all, w.before _ s = true := fun w h => hts w (List.mem_cons_of_mem _ h)
  have hl := lv_entry av (n := nL) hlen
  rw [lg_entry_eq]
  rw [hL] at hl
  exact body w.2.2.1 w.2.2.2 p e s m _ below meth c ⟨⟨B.exec, B.bytes, hml, findClass_of_methodNamed B.named, hts, B.returns, B.notSynchronized, fun _ => (name_of_methodNamed B.named B.method).1, hk.1⟩, hk, hl0⟩ w hw s.heap [] _ 0 0 ⟨by omega, by omega⟩ hrel va_S.rf hl
/-- a method that may throw has no handlers -/
def CxX (t : TT) (G : GH) (l : Launch) (p : Program) (s : State) (m : MethodId) (args : Array Value) (meth : Method) (c : Code) (y : MethodName) (cc : ByteArray) (nL : Nat) (ret : Option FieldType) : Prop :=
  CxH t G l p s m args meth c y cc nL ret ∧ ∀ x ∈ c.exceptionTable.toList, False
theorem ctX_of {mk : P → Option Value} {av : List Value} {M : Option (OH (PX P))} (L : List (Nat × Value)) (hl0 : l.stackTraces = false) (hy : plainName y.cls = true) (hlen : (lg_sl av).length ≤ nL) (hL : lv_args 0 av = L)
    (body : ∀ K1 K2 p e s m args below meth c, CxX t G l p s m args meth c y cc nL ret → VX mk t G p l e lv K1 K2 s m args below meth c nL 0 L [] u M) : CtX mk t G l y cc nL ret lv av u M := by
  intro w hw
  refine vx_ofW (cc := cc) (maxL := nL) (ret := ret) hy rfl ?_
  intro p e s m args below meth c s₁ B hml hnt hv
  obtain ⟨rfl, hrel, hk⟩ := hv
  have hts := atoms_spec (ws := ws_ y cc nL ret) B.pre
  have hts : ∀ w ∈ lw_all, w.before _ s = true := fun w h => hts w (List.mem_cons_of_mem _ h)
  have hl := lv_entry av (n := nL) hlen
  rw [lg_entry_eq]
  rw [hL] at hl
  exact body w.2.2.1 w.2.2.2 p e s m _ below meth c ⟨⟨⟨B.exec, B.bytes, hml, findClass_of_methodNamed B.named, hts, B.returns, B.notSynchronized, fun _ => (name_of_methodNamed B.named B.method).1, hk.1⟩, hk, hl0⟩, hnt⟩ w hw s.heap [] _ 0 0 ⟨by omega, by omega⟩ hrel va_S.rf hl
end VHC
