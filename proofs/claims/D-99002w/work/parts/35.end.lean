/-! the law's prologue; whole_start out of the plain law -/
set_option maxRecDepth 100000
def mArrB (k : Nat) : Bool := mKind k == 1 || mKind k == 2
def adM (h : HS) (m k : Nat) : Nat := (hR h m k).getD 0
def msM (h : HS) (m : Nat) : MS := (fun k => hI h m k, fun k j => hA h (adM h m k) j, 0)
def isM (h : HS) (m a : Nat) : Bool := a == m || (List.range 87).any fun k => mArrB k && a == adM h m k
def stripM (h : HS) (m : Nat) : HS := hM (fun a => if isM h m a = true then 0 else hC h a) (hI h) (hR h) (hA h) (hQ h) (hJ h) (hN h) (hZ h) (hK h) (hO h)
def chkM (h : HS) (m : Nat) : Bool := (hC h m == 4) && (List.range 87).all fun k => !mArrB k || ((hR h m k).isSome && (hC h (adM h m k) == mKind k + 20) && (hN h (adM h m k) == mN k) && (List.range 87).all fun j => !mArrB j || !(adM h m j == adM h m k) || j == k)
def toH (u : HS) (M : Option OL) : Option (OH Int32) := match M with
  | some w => some (w.1, u, w.2.1, w.2.2)
  | none => none
def hL_all (n0 : Nat) (xs : Nat → Int32) (h : HS) : Option (OH Int32) :=
  mlet (hZ h) fun x0 => addc 1 (cN 0) <| mlet (nO h 0) fun u1 => hb (hX1_init x0 u1) fun _ u2 =>
  mlet (hZ u2) fun m => addc 1 (cN 3) <| mlet (nO u2 3) fun u3 => hb (hX4_init m u3) fun _ u4 =>
  mlet (hZ u4) fun o0 => addc 1 1 <| mlet (nA u4 4 1) fun u5 =>
  mchk (chkM u5 m) <| toH u5 (hL_start x0 o0 n0 xs (stripM u5 m, msM u5 m))
/-- THE PLAIN LAW -/
def PlainLaw : Prop := ∀ (h : HS) (n : Nat) (xs : Nat → Int32), StartOK h → n ≤ 384 → ∃ w : OH Int32, hL_all n xs h = some w ∧ w.1 = 1 ∧ w.2.2.1 ≤ 1200128 ∧ w.2.2.2 ≤ 5501098
theorem mArr_lt {k : Nat} (h : mArr k) : k < 87 := by
  apply Nat.lt_of_not_le
  intro q
  have e : mKind k = 9 := by
    unfold mKind
    rw [List.getD_eq_getElem?_getD, List.getElem?_eq_none (Nat.le_trans (by decide) q)]
    rfl
  unfold mArr at h
  omega
theorem mArrB_iff {k : Nat} : mArrB k = true ↔ mArr k := by
  unfold mArrB mArr
  simp
theorem isM_iff {h : HS} {m a : Nat} : isM h m a = true ↔ AM (m, adM h m) a := by
  unfold isM AM
  simp only [Bool.or_eq_true, beq_iff_eq, List.any_eq_true, List.mem_range, Bool.and_eq_true, mArrB_iff]
  constructor
  · rintro (e | ⟨k, hk, h1, h2⟩)
    · exact Or.inl e
    · exact Or.inr ⟨k, h1, h2⟩
  · rintro (e | ⟨k, h1, h2⟩)
    · exact Or.inl e
    · exact Or.inr ⟨k, mArr_lt h1, h1, h2⟩
theorem chkM_k {h : HS} {m : Nat} (c : chkM h m = true) : hC h m = 4 ∧ ∀ k, mArr k → hR h m k = some (adM h m k) ∧ hC h (adM h m k) = mKind k + 20 ∧ hN h (adM h m k) = mN k ∧ ∀ j, mArr j → adM h m j = adM h m k → j = k := by
  unfold chkM at c
  simp only [Bool.and_eq_true, beq_iff_eq, List.all_eq_true, List.mem_range, Bool.or_eq_true, Bool.not_eq_true', beq_eq_false_iff_ne, ne_eq] at c
  refine ⟨c.1, fun k hk => ?_⟩
  have hb : ¬ mArrB k = false := by rw [mArrB_iff.mpr hk]; decide
  rcases c.2 k (mArr_lt hk) with h1 | ⟨⟨⟨h1, h2⟩, h3⟩, h4⟩
  · exact absurd h1 hb
  · refine ⟨?_, h2, h3, fun j hj e => ?_⟩
    · unfold adM
      cases hx : hR h m k with
      | none => rw [hx] at h1; cases h1
      | some z => rfl
    · have hb2 : ¬ mArrB j = false := by rw [mArrB_iff.mpr hj]; decide
      rcases h4 j (mArr_lt hj) with (h5 | h5) | h5
      · exact absurd h5 hb2
      · exact absurd e h5
      · exact h5
theorem mK_fK : ∀ k, k < 87 → (fK 3 k = 1 ↔ mArr k) ∧ (fK 3 k = 3 ↔ mKind k = 3) := by
  unfold mArr
  decide +kernel
theorem cwX4_init {t : TT} {G : GH} {l : Launch} {p : Program} {s : State} {m : MethodId} {args : Array Value} {meth : Method} {c : Code} {y0 : MethodName} {cc0 : ByteArray} {nL0 : Nat} {ret0 : Option FieldType} (C : CxH t G l p s m args meth c y0 cc0 nL0 ret0) {index lv mc ms K1 K2 : Nat} (hq : Cond.methodLink y0.cls index yX4_init ∈ lw_all) (hR : 2 + 1 ≤ lv) : CallB (rmH lv K1 K2) s args y0.cls index yX4_init cX4_init 1 none (ws_ yX4_init cX4_init 1 none) (rmH 2 mc ms) mc ms 0 ∧ yX4_init.name = "<init>" ∧ (Cond.instanceMethod yX4_init).before args s = true :=
  cwI 0 C.1.2.2.2.2.1 (lw_meth q1613) rfl rfl rfl (C.1.2.2.2.2.1 _ q127) (C.1.2.2.2.2.1 _ hq) (C.1.2.2.2.2.1 _ q1612) rfl (by decide +kernel) ⟨hR, by show 8 + (1 + 11) + 100 * 2 ≤ 100 * lv; omega⟩
section VEND
variable {p : Program} {l : Launch} {e : Env} {s : State} {m : MethodId} {below : List Frame} {meth : Method} {c : Code} {b n0 : Nat} {xs : Nat → Int32} {t : TT} {G : GH} {h : HS} {H : Heap}
theorem relM_of {m : Nat} (r : RelH t G h H) (ck : chkM h m = true) : RelM t (m, adM h m) (msM h m) H ∧ RelH t (fun q => G.1 q ∧ ¬ AM (m, adM h m) q, G.2) (stripM h m) H ∧ ∀ q, AM (m, adM h m) q → G.1 q := by
  obtain ⟨h4, hk⟩ := chkM_k ck
  have hA : ∀ q, AM (m, adM h m) q → 1 ≤ hC h q ∧ hC h q < 30 ∧ q < H.size := by
    intro q hq
    have h1 : 1 ≤ hC h q ∧ hC h q < 30 ∧ ((1 ≤ hC h q ∧ hC h q ≤ 16) ∨ (21 ≤ hC h q ∧ hC h q ≤ 26)) := by
      rcases hq with e | ⟨k, h1, e⟩
      · dsimp only at e
        rw [e, h4]
        decide
      · dsimp only at e
        rw [e, (hk k h1).2.1]
        rcases h1 with h1 | h1 <;> rw [h1] <;> decide
    refine ⟨h1.1, h1.2.1, Nat.lt_of_not_le fun hz => r.out hz h1.2.2⟩
  refine ⟨⟨⟨fun k h1 e => ?_, fun j k h1 h2 e => (hk k h2).2.2.2 j h1 e⟩, ?_, fun k h1 => ?_⟩, ?_, fun q hq => r.2.2.2.2.1 q (hA q hq).1 (hA q hq).2.1⟩
  · dsimp only at e
    have := (hk k h1).2.1
    rw [e, h4] at this
    rcases h1 with h1 | h1 <;> rw [h1] at this <;> cases this
  · have hob := relC_ob (ci := 3) r h4 (by decide)
    refine hob.to fun k hk9 => ?_
    have hk87 : k < 87 := hk9
    obtain ⟨f1, f3⟩ := mK_fK k hk87
    unfold hF mF
    rw [h4]
    show (match fK 3 k with | 1 => va_rf (hR h m k) | 3 => .long 0 | _ => .int (hI h m k)) = _
    by_cases h1 : mArr k
    · rw [f1.mpr h1, (hk k h1).1]
      rcases h1 with h1 | h1 <;> rw [h1] <;> rfl
    · have n1 : ¬ fK 3 k = 1 := fun q => h1 (f1.mp q)
      by_cases h3 : mKind k = 3
      · rw [f3.mpr h3, h3]
        rfl
      · have n3 : ¬ fK 3 k = 3 := fun q => h3 (f3.mp q)
        unfold mArr at h1
        split
        · contradiction
        · contradiction
        · split
          · omega
          · omega
          · contradiction
          · rfl
  · obtain ⟨g1, g2, g3, g4⟩ := hk k h1
    have h2 : mKind k = 1 ∨ mKind k = 2 ∨ mKind k = 3 := by
      rcases h1 with h1 | h1
      · exact Or.inl h1
      · exact Or.inr (Or.inl h1)
    have := relC_ia (kd := mKind k) r h2 g2
    rw [g3] at this
    exact this
  · obtain ⟨r1, r2, r3, r4, r5, r6⟩ := id r
    have hc : ∀ a, ¬ AM (m, adM h m) a → hC (stripM h m) a = hC h a := fun a ha => if_neg fun q => ha (isM_iff.mp q)
    have hc0 : ∀ a, AM (m, adM h m) a → hC (stripM h m) a = 0 := fun a ha => if_pos (isM_iff.mpr ha)
    refine ⟨r1, r2, r3, fun q hq => ⟨r4 q hq, fun ha => absurd (hA q ha).2.2 (Nat.not_lt.mpr hq)⟩, fun a h1 h2 => ?_, fun a => ?_⟩
    · have hn : ¬ AM (m, adM h m) a := fun ha => by rw [hc0 a ha] at h1; cases h1
      rw [hc a hn] at h1 h2
      exact ⟨r5 a h1 h2, hn⟩
    · by_cases ha : AM (m, adM h m) a
      · have e0 := hc0 a ha
        exact ⟨⟨fun q1 _ => (by rw [e0] at q1; exact absurd q1 (by decide)), fun q => (by rw [e0] at q; omega), fun q => (by rw [e0] at q; omega), fun q => (by rw [e0] at q; omega)⟩, ⟨fun q => (by rw [e0] at q; omega), fun q => (by rw [e0] at q; omega), fun q => (by rw [e0] at q; omega), fun q => (by rw [e0] at q; omega), fun q => (by rw [e0] at q; omega)⟩⟩
      · have hsame : sameAt h (stripM h m) a := ⟨hc a ha, rfl, rfl, rfl, rfl, rfl, rfl⟩
        have h1 := relC_same (H1 := H) hsame rfl (r6 a).1
        have h2 := roC_same hsame (r6 a).2
        exact ⟨h1, h2⟩
theorem KW.narrow {G2 : GH} {U : State} (k : KW t G U H) (hAB : ∀ q, G2.1 q → G.1 q) (e2 : G2.2 = G.2) : KW t G2 U H := by
  obtain ⟨A, K, O⟩ := G
  obtain ⟨A2, K2, O2⟩ := G2
  cases e2
  obtain ⟨k1, k2, k3, k4, k5, k6, k7, k8, k9, k10, k11, k12, a1, a2, k13, k14, k15, k16, k17, k18, k19, k20, k21⟩ := k
  exact ⟨k1, k2.narrow hAB, k3, k4.narrow hAB, k5.narrow hAB, k6.narrow hAB, k7.narrow hAB, k8.narrow hAB, k9.narrow hAB, k10.narrow hAB, k11.narrow hAB, k12.narrow hAB, a1.narrow hAB, a2.narrow hAB, k13.narrow hAB, k14.narrow hAB, k15.narrow hAB, k16.narrow hAB, k17.narrow hAB, k18, k19, k20, k21⟩
theorem toH_some {u : HS} {M : Option OL} {w : OH Int32} (hw : toH u M = some w) : ∃ v : OL, M = some v ∧ w = (v.1, u, v.2.1, v.2.2) := by
  cases M with
  | none => cases hw
  | some v => exact ⟨v, rfl, (Option.some.inj hw).symm⟩
abbrev QwL (b : Nat) (s : State) (below : List Frame) : Int32 → HS → State → Prop := fun r _ T => r = 1 → lw_Z below #[Value.ref b] s T
theorem v_switch (hl0 : l.stackTraces = false) {x0 m0 o0 : Nat} {u : HS} (C : CxH t G l p s m #[Value.ref b] meth c x code 7 Pilot.CWhiteBoardLaw_law_r5622_b3886e.ret) (hX : va_X b n0 xs s s.heap) (hbs : b < s.heap.size) (hG : ∀ q, G.1 q ↔ s.heap.size ≤ q) (ck : chkM u m0 = true) :
    BH t G 1200128 5501098 (QwL b s below) p l e (rmH 1000 1200128 5501098) s m #[Value.ref b] below meth c 7 20 [(3, .ref o0), (2, .ref m0), (1, .ref x0), (0, .ref b)] [] u (toH u (hL_start x0 o0 n0 xs (stripM u m0, msM u m0))) := by
  intro w hw H locs ls cells slots ok rel hS hl
  obtain ⟨v, hv, rfl⟩ := toH_some hw
  obtain ⟨ok1, ok2⟩ := ok
  dsimp only at ok1 ok2
  by_cases h1 : v.1 = 1
  · obtain ⟨rM, rH, rA⟩ := relM_of rel ck
    have CL : CxL t (fun q => G.1 q ∧ ¬ AM (m0, adM u m0) q, G.2) (m0, adM u m0) l p s m b meth c n0 xs := ⟨⟨C.1, C.2.1.narrow (fun q hq => hq.1) rfl, C.2.2⟩, fun q hq => ⟨(hG q).mp hq.1, hq.2⟩, fun q hq => (hG q).mp (rA q hq), hX, hbs⟩
    have hS2 : va_S (fun q => s.heap.size ≤ q) s.heap H locs := ⟨hS.1, fun q h2 h3 => hS.2.1 q h2 (fun z => h3 ((hG q).mp z)), fun z hz => (hG _).mp (hS.2.2 z hz)⟩
    have hgo := whL_start (e := e) (below := below) (g := (m0, adM u m0)) hl0 CL (stripM u m0, msM u m0) v hv H locs ls cells slots ⟨h1, ok1, ok2⟩ ⟨rH, rM⟩ hS2 hl
    intro T hT X
    obtain ⟨t1, a1, b1⟩ := hgo T hT X
    exact ⟨t1, a1, fun _ => b1⟩
  · intro T hT X
    exact ⟨_, Steps.refl _, fun q => absurd q h1⟩
theorem whL_all (hl0 : l.stackTraces = false) (C : CxH t G l p s m #[Value.ref b] meth c x code 7 Pilot.CWhiteBoardLaw_law_r5622_b3886e.ret) (hX : va_X b n0 xs s s.heap) (hbs : b < s.heap.size) (hG : ∀ q, G.1 q ↔ s.heap.size ≤ q) (h : HS) :
    BH t G 1200128 5501098 (QwL b s below) p l e (rmH 1000 1200128 5501098) s m #[Value.ref b] below meth c 7 0 [(0, .ref b)] [] h (hL_all n0 xs h) := by
  unfold hL_all
  refine v_letE (fun x0 e0 => ?_)
  refine v_hnew C 0 e0 (by decide) rfl in_X1 tyX1 tyX1_ok df_X1 q155 q156 q121 dL_law_0 (fun u1 => ?_)
  refine v_dup C.1 rfl dL_law_3 ?_
  refine v_callIH C [] [.ref x0] (ctX1_init t G l hl0 x0 u1) (fun _ _ => cwX1_init C q157 (by decide)) rfl rfl (by exact Nat.le_of_ble_eq_true rfl) dL_law_4 (fun _ u2 => ?_)
  refine v_astore_n C.1 [(1, .ref x0), (0, .ref b)] rfl (by decide) rfl dL_law_7 ?_
  refine v_letE (fun m0 e1 => ?_)
  refine v_hnew C 3 e1 (by decide) rfl in_X4 tyX4 tyX4_ok df_X4 q1609 q1610 q127 dL_law_8 (fun u3 => ?_)
  refine v_dup C.1 rfl dL_law_11 ?_
  refine v_callIH C [] [.ref m0] (ctX4_init t G l hl0 m0 u3) (fun _ _ => cwX4_init C q1611 (by decide)) rfl rfl (by exact Nat.le_of_ble_eq_true rfl) dL_law_12 (fun _ u4 => ?_)
  refine v_astore_n C.1 [(2, .ref m0), (1, .ref x0), (0, .ref b)] rfl (by decide) rfl dL_law_15 ?_
  refine v_letE (fun o0 e2 => ?_)
  refine v_iconst C.1 1 (by decide) dL_law_16 ?_
  refine v_hnewa C 4 e2 (by decide) rfl q2349 (by decide) rfl (by decide) dL_law_17 (fun u5 => ?_)
  refine v_astore_n C.1 [(3, .ref o0), (2, .ref m0), (1, .ref x0), (0, .ref b)] rfl (by decide) rfl dL_law_19 ?_
  refine v_chk (fun ck => ?_)
  exact v_switch hl0 C hX hbs hG ck
end VEND
theorem whole_of (hP : PlainLaw) {p : Program} {e : Env} {s : State} {m : MethodId} {below : List Frame} {meth : Method} {c : Code} (l : Launch) (hflags : l.flags = flags0) {b L : Nat} {xs : Nat → Int32} (hL : L ≤ 384) (C0 : lw_At p s m meth c b L xs) : W p l e room_1 s m #[Value.ref b] below meth c s.heap [] 0 0 (lw_Z below #[Value.ref b] s) (entryFrame m ([Value.ref b] : List Value).toArray 7) := by
  obtain ⟨c1, c2, c3, c4, c5, c6, c7, c8, c9, c10⟩ := C0
  have hl0 : l.stackTraces = false := by
    unfold Launch.stackTraces
    rw [hflags]
    decide +kernel
  obtain ⟨t, K, O, hW, hB⟩ := st_KW c6 c10
  obtain ⟨h, hrel, hok⟩ := st_h0 hW hB
  obtain ⟨w, hw, w1, w2, w3⟩ := hP h L xs hok hL
  have htA : ∀ w ∈ lw_all, w.before #[Value.ref b] s = true := fun w h => c6 w (List.mem_filter.mp h).1
  have C : CxH t (fun a => s.heap.size ≤ a, K, O) l p s m #[Value.ref b] meth c x code 7 Pilot.CWhiteBoardLaw_law_r5622_b3886e.ret := ⟨⟨c1, c2, c4, c5, htA, c3, c9, fun q => absurd q (by decide), hW.1⟩, hW, hl0⟩
  have hl := lv_entry [Value.ref b] (n := 7) (Nat.le_of_ble_eq_true rfl)
  refine w_room (R' := rmH 1000 1200128 5501098) (by decide) (by decide) (by decide) (by decide) ?_
  rw [lg_entry_eq]
  have hgo := whL_all (e := e) (below := below) hl0 C c7 c8 (fun q => Iff.rfl) h w hw s.heap [] _ 0 0 ⟨by omega, by omega⟩ hrel va_S.rf hl
  intro T hT X
  obtain ⟨t1, a1, b1⟩ := hgo T hT X
  exact ⟨t1, a1, b1 w1⟩
