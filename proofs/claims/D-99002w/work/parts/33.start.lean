/-! the start: what the tables and the statics give -/
set_option maxRecDepth 100000
abbrev stC : Cond := Jvm.Cond.and given_1 narrow_1
def stF : List Cond := flatC stC
abbrev strT (i : Nat) : Term := Term.string "WhiteBoard$Reader" (sPool.getD i (0, "")).1
section VST
variable {s : State} {b : Nat}
theorem st_cls (hts : ∀ w ∈ lw_all, w.before #[Value.ref b] s = true) : ∃ f : Nat → ClassId × (Nat → Nat), ∀ (c : Nat) (r : vw_C), vwCl[c]? = some r → u_Kn s r.1 r.2.1 r.2.2 (f c).1 (f c).2 := by
  have h0 : ∀ c : Nat, ∃ z : ClassId × (Nat → Nat), ∀ r : vw_C, vwCl[c]? = some r → u_Kn s r.1 r.2.1 r.2.2 z.1 z.2 := by
    intro c
    match c with
    | 0 =>
      obtain ⟨cC, iS, h⟩ := u_known hts in_X1 (hts _ q156)
      exact ⟨(cC, iS), fun r hr => by cases hr; exact h⟩
    | 1 =>
      obtain ⟨cC, iS, h⟩ := u_known hts in_X2 (hts _ q164)
      exact ⟨(cC, iS), fun r hr => by cases hr; exact h⟩
    | 2 =>
      obtain ⟨cC, iS, h⟩ := u_known hts in_X3 (hts _ q247)
      exact ⟨(cC, iS), fun r hr => by cases hr; exact h⟩
    | 3 =>
      obtain ⟨cC, iS, h⟩ := u_known hts in_X4 (hts _ q1610)
      exact ⟨(cC, iS), fun r hr => by cases hr; exact h⟩
    | 4 =>
      obtain ⟨cC, iS, h⟩ := u_known hts in_X5 (hts _ q828)
      exact ⟨(cC, iS), fun r hr => by cases hr; exact h⟩
    | 5 =>
      obtain ⟨cC, iS, h⟩ := u_known hts in_X6 (hts _ q1013)
      exact ⟨(cC, iS), fun r hr => by cases hr; exact h⟩
    | 6 =>
      obtain ⟨cC, iS, h⟩ := u_known hts in_X7 (hts _ q1084)
      exact ⟨(cC, iS), fun r hr => by cases hr; exact h⟩
    | 7 =>
      obtain ⟨cC, iS, h⟩ := u_known hts in_X8 (hts _ q1130)
      exact ⟨(cC, iS), fun r hr => by cases hr; exact h⟩
    | 8 =>
      obtain ⟨cC, iS, h⟩ := u_known hts in_X9 (hts _ q1153)
      exact ⟨(cC, iS), fun r hr => by cases hr; exact h⟩
    | 9 =>
      obtain ⟨cC, iS, h⟩ := u_known hts in_X10 (hts _ q1167)
      exact ⟨(cC, iS), fun r hr => by cases hr; exact h⟩
    | 10 =>
      obtain ⟨cC, iS, h⟩ := u_known hts in_X11 (hts _ q1292)
      exact ⟨(cC, iS), fun r hr => by cases hr; exact h⟩
    | 11 =>
      obtain ⟨cC, iS, h⟩ := u_known hts in_J2 (hts _ q170)
      exact ⟨(cC, iS), fun r hr => by cases hr; exact h⟩
    | 12 =>
      obtain ⟨cC, iS, h⟩ := u_known hts in_J19 (hts _ q1183)
      exact ⟨(cC, iS), fun r hr => by cases hr; exact h⟩
    | 13 =>
      obtain ⟨cC, iS, h⟩ := u_known hts in_J16 (hts _ q619)
      exact ⟨(cC, iS), fun r hr => by cases hr; exact h⟩
    | 14 =>
      obtain ⟨cC, iS, h⟩ := u_known hts in_J6 (hts _ q764)
      exact ⟨(cC, iS), fun r hr => by cases hr; exact h⟩
    | 15 =>
      obtain ⟨cC, iS, h⟩ := u_known hts in_J20 (hts _ q1328)
      exact ⟨(cC, iS), fun r hr => by cases hr; exact h⟩
    | n + 16 => exact ⟨(Classical.choice inferInstance, fun _ => 0), fun r hr => by simp [vwCl] at hr⟩
  obtain ⟨f, hf⟩ := Classical.axiomOfChoice h0
  exact ⟨f, hf⟩
theorem st_arrP {ty : FieldType} (h : (Cond.arrayClass ty).before #[Value.ref b] s = true) : ∃ cA : ClassId, ArrOfT s cA ty ∧ s.vm.findClass ("[" ++ ty.toString) = some cA := by
  obtain ⟨c, k, comp, h1, h2, h3⟩ := Cond.arrayClass_spec h
  exact ⟨c, fun n z => ⟨fun k h => (by cases h), k, h2, comp, h3⟩, h1⟩
theorem st_arrO {C : String} (h : (Cond.arrayOver (.object C)).before #[Value.ref b] s = true) : ∃ cA : ClassId, ArrOfT s cA (.object C) ∧ va_RA s cA (.object C) := by
  obtain ⟨comp, c, k, h1, -, h3, h4, h5⟩ := Cond.arrayOver_spec h
  exact ⟨c, fun n z => ⟨fun k h => (by cases h), k, h3, comp, h4⟩, k, comp, h3, h4, h1, h5⟩
theorem st_fw : ∀ r ∈ fwL, Cond.declares r.2.1 ∈ lw_tbl ∧ Cond.interfaceMethod r.2.1.cls r.2.1.cls r.2.1.name r.2.1.desc ∈ lw_tbl ∧ Cond.publicMethod r.2.2 ∈ lw_tbl ∧ Cond.unhidden r.1 r.2.1.name r.2.1.desc ∈ lw_tbl ∧ Cond.castable r.1 r.2.1.cls ∈ lw_tbl := by decide +kernel
theorem st_nc : Cond.not (.castable "java/lang/IllegalArgumentException" "java/util/NoSuchElementException") ∈ stF := by decide +kernel
theorem st_KK (hts : ∀ w ∈ lw_tbl, w.before #[Value.ref b] s = true) (hgv : stC.before #[Value.ref b] s = true) : ∃ t : TT, KK t s := by
  have htA : ∀ w ∈ lw_all, w.before #[Value.ref b] s = true := fun w h => hts w (List.mem_filter.mp h).1
  have hs := flat_of_before _ hgv
  obtain ⟨f, hf⟩ := st_cls htA
  obtain ⟨a1, h1, g1⟩ := st_arrP (htA _ q195)
  obtain ⟨a2, h2, g2⟩ := st_arrP (htA _ q1877)
  obtain ⟨a3, h3, g3⟩ := st_arrP (htA _ q353)
  obtain ⟨a4, h4, g4⟩ := st_arrP (htA _ q2349)
  obtain ⟨a5, h5, g5⟩ := st_arrO (hts _ q442)
  obtain ⟨a6, h6, g6⟩ := st_arrO (hts _ q838)
  refine ⟨(fun c => (f c).1, fun c => (f c).2, fun k => match k with | 1 => a1 | 2 => a2 | 3 => a3 | 4 => a4 | 5 => a5 | _ => a6), ⟨hf, fun k r hk => ?_⟩, fun w hw hn => va_Nw.of (nestWord_tabs hn) (hts w hw), fun r hr => ?_, va_AO.of (hts _ q442), va_AO.of (hts _ q838), ?_⟩
  · match k, hk with
    | 0, hk => cases hk; exact ⟨h1, g1⟩
    | 1, hk => cases hk; exact ⟨h2, g2⟩
    | 2, hk => cases hk; exact ⟨h3, g3⟩
    | 3, hk => cases hk; exact ⟨h4, g4⟩
    | 4, hk => cases hk; exact ⟨h5, g5⟩
    | 5, hk => cases hk; exact ⟨h6, g6⟩
    | n + 6, hk => simp [tysAll] at hk
  · obtain ⟨w1, w2, w3, w4, w5⟩ := st_fw r hr
    exact va_Fw.of (hts _ w1) (hts _ w2) (hts _ w3) (hts _ w4) (hts _ w5)
  · exact ⟨va_any rfl (hts _ q738), va_any rfl (hts _ q741), va_any rfl (hts _ q740), va_Nc.of (hs _ st_nc)⟩
theorem st_s1 : ∀ i : Nat, i < 18 → sLen.getD i 0 < 2 ^ 31 ∧ Cond.exactly (strT i) "java/lang/String" ∈ stF ∧ Cond.eq (.field (strT i) "java/lang/String" "coder" "B") (.int 0) ∈ stF ∧ Cond.arrayOf (.field (strT i) "java/lang/String" "value" "[B") .byte ∈ stF ∧ Cond.eq (.length (.field (strT i) "java/lang/String" "value" "[B")) (.int (Int32.ofNat (sLen.getD i 0))) ∈ stF ∧ Cond.stringRef "WhiteBoard$Reader" (sPool.getD i (0, "")).1 (sPool.getD i (0, "")).2 ∈ lw_tbl := by decide +kernel
theorem st_s2 : ∀ i : Nat, i < 18 → ∀ j : Nat, j < sLen.getD i 0 → Cond.eq (.elem (.field (strT i) "java/lang/String" "value" "[B") (.int (Int32.ofNat j))) (.int ((sByt.getD i []).getD j 0)) ∈ stF := by decide +kernel
def stG : Cond → Option (Nat × Nat)
  | .not (.eq (.string o a) (.string o2 c)) => if o = "WhiteBoard$Reader" ∧ o2 = "WhiteBoard$Reader" then some (a, c) else none
  | _ => none
theorem stG_k {w : Cond} {a c : Nat} (h : stG w = some (a, c)) : w = Cond.not (Cond.eq (.string "WhiteBoard$Reader" a) (.string "WhiteBoard$Reader" c)) := by
  unfold stG at h
  split at h
  · split at h
    · rename_i h2
      obtain ⟨rfl, rfl⟩ := h2
      cases h
      rfl
    · cases h
  · cases h
def stP : List (Nat × Nat) := [(33, 35), (33, 37), (35, 37), (33, 39), (35, 39), (37, 39), (33, 41), (35, 41), (37, 41), (39, 41), (33, 43), (35, 43), (37, 43), (39, 43), (41, 43), (33, 45), (35, 45), (37, 45), (39, 45), (41, 45), (43, 45), (33, 47), (35, 47), (37, 47), (39, 47), (41, 47), (43, 47), (45, 47), (33, 95), (35, 95), (37, 95), (39, 95), (41, 95), (43, 95), (45, 95), (47, 95), (33, 268), (35, 268), (37, 268), (39, 268), (41, 268), (43, 268), (45, 268), (47, 268), (95, 268), (33, 272), (35, 272), (37, 272), (39, 272), (41, 272), (43, 272), (45, 272), (47, 272), (95, 272), (268, 272), (33, 273), (35, 273), (37, 273), (39, 273), (41, 273), (43, 273), (45, 273), (47, 273), (95, 273), (268, 273), (272, 273), (33, 278), (35, 278), (37, 278), (39, 278), (41, 278), (43, 278), (45, 278), (47, 278), (95, 278), (268, 278), (272, 278), (273, 278), (33, 282), (35, 282), (37, 282), (39, 282), (41, 282), (43, 282), (45, 282), (47, 282), (95, 282), (268, 282), (272, 282), (273, 282), (278, 282), (33, 291), (35, 291), (37, 291), (39, 291), (41, 291), (43, 291), (45, 291), (47, 291), (95, 291), (268, 291), (272, 291), (273, 291), (278, 291), (282, 291), (33, 176), (35, 176), (37, 176), (39, 176), (41, 176), (43, 176), (45, 176), (47, 176), (95, 176), (268, 176), (272, 176), (273, 176), (278, 176), (282, 176), (291, 176), (33, 186), (35, 186), (37, 186), (39, 186), (41, 186), (43, 186), (45, 186), (47, 186), (95, 186), (268, 186), (272, 186), (273, 186), (278, 186), (282, 186), (291, 186), (176, 186), (33, 193), (35, 193), (37, 193), (39, 193), (41, 193), (43, 193), (45, 193), (47, 193), (95, 193), (268, 193), (272, 193), (273, 193), (278, 193), (282, 193), (291, 193), (176, 193), (186, 193)]
theorem stP_e : stF.filterMap stG = stP := by decide +kernel
def stQ (a c : Nat) : Bool := stP.any fun z => Nat.beq z.1 a && Nat.beq z.2 c
theorem stP_m {a c : Nat} (hq : stQ a c = true) : Cond.not (Cond.eq (.string "WhiteBoard$Reader" a) (.string "WhiteBoard$Reader" c)) ∈ stF := by
  have h : (a, c) ∈ stP := by
    obtain ⟨z, hz, h2⟩ := List.any_eq_true.mp hq
    obtain ⟨h3, h4⟩ := (Bool.and_eq_true _ _).mp h2
    have e1 := Nat.eq_of_beq_eq_true h3
    have e2 := Nat.eq_of_beq_eq_true h4
    rw [← e1, ← e2]
    exact hz
  rw [← stP_e] at h
  obtain ⟨w, h1, h2⟩ := List.mem_filterMap.mp h
  rw [← stG_k h2]
  exact h1
theorem st_s3 : ∀ i j : Nat, i < 18 → j < 18 → i ≠ j → Cond.not (Cond.eq (strT i) (strT j)) ∈ stF ∨ Cond.not (Cond.eq (strT j) (strT i)) ∈ stF := by
  have h : ∀ i : Nat, i < 18 → ∀ j : Nat, j < 18 → i ≠ j → stQ (sPool.getD i (0, "")).1 (sPool.getD j (0, "")).1 = true ∨ stQ (sPool.getD j (0, "")).1 (sPool.getD i (0, "")).1 = true := by decide +kernel
  exact fun i j hi hj hn => (h i hi j hj hn).imp stP_m stP_m
theorem st_s4 : ∀ i : Nat, i < 18 → Cond.exactly (.field (strT i) "java/lang/String" "value" "[B") "[B" ∈ stF := by decide +kernel
theorem st_c1 : Cond.arrayOf (Term.static "java/lang/Integer$IntegerCache" "cache" "[Ljava/lang/Integer;") (.object "java/lang/Integer") ∈ stF ∧ Cond.eq (.length (Term.static "java/lang/Integer$IntegerCache" "cache" "[Ljava/lang/Integer;")) (.int (Int32.ofNat 256)) ∈ stF ∧ Cond.all (Term.static "java/lang/Integer$IntegerCache" "cache" "[Ljava/lang/Integer;") (.and (.exactly (.elem (Term.static "java/lang/Integer$IntegerCache" "cache" "[Ljava/lang/Integer;") (.index 0)) "java/lang/Integer") (.eq (.field (.elem (Term.static "java/lang/Integer$IntegerCache" "cache" "[Ljava/lang/Integer;") (.index 0)) "java/lang/Integer" "value" "I") (.sub (.index 0) (.int 128)))) ∈ stF ∧ Cond.eq (.static "java/lang/Integer$IntegerCache" "high" "I") (.int 127) ∈ stF ∧ Cond.eq (.static "java/lang/String" "COMPACT_STRINGS" "Z") (.int 1) ∈ stF := by decide +kernel
theorem st_c2 : Cond.arrayOf (Term.static "java/util/ArrayList" "DEFAULTCAPACITY_EMPTY_ELEMENTDATA" "[Ljava/lang/Object;") (.object "java/lang/Object") ∈ stF ∧ Cond.eq (.length (Term.static "java/util/ArrayList" "DEFAULTCAPACITY_EMPTY_ELEMENTDATA" "[Ljava/lang/Object;")) (.int (Int32.ofNat 0)) ∈ stF ∧ Cond.exactly (Term.static "java/util/ArrayList" "DEFAULTCAPACITY_EMPTY_ELEMENTDATA" "[Ljava/lang/Object;") "[Ljava/lang/Object;" ∈ stF ∧ Cond.arrayOf (Term.static "java/util/ArrayList" "EMPTY_ELEMENTDATA" "[Ljava/lang/Object;") (.object "java/lang/Object") ∈ stF ∧ Cond.eq (.length (Term.static "java/util/ArrayList" "EMPTY_ELEMENTDATA" "[Ljava/lang/Object;")) (.int (Int32.ofNat 0)) ∈ stF ∧ Cond.exactly (Term.static "java/util/ArrayList" "EMPTY_ELEMENTDATA" "[Ljava/lang/Object;") "[Ljava/lang/Object;" ∈ stF := by decide +kernel
theorem st_c3 : Cond.isRef (.static Bundle.tN "UNASSIGNED_STACK" Bundle.steD) ∈ stF ∧ Cond.isRef (.static Bundle.tN "SUPPRESSED_SENTINEL" Bundle.listD) ∈ stF ∧ Cond.isRef (.static "jdk/internal/util/Preconditions" "SIOOBE_FORMATTER" "Ljava/util/function/BiFunction;") ∈ stF ∧ Cond.isRef (.mirror "[Ljava/lang/Object;") ∈ stF ∧ Cond.isRef (.mirror "java/util/ArrayList") ∈ stF := by decide +kernel
theorem st_c4 : (Cond.not (Cond.eq (Term.static "java/util/ArrayList" "DEFAULTCAPACITY_EMPTY_ELEMENTDATA" "[Ljava/lang/Object;") (Term.static "java/util/ArrayList" "EMPTY_ELEMENTDATA" "[Ljava/lang/Object;")) ∈ stF ∨ Cond.not (Cond.eq (Term.static "java/util/ArrayList" "EMPTY_ELEMENTDATA" "[Ljava/lang/Object;") (Term.static "java/util/ArrayList" "DEFAULTCAPACITY_EMPTY_ELEMENTDATA" "[Ljava/lang/Object;")) ∈ stF) ∧ (Cond.not (Cond.eq (.mirror "[Ljava/lang/Object;") (.mirror "java/util/ArrayList")) ∈ stF ∨ Cond.not (Cond.eq (.mirror "java/util/ArrayList") (.mirror "[Ljava/lang/Object;")) ∈ stF) := by decide +kernel
theorem of_inj {o n d : String} {v w : Value} {t : Nat} {A B : Nat → Prop} {H : Heap} (h1 : va_OF o n d v t A s H) (h2 : va_OF o n d w t B s H) : v = w := by
  obtain ⟨c1, k1, i1, f1, cell1, a1, a2, a3, a4, a5, -⟩ := h1
  obtain ⟨c2, k2, i2, f2, cell2, b1, b2, b3, b4, b5, -⟩ := h2
  cases a1.symm.trans b1
  cases a3.symm.trans b3
  exact Option.some.inj (a5.symm.trans b5)
theorem st_zq {C n d : String} {A : Nat → Prop} (h : va_Zq C n d A s s.heap) : ∃ o : Option Nat, va_Z C n d (va_rf o) A s s.heap := by
  rcases h with h | ⟨t, h⟩
  · exact ⟨none, h⟩
  · exact ⟨some t, h⟩
theorem st_mi {C : String} (h : (Cond.isRef (.mirror C)).before #[Value.ref b] s = true) : ∃ mi : Nat, va_Mi C mi s ∧ (Term.mirror C).eval #[Value.ref b] s none [] s = some (.ref mi) := by
  obtain ⟨v, hv, -⟩ := Cond.isRef_spec h
  obtain ⟨c, k, a, h1, h2, h3, h4⟩ := Term.mirror_spec hv
  first
    | exact ⟨a, ⟨c, k, h1, h2, h3⟩, by rw [hv, h4]⟩
    | exact ⟨a, ⟨c, k, h1, h2, h3⟩, by rw [hv]; exact congrArg some h4⟩
    | (subst h4; exact ⟨a, ⟨c, k, h1, h2, h3⟩, hv⟩)
theorem st_KW (hts : ∀ w ∈ lw_tbl, w.before #[Value.ref b] s = true) (hgv : stC.before #[Value.ref b] s = true) : ∃ (t : TT) (K : Nat → Nat) (O : Nat → Option Nat), KW t (fun a => s.heap.size ≤ a, K, O) s s.heap ∧ ∀ i, i < 18 → va_O "[B" (K (30 + i)) (fun a => s.heap.size ≤ a) s s.heap := by
  have htA : ∀ w ∈ lw_all, w.before #[Value.ref b] s = true := fun w h => hts w (List.mem_filter.mp h).1
  have hs := flat_of_before _ hgv
  have hA : ∀ a : Nat, a < s.heap.size → ¬ (fun a => s.heap.size ≤ a) a := fun a h q => absurd h (Nat.not_lt.mpr q)
  obtain ⟨t, hKK⟩ := st_KK hts hgv
  obtain ⟨adK, adV, hS, hSe⟩ := vk_Sof (args := #[Value.ref b]) (s := s) (N := 18) (tm := strT) (len := sLen) (byt := sByt) (A := fun a => s.heap.size ≤ a) (fun i hi => (st_s1 i hi).1) (fun i hi => hs _ (st_s1 i hi).2.1) (fun i hi => hs _ (st_s1 i hi).2.2.1) (fun i hi => hs _ (st_s1 i hi).2.2.2.1) (fun i hi => hs _ (st_s1 i hi).2.2.2.2.1) (fun i hi j hj => hs _ (st_s2 i hi j hj)) (fun i j hi hj hn => (st_s3 i j hi hj hn).imp (hs _) (hs _)) hA
  obtain ⟨ad, hC, hCe⟩ := vb_Cof (args := #[Value.ref b]) (s := s) (A := fun a => s.heap.size ≤ a) (st := (Term.static "java/lang/Integer$IntegerCache" "cache" "[Ljava/lang/Integer;")) rfl (va_eqt (hs _ st_c1.2.1)) (hs _ st_c1.2.2.1) hA
  obtain ⟨cA, hcE, hcT⟩ := va_Tof (args := #[Value.ref b]) (s := s) (A := fun a => s.heap.size ≤ a) (tm := (Term.static "java/lang/Integer$IntegerCache" "cache" "[Ljava/lang/Integer;")) (N := 256) (by decide) (hs _ st_c1.1) (va_eqt (hs _ st_c1.2.1)) hCe hA
  obtain ⟨d0, h0E, h0T⟩ := va_Tof (args := #[Value.ref b]) (s := s) (A := fun a => s.heap.size ≤ a) (tm := (Term.static "java/util/ArrayList" "DEFAULTCAPACITY_EMPTY_ELEMENTDATA" "[Ljava/lang/Object;")) (N := 0) (f := fun _ => .null) (by decide) (hs _ st_c2.1) (va_eqt (hs _ st_c2.2.1)) (fun j hj => absurd hj (Nat.not_lt_zero j)) hA
  obtain ⟨d1, h1E, h1T⟩ := va_Tof (args := #[Value.ref b]) (s := s) (A := fun a => s.heap.size ≤ a) (tm := (Term.static "java/util/ArrayList" "EMPTY_ELEMENTDATA" "[Ljava/lang/Object;")) (N := 0) (f := fun _ => .null) (by decide) (hs _ st_c2.2.2.2.1) (va_eqt (hs _ st_c2.2.2.2.2.1)) (fun j hj => absurd hj (Nat.not_lt_zero j)) hA
  obtain ⟨m5, hm5, hm5e⟩ := st_mi (hs _ st_c3.2.2.2.1)
  obtain ⟨m6, hm6, hm6e⟩ := st_mi (hs _ st_c3.2.2.2.2)
  have zU := vx_Zqof (A := fun a => s.heap.size ≤ a) (hts _ q790) (htA _ q128) (hs _ st_c3.1) hA
  have zN := vx_Zqof (A := fun a => s.heap.size ≤ a) (hts _ q792) (htA _ q128) (hs _ st_c3.2.1) hA
  obtain ⟨o0, ho0⟩ := st_zq zU.1
  obtain ⟨o1, ho1⟩ := st_zq zN.1
  obtain ⟨o2, ho2⟩ := st_zq (va_Zqof (A := fun a => s.heap.size ≤ a) (hts _ q590) (htA _ q137) (hs _ st_c3.2.2.1) hA)
  have hB : ∀ i, i < 18 → va_O "[B" (adV i) (fun a => s.heap.size ≤ a) s s.heap := by
    intro i hi
    obtain ⟨a, c, cA, kA, q1, q2, q3, q4, q5, q6, -⟩ := Cond.exactly_spec (hs _ (st_s4 i hi))
    have h1 := vk_OFof (A := fun a => s.heap.size ≤ a) (hSe i hi) q1 hA
    have h2 := (hS.1 i hi).2.2.1
    have e := Value.ref.inj (of_inj h1 h2)
    rw [← e]
    exact ⟨cA, q3, q5, by rw [q6]; exact q2, hA a (Array.getElem?_eq_some_iff.mp q3).1⟩
  let K : Nat → Nat := fun k => if k = 0 then d0 else if k = 1 then d1 else if k = 2 then cA else if k = 5 then m5 else if k = 6 then m6 else if k < 28 then adK (k - 10) else if k < 48 then adV (k - 30) else ad (k - 100)
  let O : Nat → Option Nat := fun k => if k = 0 then o0 else if k = 1 then o1 else o2
  have k0 : K 0 = d0 := rfl
  have k1 : K 1 = d1 := rfl
  have k2 : K 2 = cA := rfl
  have k5 : K 5 = m5 := rfl
  have k6 : K 6 = m6 := rfl
  have kK : ∀ i, i < 18 → K (10 + i) = adK i := fun i hi => by
    show (if 10 + i = 0 then d0 else if 10 + i = 1 then d1 else if 10 + i = 2 then cA else if 10 + i = 5 then m5 else if 10 + i = 6 then m6 else if 10 + i < 28 then adK (10 + i - 10) else if 10 + i < 48 then adV (10 + i - 30) else ad (10 + i - 100)) = adK i
    rw [if_neg (by omega), if_neg (by omega), if_neg (by omega), if_neg (by omega), if_neg (by omega), if_pos (by omega), Nat.add_sub_cancel_left]
  have kV : ∀ i, i < 18 → K (30 + i) = adV i := fun i hi => by
    show (if 30 + i = 0 then d0 else if 30 + i = 1 then d1 else if 30 + i = 2 then cA else if 30 + i = 5 then m5 else if 30 + i = 6 then m6 else if 30 + i < 28 then adK (30 + i - 10) else if 30 + i < 48 then adV (30 + i - 30) else ad (30 + i - 100)) = adV i
    rw [if_neg (by omega), if_neg (by omega), if_neg (by omega), if_neg (by omega), if_neg (by omega), if_neg (by omega), if_pos (by omega), Nat.add_sub_cancel_left]
  have kB : ∀ i, K (100 + i) = ad i := fun i => by
    show (if 100 + i = 0 then d0 else if 100 + i = 1 then d1 else if 100 + i = 2 then cA else if 100 + i = 5 then m5 else if 100 + i = 6 then m6 else if 100 + i < 28 then adK (100 + i - 10) else if 100 + i < 48 then adV (100 + i - 30) else ad (100 + i - 100)) = ad i
    rw [if_neg (by omega), if_neg (by omega), if_neg (by omega), if_neg (by omega), if_neg (by omega), if_neg (by omega), if_neg (by omega), Nat.add_sub_cancel_left]
  have kBf : (fun i => K (100 + i)) = ad := funext kB
  refine ⟨t, K, O, ⟨hKK, ?_, ?_, ?_, ?_, ?_, ?_, ?_, ?_, ?_, ?_, ?_, ?_, ?_, ho0, ho1, ho2, zU, zN, hm5, hm6, ?_, ?_⟩, fun i hi => by rw [kV i hi]; exact hB i hi⟩
  · refine ⟨fun i hi => ?_, fun i j hi hj e => ?_⟩
    · have h := hS.1 i hi
      dsimp only
      rw [kK i hi, kV i hi]
      exact h
    · dsimp only at e
      rw [kK i hi, kK j hj] at e
      exact hS.2 i j hi hj e
  · intro i hi
    dsimp only
    rw [kK i hi]
    exact vk_R.of (hts _ (st_s1 i hi).2.2.2.2.2) (hSe i hi)
  · dsimp only
    rw [kBf]
    exact hC
  · exact va_Zof (hts _ q615) (htA _ q145) (va_eqi (hs _ st_c1.2.2.2.1)) hA
  · exact va_Zof (hts _ q617) (htA _ q145) hcE hA
  · dsimp only
    have : (fun i => Value.ref (K (100 + i))) = fun i => Value.ref (ad i) := funext fun i => by rw [kB]
    rw [this]
    exact hcT
  · exact va_Zof (hts _ q923) (htA _ q134) (va_eqi (hs _ st_c1.2.2.2.2)) hA
  · exact va_Zof (hts _ q182) (htA _ q125) h0E hA
  · exact va_Zof (hts _ q746) (htA _ q125) h1E hA
  · exact h0T
  · exact h1T
  · exact va_Oof (hs _ st_c2.2.2.1) h0E hA
  · exact va_Oof (hs _ st_c2.2.2.2.2.2) h1E hA
  · show m5 ≠ m6
    rcases st_c4.2 with h | h
    · exact fun e => absurd e (va_neR (hs _ h) hm5e hm6e)
    · exact fun e => absurd e.symm (va_neR (hs _ h) hm6e hm5e)
  · show d0 ≠ d1
    rcases st_c4.1 with h | h
    · exact fun e => absurd e (va_neR (hs _ h) h0E h1E)
    · exact fun e => absurd e.symm (va_neR (hs _ h) h1E h0E)
end VST
