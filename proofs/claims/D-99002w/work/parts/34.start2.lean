/-! the abstract heap at the start -/
set_option maxRecDepth 100000
def StartOK (h : HS) : Prop :=
  (∀ a, hC h a = 0 ∨ 30 ≤ hC h a) ∧ (∀ a, hZ h ≤ a → hC h a = 0) ∧
  (∀ i, i < 18 → hC h (hK h (10 + i)) = 30 ∧ hR h (hK h (10 + i)) 0 = some (hK h (30 + i)) ∧ hI h (hK h (10 + i)) 1 = 0 ∧ hC h (hK h (30 + i)) = 33 ∧ hN h (hK h (30 + i)) = sLen.getD i 0 ∧ ∀ j, j < sLen.getD i 0 → hA h (hK h (30 + i)) j = (sByt.getD i []).getD j 0) ∧
  (∀ k, k < 256 → hC h (hK h (100 + k)) = 31 ∧ hI h (hK h (100 + k)) 0 = vb_c k) ∧
  (hC h (hK h 0) = 35 ∧ hC h (hK h 1) = 35 ∧ hN h (hK h 0) = 0 ∧ hN h (hK h 1) = 0 ∧ hK h 0 ≠ hK h 1 ∧ hK h 5 ≠ hK h 6)
section VH0
variable {s : State} {t : TT} {K : Nat → Nat} {O : Nat → Option Nat}
theorem o_name {C D : String} {a : Nat} {A B : Nat → Prop} {H : Heap} (h1 : va_O C a A s H) (h2 : va_O D a B s H) : C = D := by
  obtain ⟨c1, a1, -, a3, -⟩ := h1
  obtain ⟨c2, b1, -, b3, -⟩ := h2
  cases a1.symm.trans b1
  obtain ⟨k1, e1, n1⟩ := Vm.findClass_spec a3
  obtain ⟨k2, e2, n2⟩ := Vm.findClass_spec b3
  cases e1.symm.trans e2
  exact n1.symm.trans n2
noncomputable def cif {A : Type} (P : Prop) (x y : A) : A := @ite A P (Classical.propDecidable P) x y
theorem cif_pos {A : Type} {P : Prop} {x y : A} (h : P) : cif P x y = x := @if_pos P (Classical.propDecidable P) h A x y
theorem cif_neg {A : Type} {P : Prop} {x y : A} (h : ¬ P) : cif P x y = y := @if_neg P (Classical.propDecidable P) h A x y
noncomputable def cdf {A : Type} (P : Prop) (f : P → A) (y : A) : A := @dite A P (Classical.propDecidable P) f (fun _ => y)
theorem cdf_pos {A : Type} {P : Prop} {f : P → A} {y : A} (h : P) : cdf P f y = f h := @dif_pos P (Classical.propDecidable P) h A f (fun _ => y)
theorem cdf_neg {A : Type} {P : Prop} {f : P → A} {y : A} (h : ¬ P) : cdf P f y = y := @dif_neg P (Classical.propDecidable P) h A f (fun _ => y)
theorem vb_inj : ∀ i, i < 256 → ∀ j, j < 256 → vb_c i = vb_c j → i = j := by decide +kernel
theorem st_h0 (hW : KW t (fun a => s.heap.size ≤ a, K, O) s s.heap) (hB : ∀ i, i < 18 → va_O "[B" (K (30 + i)) (fun a => s.heap.size ≤ a) s s.heap) : ∃ h : HS, RelH t (fun a => s.heap.size ≤ a, K, O) h s.heap ∧ StartOK h := by
  have hS := hW.2.1
  have hCc := hW.2.2.2.1
  have oK : ∀ i, i < 18 → va_O "java/lang/String" (K (10 + i)) (fun a => s.heap.size ≤ a) s s.heap := fun i hi => (hS.1 i hi).1
  have oB : ∀ k, k < 256 → va_O "java/lang/Integer" (K (100 + k)) (fun a => s.heap.size ≤ a) s s.heap := fun k hk => hCc.1 k hk
  have o0 : va_O "[Ljava/lang/Object;" (K 0) (fun a => s.heap.size ≤ a) s s.heap := hW.o0
  have o1 : va_O "[Ljava/lang/Object;" (K 1) (fun a => s.heap.size ≤ a) s s.heap := hW.o1
  have iK : ∀ i j, i < 18 → j < 18 → K (10 + i) = K (10 + j) → i = j := hS.2
  have iB : ∀ i, i < 256 → ∀ j, j < 256 → K (100 + i) = K (100 + j) → i = j := by
    intro i hi j hj e
    have h1 := hCc.2 i hi
    have h2 := hCc.2 j hj
    dsimp only at h1 h2
    rw [e] at h1
    exact vb_inj i hi j hj (Value.int.inj (of_inj h1 h2))
  have lt : ∀ {C : String} {a : Nat}, va_O C a (fun a => s.heap.size ≤ a) s s.heap → a < s.heap.size := fun h => Nat.not_le.mp h.choose_spec.2.2.2
  have tB : ∀ i, i < 18 → va_T .byte (K (30 + i)) (sLen.getD i 0) (fun j => .int ((sByt.getD i []).getD j 0)) (fun a => s.heap.size ≤ a) s s.heap := fun i hi => (hS.1 i hi).2.2.2
  have nB : ∀ i, i < 18 → ∀ i', i' < 18 → K (30 + i) = K (30 + i') → sLen.getD i 0 = sLen.getD i' 0 ∧ ∀ j, j < sLen.getD i 0 → (sByt.getD i []).getD j 0 = (sByt.getD i' []).getD j 0 := by
    intro i hi i' hi' e
    obtain ⟨c1, a1, -, -, -, a5, a6, -⟩ := tB i hi
    obtain ⟨c2, b1, -, -, -, b5, b6, -⟩ := tB i' hi'
    rw [e] at a1
    cases a1.symm.trans b1
    have e1 := a5.symm.trans b5
    have l1 := (st_s1 i hi).1
    have l2 := (st_s1 i' hi').1
    have e2 : sLen.getD i 0 = sLen.getD i' 0 := by
      have := congrArg Int32.toInt e1
      rw [Int32.toInt_ofNat_of_lt (by omega), Int32.toInt_ofNat_of_lt (by omega)] at this
      omega
    refine ⟨e2, fun j hj => ?_⟩
    have h1 := a6 j hj
    rw [b6 j (by omega)] at h1
    exact (Value.int.inj (Option.some.inj h1)).symm
  let isS : Nat → Prop := fun a => ∃ i, i < 18 ∧ a = K (10 + i)
  let isB : Nat → Prop := fun a => ∃ k, k < 256 ∧ a = K (100 + k)
  let isV : Nat → Prop := fun a => ∃ i, i < 18 ∧ a = K (30 + i)
  let is0 : Nat → Prop := fun a => a = K 0 ∨ a = K 1
  let fC : Nat → Nat := fun a => cif (isS a) 30 (cif (isB a) 31 (cif (isV a) 33 (cif (is0 a) 35 0)))
  let fI : Nat → Nat → Int32 := fun a k => if k = 1 then 0 else cdf (isB a) (fun h => vb_c h.choose) 0
  let fR : Nat → Nat → Option Nat := fun a _ => cdf (isS a) (fun h => some (K (30 + h.choose))) none
  let fA : Nat → Nat → Int32 := fun a j => cdf (isV a) (fun h => (sByt.getD h.choose []).getD j 0) 0
  let fN : Nat → Nat := fun a => cdf (isV a) (fun h => sLen.getD h.choose 0) 0
  let h : HS := (fC, fI, fR, fA, fun _ _ => none, fun _ _ => 0, fN, s.heap.size, K, O)
  have cS : ∀ a, isS a → fC a = 30 := fun a ha => cif_pos ha
  have sep1 : ∀ a, isB a → ¬ isS a := by
    rintro a ⟨k, hk, e⟩ ⟨i, hi, e'⟩
    have h1 := oK i hi
    rw [← e'] at h1
    have h2 := oB k hk
    rw [← e] at h2
    exact absurd (o_name h1 h2) (by decide)
  have sep2 : ∀ a, isV a → ¬ isS a ∧ ¬ isB a := by
    rintro a ⟨k, hk, e⟩
    have h2 := hB k hk
    rw [← e] at h2
    refine ⟨?_, ?_⟩
    · rintro ⟨i, hi, e'⟩
      have h1 := oK i hi
      rw [← e'] at h1
      exact absurd (o_name h1 h2) (by decide)
    · rintro ⟨i, hi, e'⟩
      have h1 := oB i hi
      rw [← e'] at h1
      exact absurd (o_name h1 h2) (by decide)
  have n0 : ∀ a, is0 a → va_O "[Ljava/lang/Object;" a (fun a => s.heap.size ≤ a) s s.heap := by
    rintro a (e | e)
    · rw [e]; exact o0
    · rw [e]; exact o1
  have sep3 : ∀ a, is0 a → ¬ isS a ∧ ¬ isB a ∧ ¬ isV a := by
    intro a ha
    have h2 := n0 a ha
    refine ⟨?_, ?_, ?_⟩
    · rintro ⟨i, hi, e'⟩
      have h1 := oK i hi
      rw [← e'] at h1
      exact absurd (o_name h1 h2) (by decide)
    · rintro ⟨i, hi, e'⟩
      have h1 := oB i hi
      rw [← e'] at h1
      exact absurd (o_name h1 h2) (by decide)
    · rintro ⟨i, hi, e'⟩
      have h1 := hB i hi
      rw [← e'] at h1
      exact absurd (o_name h1 h2) (by decide)
  have cB : ∀ a, isB a → fC a = 31 := fun a ha => (cif_neg (sep1 a ha)).trans (cif_pos ha)
  have cV : ∀ a, isV a → fC a = 33 := fun a ha => (cif_neg (sep2 a ha).1).trans ((cif_neg (sep2 a ha).2).trans (cif_pos ha))
  have c0 : ∀ a, is0 a → fC a = 35 := fun a ha => (cif_neg (sep3 a ha).1).trans ((cif_neg (sep3 a ha).2.1).trans ((cif_neg (sep3 a ha).2.2).trans (cif_pos ha)))
  have cN : ∀ a, fC a = 0 ∨ (fC a = 30 ∧ isS a) ∨ (fC a = 31 ∧ isB a) ∨ (fC a = 33 ∧ isV a) ∨ (fC a = 35 ∧ is0 a) := by
    intro a
    by_cases h1 : isS a
    · exact Or.inr (Or.inl ⟨cS a h1, h1⟩)
    by_cases h2 : isB a
    · exact Or.inr (Or.inr (Or.inl ⟨cB a h2, h2⟩))
    by_cases h3 : isV a
    · exact Or.inr (Or.inr (Or.inr (Or.inl ⟨cV a h3, h3⟩)))
    by_cases h4 : is0 a
    · exact Or.inr (Or.inr (Or.inr (Or.inr ⟨c0 a h4, h4⟩)))
    exact Or.inl ((cif_neg h1).trans ((cif_neg h2).trans ((cif_neg h3).trans (cif_neg h4))))
  have ge : ∀ a, fC a = 0 ∨ 30 ≤ fC a := by
    intro a
    rcases cN a with h | h | h | h | h
    · exact Or.inl h
    all_goals exact Or.inr (by omega)
  have rS : ∀ i, i < 18 → fR (K (10 + i)) 0 = some (K (30 + i)) := by
    intro i hi
    have hx : isS (K (10 + i)) := ⟨i, hi, rfl⟩
    have e1 : fR (K (10 + i)) 0 = some (K (30 + hx.choose)) := cdf_pos hx
    rw [e1]
    exact congrArg (fun z => some (K (30 + z))) (iK i hx.choose hi hx.choose_spec.1 hx.choose_spec.2).symm
  have vB : ∀ k, k < 256 → fI (K (100 + k)) 0 = vb_c k := by
    intro k hk
    have hx : isB (K (100 + k)) := ⟨k, hk, rfl⟩
    have e1 : fI (K (100 + k)) 0 = vb_c hx.choose := (if_neg (by decide)).trans (cdf_pos hx)
    rw [e1, ← iB k hk hx.choose hx.choose_spec.1 hx.choose_spec.2]
  have vV : ∀ i, i < 18 → fN (K (30 + i)) = sLen.getD i 0 ∧ ∀ j, j < sLen.getD i 0 → fA (K (30 + i)) j = (sByt.getD i []).getD j 0 := by
    intro i hi
    have hx : isV (K (30 + i)) := ⟨i, hi, rfl⟩
    obtain ⟨g1, g2⟩ := nB i hi hx.choose hx.choose_spec.1 hx.choose_spec.2
    have e1 : fN (K (30 + i)) = sLen.getD hx.choose 0 := cdf_pos hx
    refine ⟨by rw [e1, g1], fun j hj => ?_⟩
    have e2 : fA (K (30 + i)) j = (sByt.getD hx.choose []).getD j 0 := cdf_pos hx
    rw [e2, g2 j hj]
  have v0 : ∀ a, is0 a → fN a = 0 := fun a ha => cdf_neg (sep3 a ha).2.2
  refine ⟨h, ⟨rfl, rfl, rfl, fun q hq => hq, fun a h1 h2 => ?_, fun a => ⟨⟨fun h1 h2 => ?_, fun h1 => ?_, fun h1 => ?_, fun h1 => ?_⟩, ⟨fun h1 => ?_, fun h1 => ?_, fun h1 => ?_, fun h1 => ?_, fun h1 => ?_⟩⟩⟩, ⟨ge, fun a ha => ?_, fun i hi => ⟨cS _ ⟨i, hi, rfl⟩, rS i hi, rfl, cV _ ⟨i, hi, rfl⟩, (vV i hi).1, (vV i hi).2⟩, fun k hk => ⟨cB _ ⟨k, hk, rfl⟩, vB k hk⟩, c0 _ (Or.inl rfl), c0 _ (Or.inr rfl), v0 _ (Or.inl rfl), v0 _ (Or.inr rfl), ?_, ?_⟩⟩
  · change 1 ≤ fC a at h1
    change fC a < 30 at h2
    have := ge a
    omega
  · change 1 ≤ fC a at h1
    change fC a ≤ 16 at h2
    have := ge a
    omega
  · change fC a = 21 ∨ fC a = 22 ∨ fC a = 23 at h1
    have := ge a
    omega
  · change fC a = 24 at h1
    have := ge a
    omega
  · change fC a = 25 ∨ fC a = 26 at h1
    have := ge a
    omega
  · change fC a = 30 at h1
    rcases cN a with g | g | g | g | g <;> first | omega | skip
    obtain ⟨i, hi, e⟩ := g.2
    refine ⟨i, hi, e, ?_, rfl⟩
    rw [e]
    exact rS i hi
  · change fC a = 31 at h1
    rcases cN a with g | g | g | g | g <;> first | omega | skip
    obtain ⟨i, hi, e⟩ := g.2
    refine ⟨i, hi, e, ?_⟩
    rw [e]
    exact vB i hi
  · change fC a = 33 at h1
    rcases cN a with g | g | g | g | g <;> first | omega | skip
    obtain ⟨i, hi, e⟩ := g.2
    refine ⟨i, hi, e, ?_, ?_⟩
    · rw [e]; exact (vV i hi).1
    · rw [e]; exact (vV i hi).2
  · change fC a = 34 at h1
    rcases cN a with g | g | g | g | g <;> omega
  · change fC a = 35 at h1
    rcases cN a with g | g | g | g | g <;> first | omega | skip
    exact ⟨g.2, v0 a g.2⟩
  · change s.heap.size ≤ a at ha
    show fC a = 0
    rcases cN a with g | g | g | g | g
    · exact g
    · obtain ⟨i, hi, e⟩ := g.2
      have := lt (oK i hi)
      omega
    · obtain ⟨i, hi, e⟩ := g.2
      have := lt (oB i hi)
      omega
    · obtain ⟨i, hi, e⟩ := g.2
      have := lt (hB i hi)
      omega
    · have := lt (n0 a g.2)
      omega
  · obtain ⟨k1, k2, k3, k4, k5, k6, k7, k8, k9, k10, k11, k12, a1, a2, k13, k14, k15, k16, k17, k18, k19, k20, k21⟩ := hW
    exact k21
  · obtain ⟨k1, k2, k3, k4, k5, k6, k7, k8, k9, k10, k11, k12, a1, a2, k13, k14, k15, k16, k17, k18, k19, k20, k21⟩ := hW
    exact k20
end VH0
