/-! THE FRAME, mode H: the heap by components. -/
set_option maxRecDepth 100000
/-- tags by address (0 nothing; class number + 1; 20 + kind for arrays; 30 and more: what is never written), ints of objects, references of objects, ints of arrays, references of arrays, longs of arrays, lengths, size, constants -/
abbrev HS : Type := (Nat → Nat) × (Nat → Nat → Int32) × (Nat → Nat → Option Nat) × (Nat → Nat → Int32) × (Nat → Nat → Option Nat) × (Nat → Nat → Int64) × (Nat → Nat) × Nat × (Nat → Nat) × (Nat → Option Nat)
def hC (h : HS) : Nat → Nat := h.1
def hI (h : HS) : Nat → Nat → Int32 := h.2.1
def hR (h : HS) : Nat → Nat → Option Nat := h.2.2.1
def hA (h : HS) : Nat → Nat → Int32 := h.2.2.2.1
def hQ (h : HS) : Nat → Nat → Option Nat := h.2.2.2.2.1
def hJ (h : HS) : Nat → Nat → Int64 := h.2.2.2.2.2.1
def hN (h : HS) : Nat → Nat := h.2.2.2.2.2.2.1
def hZ (h : HS) : Nat := h.2.2.2.2.2.2.2.1
def hK (h : HS) : Nat → Nat := h.2.2.2.2.2.2.2.2.1
def hO (h : HS) : Nat → Option Nat := h.2.2.2.2.2.2.2.2.2
def up1 {X : Type} (f : Nat → X) (a : Nat) (v : X) : Nat → X := fun b => if b = a then v else f b
def up2 {X : Type} (f : Nat → Nat → X) (a k : Nat) (v : X) : Nat → Nat → X := fun b j => if b = a ∧ j = k then v else f b j
def hM (c : Nat → Nat) (i : Nat → Nat → Int32) (r : Nat → Nat → Option Nat) (a : Nat → Nat → Int32) (q : Nat → Nat → Option Nat) (j : Nat → Nat → Int64) (n : Nat → Nat) (z : Nat) (k : Nat → Nat) (o : Nat → Option Nat) : HS := (c, i, r, a, q, j, n, z, k, o)
def uI (h : HS) (a k : Nat) (v : Int32) : HS := hM (hC h) (up2 (hI h) a k v) (hR h) (hA h) (hQ h) (hJ h) (hN h) (hZ h) (hK h) (hO h)
def uR (h : HS) (a k : Nat) (v : Option Nat) : HS := hM (hC h) (hI h) (up2 (hR h) a k v) (hA h) (hQ h) (hJ h) (hN h) (hZ h) (hK h) (hO h)
def uA (h : HS) (a k : Nat) (v : Int32) : HS := hM (hC h) (hI h) (hR h) (up2 (hA h) a k v) (hQ h) (hJ h) (hN h) (hZ h) (hK h) (hO h)
def uQ (h : HS) (a k : Nat) (v : Option Nat) : HS := hM (hC h) (hI h) (hR h) (hA h) (up2 (hQ h) a k v) (hJ h) (hN h) (hZ h) (hK h) (hO h)
def uJ (h : HS) (a k : Nat) (v : Int64) : HS := hM (hC h) (hI h) (hR h) (hA h) (hQ h) (up2 (hJ h) a k v) (hN h) (hZ h) (hK h) (hO h)
/-- a whole row of an array is copied over -/
def uAr (h : HS) (a : Nat) (f : Nat → Int32) : HS := hM (hC h) (hI h) (hR h) (up1 (hA h) a f) (hQ h) (hJ h) (hN h) (hZ h) (hK h) (hO h)
def uQr (h : HS) (a : Nat) (f : Nat → Option Nat) : HS := hM (hC h) (hI h) (hR h) (hA h) (up1 (hQ h) a f) (hJ h) (hN h) (hZ h) (hK h) (hO h)
/-- a new object of a class; a new array of a kind -/
def nO (h : HS) (ci : Nat) : HS := hM (up1 (hC h) (hZ h) (ci + 1)) (up1 (hI h) (hZ h) (fun _ => 0)) (up1 (hR h) (hZ h) (fun _ => none)) (hA h) (hQ h) (hJ h) (hN h) (hZ h + 1) (hK h) (hO h)
def nA (h : HS) (kd n : Nat) : HS := hM (up1 (hC h) (hZ h) (kd + 20)) (hI h) (hR h) (up1 (hA h) (hZ h) (fun _ => 0)) (up1 (hQ h) (hZ h) (fun _ => none)) (up1 (hJ h) (hZ h) (fun _ => 0)) (up1 (hN h) (hZ h) n) (hZ h + 1) (hK h) (hO h)
/-- a cell that nobody will look at -/
def nX (h : HS) : HS := hM (up1 (hC h) (hZ h) 0) (hI h) (hR h) (hA h) (hQ h) (hJ h) (hN h) (hZ h + 1) (hK h) (hO h)
/-- fields by class: number, kinds (0 int, 1 reference, 2 byte, 3 long, 4 boolean) -/
def cN (ci : Nat) : Nat := ([14, 9, 12, 87, 12, 7, 3, 2, 1, 1, 1, 3, 4, 1, 6, 6] : List Nat).getD ci 0
def hKinds : List (List Nat) := [[1, 0, 1, 1, 1, 0, 0, 1, 1, 1, 1, 1, 1, 0], [1, 1, 1, 1, 1, 1, 1, 0, 1], [1, 1, 1, 1, 1, 1, 0, 0, 0, 0, 4, 1], [0, 0, 0, 0, 0, 0, 0, 0, 1, 1, 1, 1, 1, 1, 1, 1, 1, 1, 1, 0, 0, 0, 1, 0, 0, 0, 0, 0, 0, 0, 3, 0, 0, 0, 0, 0, 0, 0, 0, 0, 0, 1, 1, 1, 1, 1, 1, 1, 1, 1, 1, 1, 1, 1, 1, 1, 0, 1, 1, 1, 0, 0, 0, 1, 1, 1, 1, 1, 1, 0, 1, 1, 1, 1, 1, 1, 0, 1, 1, 0, 1, 4, 0, 0, 1, 1, 1], [0, 1, 1, 1, 0, 0, 0, 0, 0, 0, 0, 1], [1, 1, 1, 1, 1, 0, 0], [0, 0, 0], [1, 1], [0], [0], [1], [0, 1, 0], [1, 2, 4, 0], [0], [1, 1, 1, 1, 1, 0], [1, 1, 1, 1, 1, 0]]
def fK (ci k : Nat) : Nat := (hKinds.getD ci []).getD k 0
def hF (h : HS) (a k : Nat) : Value := match fK (hC h a - 1) k with
  | 1 => va_rf (hR h a k)
  | 3 => .long 0
  | _ => .int (hI h a k)
/-- what may be written, the constants' addresses -/
abbrev GH : Type := (Nat → Prop) × (Nat → Nat) × (Nat → Option Nat)
def relC (t : TT) (h : HS) (a : Nat) (H : Heap) : Prop :=
  (1 ≤ hC h a → hC h a ≤ 16 → t_OB a (t.1 (hC h a - 1)) (cN (hC h a - 1)) (t.2.1 (hC h a - 1)) H (hF h a)) ∧
  (hC h a = 21 ∨ hC h a = 22 ∨ hC h a = 23 → H[a]? = some (arrV (t.2.2 (hC h a - 20)) (hN h a) (fun j => .int (hA h a j)))) ∧
  (hC h a = 24 → H[a]? = some (arrV (t.2.2 4) (hN h a) (fun j => .long (hJ h a j)))) ∧
  (hC h a = 25 ∨ hC h a = 26 → H[a]? = some (arrV (t.2.2 (hC h a - 20)) (hN h a) (fun j => va_rf (hQ h a j))))
/-- the strings: lengths, letters, places in the pool -/
def sLen : List Nat := [5, 4, 3, 6, 3, 6, 3, 5, 9, 3, 3, 2, 6, 5, 3, 3, 6, 6]
def sByt : List (List Int32) := [[103, 111, 111, 100, 115], [100, 101, 98, 116], [102, 111, 101], [102, 114, 105, 101, 110, 100], [107, 105, 110], [108, 105, 115, 116, 101, 100], [100, 97, 121], [115, 97, 108, 101, 115], [59, 40, 41, 43, 45, 42, 47, 60, 61], [110, 111, 116], [97, 110, 100], [111, 114], [109, 97, 115, 116, 101, 114], [112, 108, 97, 99, 101], [115, 101, 97], [119, 97, 121], [112, 101, 114, 115, 111, 110], [119, 114, 105, 116, 101, 115]]
def sPool : List (Nat × String) := [(33, "goods"), (35, "debt"), (37, "foe"), (39, "friend"), (41, "kin"), (43, "listed"), (45, "day"), (47, "sales"), (95, ";()+-*/<="), (176, "not"), (186, "and"), (193, "or"), (268, "master"), (272, "place"), (273, "sea"), (278, "way"), (282, "person"), (291, "writes")]
/-- what is never written: 30 a string, 31 a box of the cache, 33 a string's bytes, 34 the cache, 35 an empty row of ArrayList's -/
def roC (G : GH) (h : HS) (a : Nat) : Prop :=
  (hC h a = 30 → ∃ i, i < 18 ∧ a = G.2.1 (10 + i) ∧ hR h a 0 = some (G.2.1 (30 + i)) ∧ hI h a 1 = 0) ∧
  (hC h a = 31 → ∃ k, k < 256 ∧ a = G.2.1 (100 + k) ∧ hI h a 0 = vb_c k) ∧
  (hC h a = 33 → ∃ i, i < 18 ∧ a = G.2.1 (30 + i) ∧ hN h a = sLen.getD i 0 ∧ ∀ j, j < sLen.getD i 0 → hA h a j = (sByt.getD i []).getD j 0) ∧
  (hC h a = 34 → a = G.2.1 2 ∧ hN h a = 256 ∧ ∀ k, k < 256 → hQ h a k = some (G.2.1 (100 + k))) ∧
  (hC h a = 35 → (a = G.2.1 0 ∨ a = G.2.1 1) ∧ hN h a = 0)
def RelH (t : TT) (G : GH) (h : HS) (H : Heap) : Prop :=
  hZ h = H.size ∧ hK h = G.2.1 ∧ hO h = G.2.2 ∧ (∀ q, H.size ≤ q → G.1 q) ∧ (∀ a, 1 ≤ hC h a → hC h a < 30 → G.1 a) ∧ ∀ a, relC t h a H ∧ roC G h a
/-- b's part is the same -/
def sameAt (h h' : HS) (b : Nat) : Prop := hC h' b = hC h b ∧ hI h' b = hI h b ∧ hR h' b = hR h b ∧ hA h' b = hA h b ∧ hQ h' b = hQ h b ∧ hJ h' b = hJ h b ∧ hN h' b = hN h b
theorem relC_same {t : TT} {h h' : HS} {b : Nat} {H H1 : Heap} (s : sameAt h h' b) (e : H1[b]? = H[b]?) (r : relC t h b H) : relC t h' b H1 := by
  obtain ⟨s1, s2, s3, s4, s5, s6, s7⟩ := s
  obtain ⟨r1, r2, r3, r4⟩ := r
  have hf : hF h' b = hF h b := by
    funext k
    unfold hF
    rw [s1, s2, s3]
  refine ⟨?_, ?_, ?_, ?_⟩
  · rw [s1, hf]; exact fun a1 a2 => (r1 a1 a2).kept e
  · rw [s1, s4, s7, e]; exact r2
  · rw [s1, s6, s7, e]; exact r3
  · rw [s1, s5, s7, e]; exact r4
theorem roC_same {G : GH} {h h' : HS} {b : Nat} (s : sameAt h h' b) (r : roC G h b) : roC G h' b := by
  obtain ⟨s1, s2, s3, s4, s5, s6, s7⟩ := s
  unfold roC
  rw [s1, s2, s3, s4, s5, s7]
  exact r
theorem roC_low {G : GH} {h : HS} {a : Nat} (hl : hC h a < 30) : roC G h a := ⟨fun e => by omega, fun e => by omega, fun e => by omega, fun e => by omega, fun e => by omega⟩
/-- one cell is written -/
theorem RelH.upd {t : TT} {G : GH} {h h' : HS} {a : Nat} {H H1 : Heap} (r : RelH t G h H) (hs : ∀ b, b ≠ a → sameAt h h' b) (hz : hZ h' = hZ h) (hk : hK h' = hK h) (ho : hO h' = hO h) (hc : hC h' a = hC h a) (hl : hC h a < 30) (hr : relC t h' a H1) (z : H1.size = H.size) (oq : ∀ q, q ≠ a → H1[q]? = H[q]?) : RelH t G h' H1 := by
  obtain ⟨r1, r2, r3, r4, r5, r6⟩ := r
  refine ⟨by rw [hz, z]; exact r1, by rw [hk]; exact r2, by rw [ho]; exact r3, by rw [z]; exact r4, fun b h1 h2 => ?_, fun b => ?_⟩
  · by_cases hb : b = a
    · subst hb; rw [hc] at h1 h2; exact r5 b h1 h2
    · rw [(hs b hb).1] at h1 h2; exact r5 b h1 h2
  · by_cases hb : b = a
    · subst hb; exact ⟨hr, roC_low (by rw [hc]; exact hl)⟩
    · exact ⟨relC_same (hs b hb) (oq b hb) (r6 b).1, roC_same (hs b hb) (r6 b).2⟩
theorem RelH.out {t : TT} {G : GH} {h : HS} {H : Heap} (r : RelH t G h H) {b : Nat} (hb : H.size ≤ b) : ¬ ((1 ≤ hC h b ∧ hC h b ≤ 16) ∨ (21 ≤ hC h b ∧ hC h b ≤ 26)) := by
  have e0 : H[b]? = none := by simp; omega
  have c1 := (r.2.2.2.2.2 b).1
  rintro (⟨c2, c3⟩ | ⟨c2, c3⟩)
  · obtain ⟨cell, q1, -⟩ := c1.1 c2 c3
    rw [e0] at q1; cases q1
  · by_cases c5 : hC h b = 21 ∨ hC h b = 22 ∨ hC h b = 23
    · have := c1.2.1 c5; rw [e0] at this; cases this
    · by_cases c6 : hC h b = 24
      · have := c1.2.2.1 c6; rw [e0] at this; cases this
      · have := c1.2.2.2 (by omega); rw [e0] at this; cases this
/-- one cell is made -/
theorem RelH.push {t : TT} {G : GH} {h h' : HS} {H H1 : Heap} (r : RelH t G h H) (hs : ∀ b, b ≠ hZ h → sameAt h h' b) (hz : hZ h' = hZ h + 1) (hk : hK h' = hK h) (ho : hO h' = hO h) (hl : hC h' (hZ h) < 30) (hr : relC t h' (hZ h) H1) (z : H1.size = H.size + 1) (oq : ∀ q, q < H.size → H1[q]? = H[q]?) : RelH t G h' H1 := by
  obtain ⟨r1, r2, r3, r4, r5, r6⟩ := id r
  refine ⟨by rw [hz, z, r1], by rw [hk]; exact r2, by rw [ho]; exact r3, fun q hq => r4 q (by omega), fun b h1 h2 => ?_, fun b => ?_⟩
  · by_cases hb : b = hZ h
    · subst hb; exact r4 _ (by omega)
    · rw [(hs b hb).1] at h1 h2; exact r5 b h1 h2
  · by_cases hb : b = hZ h
    · subst hb; exact ⟨hr, roC_low hl⟩
    · refine ⟨?_, roC_same (hs b hb) (r6 b).2⟩
      by_cases hq : b < H.size
      · exact relC_same (hs b hb) (oq b hq) (r6 b).1
      · have hb2 := r.out (b := b) (by omega)
        rw [← (hs b hb).1] at hb2
        exact ⟨fun a1 a2 => absurd (Or.inl ⟨a1, a2⟩) hb2, fun a1 => absurd (Or.inr ⟨by omega, by omega⟩) hb2, fun a1 => absurd (Or.inr ⟨by omega, by omega⟩) hb2, fun a1 => absurd (Or.inr ⟨by omega, by omega⟩) hb2⟩
/-! updates read -/
theorem e_uI_C (h : HS) (a k : Nat) (v : Int32) : hC (uI h a k v) = hC h := rfl
theorem e_uI_I (h : HS) (a k : Nat) (v : Int32) : hI (uI h a k v) = up2 (hI h) a k v := rfl
theorem e_uI_R (h : HS) (a k : Nat) (v : Int32) : hR (uI h a k v) = hR h := rfl
theorem e_uI_A (h : HS) (a k : Nat) (v : Int32) : hA (uI h a k v) = hA h := rfl
theorem e_uI_Q (h : HS) (a k : Nat) (v : Int32) : hQ (uI h a k v) = hQ h := rfl
theorem e_uI_J (h : HS) (a k : Nat) (v : Int32) : hJ (uI h a k v) = hJ h := rfl
theorem e_uI_N (h : HS) (a k : Nat) (v : Int32) : hN (uI h a k v) = hN h := rfl
theorem e_uI_Z (h : HS) (a k : Nat) (v : Int32) : hZ (uI h a k v) = hZ h := rfl
theorem e_uI_K (h : HS) (a k : Nat) (v : Int32) : hK (uI h a k v) = hK h := rfl
theorem e_uI_O (h : HS) (a k : Nat) (v : Int32) : hO (uI h a k v) = hO h := rfl
theorem e_uR_C (h : HS) (a k : Nat) (v : Option Nat) : hC (uR h a k v) = hC h := rfl
theorem e_uR_I (h : HS) (a k : Nat) (v : Option Nat) : hI (uR h a k v) = hI h := rfl
theorem e_uR_R (h : HS) (a k : Nat) (v : Option Nat) : hR (uR h a k v) = up2 (hR h) a k v := rfl
theorem e_uR_A (h : HS) (a k : Nat) (v : Option Nat) : hA (uR h a k v) = hA h := rfl
theorem e_uR_Q (h : HS) (a k : Nat) (v : Option Nat) : hQ (uR h a k v) = hQ h := rfl
theorem e_uR_J (h : HS) (a k : Nat) (v : Option Nat) : hJ (uR h a k v) = hJ h := rfl
theorem e_uR_N (h : HS) (a k : Nat) (v : Option Nat) : hN (uR h a k v) = hN h := rfl
theorem e_uR_Z (h : HS) (a k : Nat) (v : Option Nat) : hZ (uR h a k v) = hZ h := rfl
theorem e_uR_K (h : HS) (a k : Nat) (v : Option Nat) : hK (uR h a k v) = hK h := rfl
theorem e_uR_O (h : HS) (a k : Nat) (v : Option Nat) : hO (uR h a k v) = hO h := rfl
theorem e_uA_C (h : HS) (a k : Nat) (v : Int32) : hC (uA h a k v) = hC h := rfl
theorem e_uA_I (h : HS) (a k : Nat) (v : Int32) : hI (uA h a k v) = hI h := rfl
theorem e_uA_R (h : HS) (a k : Nat) (v : Int32) : hR (uA h a k v) = hR h := rfl
theorem e_uA_A (h : HS) (a k : Nat) (v : Int32) : hA (uA h a k v) = up2 (hA h) a k v := rfl
theorem e_uA_Q (h : HS) (a k : Nat) (v : Int32) : hQ (uA h a k v) = hQ h := rfl
theorem e_uA_J (h : HS) (a k : Nat) (v : Int32) : hJ (uA h a k v) = hJ h := rfl
theorem e_uA_N (h : HS) (a k : Nat) (v : Int32) : hN (uA h a k v) = hN h := rfl
theorem e_uA_Z (h : HS) (a k : Nat) (v : Int32) : hZ (uA h a k v) = hZ h := rfl
theorem e_uA_K (h : HS) (a k : Nat) (v : Int32) : hK (uA h a k v) = hK h := rfl
theorem e_uA_O (h : HS) (a k : Nat) (v : Int32) : hO (uA h a k v) = hO h := rfl
theorem e_uQ_C (h : HS) (a k : Nat) (v : Option Nat) : hC (uQ h a k v) = hC h := rfl
theorem e_uQ_I (h : HS) (a k : Nat) (v : Option Nat) : hI (uQ h a k v) = hI h := rfl
theorem e_uQ_R (h : HS) (a k : Nat) (v : Option Nat) : hR (uQ h a k v) = hR h := rfl
theorem e_uQ_A (h : HS) (a k : Nat) (v : Option Nat) : hA (uQ h a k v) = hA h := rfl
theorem e_uQ_Q (h : HS) (a k : Nat) (v : Option Nat) : hQ (uQ h a k v) = up2 (hQ h) a k v := rfl
theorem e_uQ_J (h : HS) (a k : Nat) (v : Option Nat) : hJ (uQ h a k v) = hJ h := rfl
theorem e_uQ_N (h : HS) (a k : Nat) (v : Option Nat) : hN (uQ h a k v) = hN h := rfl
theorem e_uQ_Z (h : HS) (a k : Nat) (v : Option Nat) : hZ (uQ h a k v) = hZ h := rfl
theorem e_uQ_K (h : HS) (a k : Nat) (v : Option Nat) : hK (uQ h a k v) = hK h := rfl
theorem e_uQ_O (h : HS) (a k : Nat) (v : Option Nat) : hO (uQ h a k v) = hO h := rfl
theorem e_uJ_C (h : HS) (a k : Nat) (v : Int64) : hC (uJ h a k v) = hC h := rfl
theorem e_uJ_I (h : HS) (a k : Nat) (v : Int64) : hI (uJ h a k v) = hI h := rfl
theorem e_uJ_R (h : HS) (a k : Nat) (v : Int64) : hR (uJ h a k v) = hR h := rfl
theorem e_uJ_A (h : HS) (a k : Nat) (v : Int64) : hA (uJ h a k v) = hA h := rfl
theorem e_uJ_Q (h : HS) (a k : Nat) (v : Int64) : hQ (uJ h a k v) = hQ h := rfl
theorem e_uJ_J (h : HS) (a k : Nat) (v : Int64) : hJ (uJ h a k v) = up2 (hJ h) a k v := rfl
theorem e_uJ_N (h : HS) (a k : Nat) (v : Int64) : hN (uJ h a k v) = hN h := rfl
theorem e_uJ_Z (h : HS) (a k : Nat) (v : Int64) : hZ (uJ h a k v) = hZ h := rfl
theorem e_uJ_K (h : HS) (a k : Nat) (v : Int64) : hK (uJ h a k v) = hK h := rfl
theorem e_uJ_O (h : HS) (a k : Nat) (v : Int64) : hO (uJ h a k v) = hO h := rfl
theorem e_uAr_C (h : HS) (a : Nat) (f : Nat → Int32) : hC (uAr h a f) = hC h := rfl
theorem e_uAr_I (h : HS) (a : Nat) (f : Nat → Int32) : hI (uAr h a f) = hI h := rfl
theorem e_uAr_R (h : HS) (a : Nat) (f : Nat → Int32) : hR (uAr h a f) = hR h := rfl
theorem e_uAr_A (h : HS) (a : Nat) (f : Nat → Int32) : hA (uAr h a f) = up1 (hA h) a f := rfl
theorem e_uAr_Q (h : HS) (a : Nat) (f : Nat → Int32) : hQ (uAr h a f) = hQ h := rfl
theorem e_uAr_J (h : HS) (a : Nat) (f : Nat → Int32) : hJ (uAr h a f) = hJ h := rfl
theorem e_uAr_N (h : HS) (a : Nat) (f : Nat → Int32) : hN (uAr h a f) = hN h := rfl
theorem e_uAr_Z (h : HS) (a : Nat) (f : Nat → Int32) : hZ (uAr h a f) = hZ h := rfl
theorem e_uAr_K (h : HS) (a : Nat) (f : Nat → Int32) : hK (uAr h a f) = hK h := rfl
theorem e_uAr_O (h : HS) (a : Nat) (f : Nat → Int32) : hO (uAr h a f) = hO h := rfl
theorem e_uQr_C (h : HS) (a : Nat) (f : Nat → Option Nat) : hC (uQr h a f) = hC h := rfl
theorem e_uQr_I (h : HS) (a : Nat) (f : Nat → Option Nat) : hI (uQr h a f) = hI h := rfl
theorem e_uQr_R (h : HS) (a : Nat) (f : Nat → Option Nat) : hR (uQr h a f) = hR h := rfl
theorem e_uQr_A (h : HS) (a : Nat) (f : Nat → Option Nat) : hA (uQr h a f) = hA h := rfl
theorem e_uQr_Q (h : HS) (a : Nat) (f : Nat → Option Nat) : hQ (uQr h a f) = up1 (hQ h) a f := rfl
theorem e_uQr_J (h : HS) (a : Nat) (f : Nat → Option Nat) : hJ (uQr h a f) = hJ h := rfl
theorem e_uQr_N (h : HS) (a : Nat) (f : Nat → Option Nat) : hN (uQr h a f) = hN h := rfl
theorem e_uQr_Z (h : HS) (a : Nat) (f : Nat → Option Nat) : hZ (uQr h a f) = hZ h := rfl
theorem e_uQr_K (h : HS) (a : Nat) (f : Nat → Option Nat) : hK (uQr h a f) = hK h := rfl
theorem e_uQr_O (h : HS) (a : Nat) (f : Nat → Option Nat) : hO (uQr h a f) = hO h := rfl
theorem e_nO_C (h : HS) (ci : Nat) : hC (nO h ci ) = up1 (hC h) (hZ h) (ci + 1) := rfl
theorem e_nO_I (h : HS) (ci : Nat) : hI (nO h ci ) = up1 (hI h) (hZ h) (fun _ => 0) := rfl
theorem e_nO_R (h : HS) (ci : Nat) : hR (nO h ci ) = up1 (hR h) (hZ h) (fun _ => none) := rfl
theorem e_nO_A (h : HS) (ci : Nat) : hA (nO h ci ) = hA h := rfl
theorem e_nO_Q (h : HS) (ci : Nat) : hQ (nO h ci ) = hQ h := rfl
theorem e_nO_J (h : HS) (ci : Nat) : hJ (nO h ci ) = hJ h := rfl
theorem e_nO_N (h : HS) (ci : Nat) : hN (nO h ci ) = hN h := rfl
theorem e_nO_Z (h : HS) (ci : Nat) : hZ (nO h ci ) = hZ h + 1 := rfl
theorem e_nO_K (h : HS) (ci : Nat) : hK (nO h ci ) = hK h := rfl
theorem e_nO_O (h : HS) (ci : Nat) : hO (nO h ci ) = hO h := rfl
theorem e_nA_C (h : HS) (kd n : Nat) : hC (nA h kd n ) = up1 (hC h) (hZ h) (kd + 20) := rfl
theorem e_nA_I (h : HS) (kd n : Nat) : hI (nA h kd n ) = hI h := rfl
theorem e_nA_R (h : HS) (kd n : Nat) : hR (nA h kd n ) = hR h := rfl
theorem e_nA_A (h : HS) (kd n : Nat) : hA (nA h kd n ) = up1 (hA h) (hZ h) (fun _ => 0) := rfl
theorem e_nA_Q (h : HS) (kd n : Nat) : hQ (nA h kd n ) = up1 (hQ h) (hZ h) (fun _ => none) := rfl
theorem e_nA_J (h : HS) (kd n : Nat) : hJ (nA h kd n ) = up1 (hJ h) (hZ h) (fun _ => 0) := rfl
theorem e_nA_N (h : HS) (kd n : Nat) : hN (nA h kd n ) = up1 (hN h) (hZ h) n := rfl
theorem e_nA_Z (h : HS) (kd n : Nat) : hZ (nA h kd n ) = hZ h + 1 := rfl
theorem e_nA_K (h : HS) (kd n : Nat) : hK (nA h kd n ) = hK h := rfl
theorem e_nA_O (h : HS) (kd n : Nat) : hO (nA h kd n ) = hO h := rfl
theorem e_nX_C (h : HS)  : hC (nX h  ) = up1 (hC h) (hZ h) 0 := rfl
theorem e_nX_I (h : HS)  : hI (nX h  ) = hI h := rfl
theorem e_nX_R (h : HS)  : hR (nX h  ) = hR h := rfl
theorem e_nX_A (h : HS)  : hA (nX h  ) = hA h := rfl
theorem e_nX_Q (h : HS)  : hQ (nX h  ) = hQ h := rfl
theorem e_nX_J (h : HS)  : hJ (nX h  ) = hJ h := rfl
theorem e_nX_N (h : HS)  : hN (nX h  ) = hN h := rfl
theorem e_nX_Z (h : HS)  : hZ (nX h  ) = hZ h + 1 := rfl
theorem e_nX_K (h : HS)  : hK (nX h  ) = hK h := rfl
theorem e_nX_O (h : HS)  : hO (nX h  ) = hO h := rfl
theorem up1_s {X : Type} (f : Nat → X) (a : Nat) (v : X) : up1 f a v a = v := if_pos rfl
theorem up1_n {X : Type} (f : Nat → X) {a b : Nat} (v : X) (h : b ≠ a) : up1 f a v b = f b := if_neg h
theorem up2_s {X : Type} (f : Nat → Nat → X) (a k : Nat) (v : X) : up2 f a k v a k = v := if_pos ⟨rfl, rfl⟩
theorem up2_n {X : Type} (f : Nat → Nat → X) {a b : Nat} (k : Nat) (v : X) (h : b ≠ a) : up2 f a k v b = f b := by
  funext j
  exact if_neg (fun z => h z.1)
theorem up2_na {X : Type} (f : Nat → Nat → X) {a b : Nat} (k j : Nat) (v : X) (h : b ≠ a) : up2 f a k v b j = f b j := if_neg (fun z => h z.1)
theorem up2_nk {X : Type} (f : Nat → Nat → X) (a b : Nat) {k j : Nat} (v : X) (h : j ≠ k) : up2 f a k v b j = f b j := if_neg (fun z => h z.2)
