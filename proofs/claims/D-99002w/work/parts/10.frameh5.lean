/-! mode H: rows of the JDK's code: copies, class objects, what is never written; throws -/
section VHD
variable {P P2 O : Type} {mk : P → Option Value} {mk2 : P2 → Option Value} {K1 K2 lv lv2 : Nat} {Qw : O → HS → State → Prop} {p : Program} {l : Launch} {e : Env} {R : Room} {s : State} {m : MethodId} {args : Array Value} {below : List Frame} {meth : Method} {c : Code} {H : Heap} {locs : List Loc} {ls : Array Slot} {cells slots : Nat} {Q : State → Prop} {nL nL2 pc index n : Nat} {L : List (Nat × Value)} {st rest : List Value} {u : HS} {M M1 M2 : Option (OH O)} {t : TT} {G : GH} {y y2 : MethodName} {cc cc2 : ByteArray} {ret ret2 : Option FieldType} {X : Option (OH P2)} {k1 : P2 → HS → Option (OH O)}
theorem nn_i {z : Int32} (hz : ¬ z < 0) : z.toInt = (z.toNatClampNeg : Int) := by
  have hz0 : (0 : Int) ≤ z.toInt := by
    have := Int32.not_lt.mp hz
    simpa using Int32.le_iff_toInt_le.mp this
  show z.toInt = ((z.toInt.toNat : Nat) : Int)
  omega
theorem w_copy (C0 : CxH t G l p s m args meth c y cc nL ret) (hsz : ls.size = nL) {a0 a : Nat} {cs cd ct : Cell} {ks kd : Class} {sComp dComp : ClassId} {sType dType : FieldType} {sp dp n : Int32} (q1 : Cond.methodLink y.cls index arraycopyName ∈ lw_all) (q2 : Cond.native arraycopyName ∈ lw_all) (q3 : Cond.static arraycopyName ∈ lw_all) (q4 : Cond.initialized "java/lang/System" ∈ lw_all) (hS : va_S G.1 s.heap H locs) (hA : G.1 a)
    (hs : H[a0]? = some cs) (hd : H[a]? = some cd) (hsobj : ∀ k, cs.vm ≠ .statics k) (hdobj : ∀ k, cd.vm ≠ .statics k) (hsknown : cs.vm ≠ .unknown) (hdknown : cd.vm ≠ .unknown)
    (hks : s.vm.classes[cs.cls]? = some ks) (hkd : s.vm.classes[cd.cls]? = some kd) (hsk : ks.kind = .array sComp sType) (hdk : kd.kind = .array dComp dType)
    (hty : ((refKind sType != refKind dType) || (!refKind sType && sType != dType)) = false)
    (h1 : ¬ sp < 0) (h2 : ¬ dp < 0) (h3 : ¬ n < 0) (h4 : sp.toNatClampNeg + n.toNatClampNeg ≤ cs.slots.size) (h5 : dp.toNatClampNeg + n.toNatClampNeg ≤ cd.slots.size)
    (hvals : ∀ T : State, T.heap = H → ∀ vm', s.vm.Alike vm' → ∀ i, i < n.toNatClampNeg → fits dType (cs.slots.getD (sp.toNatClampNeg + i) .null) = true ∧ (T.setVm vm').takes dComp (cs.slots.getD (sp.toNatClampNeg + i) .null))
    (hct : copied cs cd sp dp n = ct) (hlv : 2 ≤ lv) (hsm : (rest.map fun v => v.category).sum ≤ 8) (hdg : decode cc pc = .ok (.invokestatic index, 3))
    (kk : ∀ (H1 : Heap) (locs1 : List Loc), H1[a]? = some ct → H1.size = H.size → (∀ q, q ≠ a → H1[q]? = H[q]?) → va_S G.1 s.heap H1 locs1 → W p l e (rmH lv K1 K2) s m args below meth c H1 locs1 cells slots Q (F0 m (pc + 3) ls rest)) : W p l e (rmH lv K1 K2) s m args below meth c H locs cells slots Q (F0 m pc ls (.int n :: .int dp :: .ref a :: .int sp :: .ref a0 :: rest)) := by
  intro T hT X
  have hts := C0.1.2.2.2.2.1
  obtain ⟨vm', X', step⟩ := X.arraycopy C0.1.1 C0.1.2.2.2.1 (hts _ q1) (hts _ q2) (hts _ q3) (hts _ q4) (src := a0) (dst := a) (cs := cs) (cd := cd) (srcPos := sp) (destPos := dp) (n := n) (by rw [hT]; exact hs) (by rw [hT]; exact hd)
    hsobj hdobj hsknown hdknown hks hkd hsk hdk hty h1 h2 h3 (by rw [nn_i h1, nn_i h3]; omega) (by rw [nn_i h2, nn_i h3]; omega) (hvals T hT)
    (g := F0 m pc ls (.int n :: .int dp :: .ref a :: .int sp :: .ref a0 :: rest)) rfl (by rw [C0.1.2.2.1]; exact hsz) (rest := rest) rfl (by rw [C0.1.2.1]; exact hdg) (by show 1 ≤ lv; omega) (by
      have hnf : nativeFrameWords "java/lang/System" "arraycopy" 5 ≤ 50 := by decide +kernel
      show 2 * 0 + _ + _ ≤ 100 * lv; omega)
  rw [hct] at X' step
  have hl : a < H.size := (Array.getElem?_eq_some_iff.mp hd).1
  have hheap : ((T.setVm vm').setCell a ct).heap = H.setIfInBounds a ct := by rw [← hT]; rfl
  have oq : ∀ q : Nat, q ≠ a → (H.setIfInBounds a ct)[q]? = H[q]? := fun q hq => by simp [Array.getElem?_setIfInBounds, Ne.symm hq]
  obtain ⟨t2, a1, b1⟩ := kk _ _ (show (H.setIfInBounds a ct)[a]? = some ct by simp [Array.getElem?_setIfInBounds, hl]) (by simp) oq ⟨by simp; exact hS.1, fun q g1 g2 => by
      rw [oq q (fun e => g2 (by rw [e]; exact hA))]
      exact hS.2.1 q g1 g2, fun q hq => by
      rcases List.mem_append.mp hq with h | h
      · exact hS.2.2 q h
      · obtain ⟨z, -, hz⟩ := List.mem_map.mp h
        rw [← hz]
        exact hA⟩ _ hheap X'
  exact ⟨t2, step t2 a1, b1⟩
/-- may be copied: rows of objects -/
def cpQ (u : HS) (a0 : Nat) (sp : Int32) (a : Nat) (dp n : Int32) : Bool :=
  (hC u a0 == 25 || (hC u a0 == 35 && n == 0)) && (hC u a == 25 && (!(decide (sp < 0)) && (!(decide (dp < 0)) && (!(decide (n < 0)) && (decide (sp.toNatClampNeg + n.toNatClampNeg ≤ hN u a0) && (decide (dp.toNatClampNeg + n.toNatClampNeg ≤ hN u a) && (List.range n.toNatClampNeg).all (fun i => match hQ u a0 (sp.toNatClampNeg + i) with | some x => okO (hC u x) | none => true)))))))
theorem copied_0 (cs cd : Cell) (sp dp : Int32) : copied cs cd sp dp 0 = cd   := by
  simp [copied, Cell.stretch, Cell.storeRun, Cell.storePairs]
theorem v_hcopyQ (C0 : CxH t G l p s m args meth c y cc nL ret) {a0 a : Nat} {sp dp n : Int32} {k2 : HS → Option (OH O)} (q1 : Cond.methodLink y.cls index arraycopyName ∈ lw_all) (q2 : Cond.native arraycopyName ∈ lw_all) (q3 : Cond.static arraycopyName ∈ lw_all) (q4 : Cond.initialized "java/lang/System" ∈ lw_all) (hlv : 2 ≤ lv) (hsm : (st.map fun v => v.category).sum ≤ 8) (d : decode cc pc = .ok (.invokestatic index, 3))
    (kk : ∀ u1, BH t G K1 K2 Qw p l e (rmH lv K1 K2) s m args below meth c nL (pc + 3) L st u1 (k2 u1)) : BH t G K1 K2 Qw p l e (rmH lv K1 K2) s m args below meth c nL pc L (.int n :: .int dp :: .ref a :: .int sp :: .ref a0 :: st) u (mchk (cpQ u a0 sp a dp n) (mlet (uQr u a (va_cpy (hQ u a0) (hQ u a) sp.toNatClampNeg dp.toNatClampNeg n.toNatClampNeg)) k2)) := by
  intro w hw H locs ls cells slots ok rel hS hl
  obtain ⟨hck, hw⟩ := mchk_some hw
  unfold cpQ at hck
  simp only [Bool.and_eq_true, Bool.or_eq_true, Bool.not_eq_true', decide_eq_false_iff_not, decide_eq_true_eq, beq_iff_eq, List.all_eq_true, List.mem_range] at hck
  obtain ⟨hc0, hc1, h1, h2, h3, h4, h5, hel⟩ := hck
  have hK := C0.1.2.2.2.2.2.2.2.2.1
  have hcd := relC_qa (kd := 5) rel (Or.inl rfl) hc1
  obtain ⟨-, k1, hk1, cm1, hkk1⟩ := (hK.2 4 _ rfl).1 (hN u a) (fun j => va_rf (hQ u a j))
  have done : ∀ (H1 : Heap) (locs1 : List Loc), H1[a]? = some (arrV (t.2.2 5) (hN u a) (fun j => va_rf (va_cpy (hQ u a0) (hQ u a) sp.toNatClampNeg dp.toNatClampNeg n.toNatClampNeg j))) → H1.size = H.size → (∀ q, q ≠ a → H1[q]? = H[q]?) → va_S G.1 s.heap H1 locs1 → W p l e (rmH lv K1 K2) s m args below meth c H1 locs1 cells slots (Qw w.1 w.2.1) (F0 m (pc + 3) ls st) :=
    fun H1 locs1 e1 z oq hS1 => kk _ w hw H1 locs1 ls cells slots ok (relQr (kd := 5) rel (Or.inl rfl) hc1 e1 z oq) hS1 hl
  rcases hc0 with hc0 | ⟨hc0, rfl⟩
  · have hcs := relC_qa (kd := 5) rel (Or.inl rfl) hc0
    obtain ⟨-, k0, hk0, cm0, hkk0⟩ := (hK.2 4 _ rfl).1 (hN u a0) (fun j => va_rf (hQ u a0 j))
    refine w_copy C0 hl.1 q1 q2 q3 q4 hS (relG rel (by omega) (by omega)) hcs hcd (fun _ h => by cases h) (fun _ h => by cases h) (fun h => by cases h) (fun h => by cases h) hk0 hk1 hkk0 hkk1 rfl h1 h2 h3 (by rw [arrV_size]; exact h4) (by rw [arrV_size]; exact h5) (fun T hT vm' hal i hi => ?_) (va_copied (fun z => va_rf z) _ _ (hQ u a0) (hQ u a) h4) hlv hsm d done
    have e0 : (arrV (t.2.2 5) (hN u a0) (fun j => va_rf (hQ u a0 j))).slots.getD (sp.toNatClampNeg + i) .null = va_rf (hQ u a0 (sp.toNatClampNeg + i)) := by
      rw [Array.getD_eq_getD_getElem?, arrV_read _ _ (by omega)]
      rfl
    rw [e0]
    have hx := hel i hi
    cases hy : hQ u a0 (sp.toNatClampNeg + i) with
    | none => exact ⟨rfl, trivial⟩
    | some x =>
      rw [hy] at hx
      obtain ⟨cellV, g1, g2, ⟨kC, hkC⟩, g4⟩ := hAnyO C0 rel hS hx
      obtain ⟨kA, comp, r1, r2, r3, -⟩ := (hK.2 4 _ rfl).2
      cases hk1.symm.trans r1
      cases hkk1.symm.trans r2
      obtain ⟨kE, hkE, -⟩ := Vm.findClass_spec r3
      obtain ⟨kC', hkC', -⟩ := hal.2.2 _ _ hkC
      obtain ⟨kE', hkE', -⟩ := hal.2.2 _ _ hkE
      refine ⟨rfl, cellV, (show T.heap[x]? = some cellV by rw [hT]; exact g1), (fun q h => by rw [h] at g2; cases g2), ⟨kC', hkC'⟩, ?_, ?_⟩
      · exact ⟨kE', hkE'⟩
      · show vm'.assignable _ _ = true
        rw [hal.assignable]
        exact g4 _ r3
  · have hx := (rel.2.2.2.2.2 a0).2.2.2.2.2 hc0
    have hT0 : va_T (.object "java/lang/Object") a0 0 (fun _ => .null) G.1 s s.heap := by
      rcases hx.1 with h | h
      · rw [h]; exact C0.2.1.e0
      · rw [h]; exact C0.2.1.e1
    obtain ⟨scr, g1, g2, g3, g4, -, -, g7⟩ := hT0
    have hcs : H[a0]? = some scr := by rw [hS.2.1 a0 (Array.getElem?_eq_some_iff.mp g1).1 g7]; exact g1
    obtain ⟨g6, k0, hk0, cm0, hkk0⟩ := g2
    rw [hx.2] at h4
    refine w_copy C0 hl.1 q1 q2 q3 q4 hS (relG rel (by omega) (by omega)) hcs hcd g6 (fun _ h => by cases h) g3 (fun h => by cases h) hk0 hk1 hkk0 hkk1 rfl h1 h2 h3 (by omega) (by rw [arrV_size]; exact h5) (fun T hT vm' hal i hi => absurd hi (by simp)) ((copied_0 _ _ _ _).trans ?_) hlv hsm d done
    congr 1
    funext j
    show va_rf (hQ u a j) = va_rf (va_cpy (hQ u a0) (hQ u a) sp.toNatClampNeg dp.toNatClampNeg (0 : Int32).toNatClampNeg j)
    unfold va_cpy
    rw [if_neg (by simp)]
def cpB (u : HS) (a0 : Nat) (sp : Int32) (a : Nat) (dp n : Int32) : Bool :=
  hC u a0 == 23 && (hC u a == 23 && (!(decide (sp < 0)) && (!(decide (dp < 0)) && (!(decide (n < 0)) && (decide (sp.toNatClampNeg + n.toNatClampNeg ≤ hN u a0) && (decide (dp.toNatClampNeg + n.toNatClampNeg ≤ hN u a) && (List.range n.toNatClampNeg).all (fun i => fits .byte (.int (hA u a0 (sp.toNatClampNeg + i))))))))))
theorem v_hcopyB (C0 : CxH t G l p s m args meth c y cc nL ret) {a0 a : Nat} {sp dp n : Int32} {k2 : HS → Option (OH O)} (q1 : Cond.methodLink y.cls index arraycopyName ∈ lw_all) (q2 : Cond.native arraycopyName ∈ lw_all) (q3 : Cond.static arraycopyName ∈ lw_all) (q4 : Cond.initialized "java/lang/System" ∈ lw_all) (hlv : 2 ≤ lv) (hsm : (st.map fun v => v.category).sum ≤ 8) (d : decode cc pc = .ok (.invokestatic index, 3))
    (kk : ∀ u1, BH t G K1 K2 Qw p l e (rmH lv K1 K2) s m args below meth c nL (pc + 3) L st u1 (k2 u1)) : BH t G K1 K2 Qw p l e (rmH lv K1 K2) s m args below meth c nL pc L (.int n :: .int dp :: .ref a :: .int sp :: .ref a0 :: st) u (mchk (cpB u a0 sp a dp n) (mlet (uAr u a (va_cpy (hA u a0) (hA u a) sp.toNatClampNeg dp.toNatClampNeg n.toNatClampNeg)) k2)) := by
  intro w hw H locs ls cells slots ok rel hS hl
  obtain ⟨hck, hw⟩ := mchk_some hw
  unfold cpB at hck
  simp only [Bool.and_eq_true, Bool.not_eq_true', decide_eq_false_iff_not, decide_eq_true_eq, beq_iff_eq, List.all_eq_true, List.mem_range] at hck
  obtain ⟨hc0, hc1, h1, h2, h3, h4, h5, hel⟩ := hck
  have hK := C0.1.2.2.2.2.2.2.2.2.1
  have hcd := relC_ia (kd := 3) rel (by simp) hc1
  have hcs := relC_ia (kd := 3) rel (by simp) hc0
  obtain ⟨-, k1, hk1, cm1, hkk1⟩ := (hK.2 2 _ rfl).1 (hN u a) (fun j => .int (hA u a j))
  obtain ⟨-, k0, hk0, cm0, hkk0⟩ := (hK.2 2 _ rfl).1 (hN u a0) (fun j => .int (hA u a0 j))
  refine w_copy C0 hl.1 q1 q2 q3 q4 hS (relG rel (by omega) (by omega)) hcs hcd (fun _ h => by cases h) (fun _ h => by cases h) (fun h => by cases h) (fun h => by cases h) hk0 hk1 hkk0 hkk1 rfl h1 h2 h3 (by rw [arrV_size]; exact h4) (by rw [arrV_size]; exact h5) (fun T hT vm' hal i hi => ?_) (va_copied (fun z => .int z) _ _ (hA u a0) (hA u a) h4) hlv hsm d (fun H1 locs1 e1 z oq hS1 => kk _ w hw H1 locs1 ls cells slots ok (relAr (kd := 3) rel (by simp) hc1 e1 z oq) hS1 hl)
  have e0 : (arrV (t.2.2 3) (hN u a0) (fun j => .int (hA u a0 j))).slots.getD (sp.toNatClampNeg + i) .null = .int (hA u a0 (sp.toNatClampNeg + i)) := by
    rw [Array.getD_eq_getD_getElem?, arrV_read _ _ (by omega)]
    rfl
  rw [e0]
  exact ⟨hel i hi, trivial⟩
end VHD
