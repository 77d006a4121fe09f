/-! mode H: arrays, new cells, casts -/
def inA (h : HS) (j : Int32) (a tag : Nat) : Bool := (hC h a == tag) && inb j (hN h a)
theorem inA_k {h : HS} {j : Int32} {a tag : Nat} (q : inA h j a tag = true) : hC h a = tag ∧ vp_in j (hN h a) := by
  unfold inA at q
  rw [Bool.and_eq_true] at q
  exact ⟨eq_of_beq q.1, inb_vp q.2⟩
def isBy (x : Int32) : Bool := decide (x.toInt8.toInt32 = x)
section VHA
variable {lv : Nat} {P O : Type} {K1 K2 : Nat} {Qw : O → HS → State → Prop} {p : Program} {l : Launch} {e : Env} {R : Room} {s : State} {m : MethodId} {args : Array Value} {below : List Frame} {meth : Method} {c : Code} {H : Heap} {locs : List Loc} {ls : Array Slot} {cells slots : Nat} {Q : State → Prop} {nL pc : Nat} {L : List (Nat × Value)} {st rest : List Value} {u : HS} {M M1 M2 : Option (OH O)} {t : TT} {G : GH} {y : MethodName} {cc : ByteArray} {ret : Option FieldType}
theorem relC_ia {a kd : Nat} (rel : RelH t G u H) (hk : kd = 1 ∨ kd = 2 ∨ kd = 3) (hc : hC u a = kd + 20) : H[a]? = some (arrV (t.2.2 kd) (hN u a) (fun j => .int (hA u a j))) := by
  have h1 := (rel.2.2.2.2.2 a).1.2.1 (by omega)
  rw [h1, hc]
  rfl
theorem relC_la {a : Nat} (rel : RelH t G u H) (hc : hC u a = 24) : H[a]? = some (arrV (t.2.2 4) (hN u a) (fun j => .long (hJ u a j))) := (rel.2.2.2.2.2 a).1.2.2.1 hc
theorem relC_qa {a kd : Nat} (rel : RelH t G u H) (hk : kd = 5 ∨ kd = 6) (hc : hC u a = kd + 20) : H[a]? = some (arrV (t.2.2 kd) (hN u a) (fun j => va_rf (hQ u a j))) := by
  have h1 := (rel.2.2.2.2.2 a).1.2.2.2 (by omega)
  rw [h1, hc]
  rfl
theorem v_haiald (C0 : CxH t G l p s m args meth c y cc nL ret) {j : Int32} {a : Nat} (hj : inA u j a 21 = true) (d : decode cc pc = .ok (.iaload, 1))
    (kk : BH t G K1 K2 Qw p l e R s m args below meth c nL (pc + 1) L (.int (hA u a j.toNatClampNeg) :: st) u M) : BH t G K1 K2 Qw p l e R s m args below meth c nL pc L (.int j :: .ref a :: st) u M := by
  intro w hw H locs ls cells slots ok rel hS hl
  obtain ⟨h1, hin⟩ := inA_k hj
  have hlt : j.toNatClampNeg < hN u a := Nat.not_le.mp fun q => hin (Or.inr q)
  have hc := relC_ia (kd := 1) rel (Or.inl rfl) h1
  exact W.iald (v := .int (hA u a j.toNatClampNeg)) C0.1.1 C0.1.2.1 hc ((C0.1.2.2.2.2.2.2.2.2.1.2 0 _ rfl).1 _ _) (fun q => by cases q) (by rw [arrV_size]; exact hin) (by rw [arrV_read _ _ hlt]) rfl rfl d (kk w hw H locs ls cells slots ok rel hS hl)
theorem v_hazald (C0 : CxH t G l p s m args meth c y cc nL ret) {j : Int32} {a : Nat} (hj : inA u j a 22 = true) (d : decode cc pc = .ok (.baload, 1))
    (kk : BH t G K1 K2 Qw p l e R s m args below meth c nL (pc + 1) L (.int (hA u a j.toNatClampNeg) :: st) u M) : BH t G K1 K2 Qw p l e R s m args below meth c nL pc L (.int j :: .ref a :: st) u M := by
  intro w hw H locs ls cells slots ok rel hS hl
  obtain ⟨h1, hin⟩ := inA_k hj
  have hlt : j.toNatClampNeg < hN u a := Nat.not_le.mp fun q => hin (Or.inr q)
  have hc := relC_ia (kd := 2) rel (Or.inr (Or.inl rfl)) h1
  exact W.zald (v := .int (hA u a j.toNatClampNeg)) C0.1.1 C0.1.2.1 hc ((C0.1.2.2.2.2.2.2.2.2.1.2 1 _ rfl).1 _ _) (fun q => by cases q) (by rw [arrV_size]; exact hin) (by rw [arrV_read _ _ hlt]) rfl rfl d (kk w hw H locs ls cells slots ok rel hS hl)
theorem v_habald (C0 : CxH t G l p s m args meth c y cc nL ret) {j : Int32} {a : Nat} (hj : inA u j a 23 = true) (d : decode cc pc = .ok (.baload, 1))
    (kk : BH t G K1 K2 Qw p l e R s m args below meth c nL (pc + 1) L (.int (hA u a j.toNatClampNeg) :: st) u M) : BH t G K1 K2 Qw p l e R s m args below meth c nL pc L (.int j :: .ref a :: st) u M := by
  intro w hw H locs ls cells slots ok rel hS hl
  obtain ⟨h1, hin⟩ := inA_k hj
  have hlt : j.toNatClampNeg < hN u a := Nat.not_le.mp fun q => hin (Or.inr q)
  have hc := relC_ia (kd := 3) rel (Or.inr (Or.inr rfl)) h1
  exact W.bald (v := .int (hA u a j.toNatClampNeg)) C0.1.1 C0.1.2.1 hc ((C0.1.2.2.2.2.2.2.2.2.1.2 2 _ rfl).1 _ _) (fun q => by cases q) (by rw [arrV_size]; exact hin) (by rw [arrV_read _ _ hlt]) rfl rfl d (kk w hw H locs ls cells slots ok rel hS hl)
theorem v_hlald (C0 : CxH t G l p s m args meth c y cc nL ret) {j : Int32} {a : Nat} (hj : inA u j a 24 = true) (d : decode cc pc = .ok (.laload, 1))
    (kk : BH t G K1 K2 Qw p l e R s m args below meth c nL (pc + 1) L (.long (hJ u a j.toNatClampNeg) :: st) u M) : BH t G K1 K2 Qw p l e R s m args below meth c nL pc L (.int j :: .ref a :: st) u M := by
  intro w hw H locs ls cells slots ok rel hS hl
  obtain ⟨h1, hin⟩ := inA_k hj
  have hlt : j.toNatClampNeg < hN u a := Nat.not_le.mp fun q => hin (Or.inr q)
  have hc := relC_la rel h1
  exact W.lald (v := .long (hJ u a j.toNatClampNeg)) C0.1.1 C0.1.2.1 hc ((C0.1.2.2.2.2.2.2.2.2.1.2 3 _ rfl).1 _ _) (fun q => by cases q) (by rw [arrV_size]; exact hin) (by rw [arrV_read _ _ hlt]) rfl rfl d (kk w hw H locs ls cells slots ok rel hS hl)
/-- an element of a row of references (kind 5 objects, 6 strings) -/
theorem v_haald (C0 : CxH t G l p s m args meth c y cc nL ret) {j : Int32} {a : Nat} (kd : Nat) (hk : kd = 5 ∨ kd = 6) (hj : inA u j a (kd + 20) = true) (d : decode cc pc = .ok (.aaload, 1))
    (kk : BH t G K1 K2 Qw p l e R s m args below meth c nL (pc + 1) L (va_rf (hQ u a j.toNatClampNeg) :: st) u M) : BH t G K1 K2 Qw p l e R s m args below meth c nL pc L (.int j :: .ref a :: st) u M := by
  intro w hw H locs ls cells slots ok rel hS hl
  obtain ⟨h1, hin⟩ := inA_k hj
  have hlt : j.toNatClampNeg < hN u a := Nat.not_le.mp fun q => hin (Or.inr q)
  have hc := relC_qa rel hk h1
  have hK := C0.1.2.2.2.2.2.2.2.2.1
  rcases hk with rfl | rfl
  · exact W.aald (v := va_rf (hQ u a j.toNatClampNeg)) (ty := .object "java/lang/Object") C0.1.1 C0.1.2.1 hc ((hK.2 4 _ rfl).1 _ _) rfl (fun q => by cases q) (by rw [arrV_size]; exact hin) (by rw [arrV_read _ _ hlt]) rfl rfl d (kk w hw H locs ls cells slots ok rel hS hl)
  · exact W.aald (v := va_rf (hQ u a j.toNatClampNeg)) (ty := .object "java/lang/String") C0.1.1 C0.1.2.1 hc ((hK.2 5 _ rfl).1 _ _) rfl (fun q => by cases q) (by rw [arrV_size]; exact hin) (by rw [arrV_read _ _ hlt]) rfl rfl d (kk w hw H locs ls cells slots ok rel hS hl)
theorem v_halen (C0 : CxH t G l p s m args meth c y cc nL ret) {a : Nat} (kd : Nat) (hk : kd = 1 ∨ kd = 2 ∨ kd = 3 ∨ kd = 4 ∨ kd = 5 ∨ kd = 6) (hc : hC u a = kd + 20) (d : decode cc pc = .ok (.arraylength, 1))
    (kk : BH t G K1 K2 Qw p l e R s m args below meth c nL (pc + 1) L (.int (Int32.ofNat (hN u a)) :: st) u M) : BH t G K1 K2 Qw p l e R s m args below meth c nL pc L (.ref a :: st) u M := by
  intro w hw H locs ls cells slots ok rel hS hl
  have hK := C0.1.2.2.2.2.2.2.2.2.1
  rcases hk with rfl | rfl | rfl | rfl | rfl | rfl
  · exact W.alen C0.1.1 C0.1.2.1 (relC_ia rel (by simp) hc) ((hK.2 0 _ rfl).1 _ _) (by rw [arrV_size]) rfl rfl d (kk w hw H locs ls cells slots ok rel hS hl)
  · exact W.alen C0.1.1 C0.1.2.1 (relC_ia rel (by simp) hc) ((hK.2 1 _ rfl).1 _ _) (by rw [arrV_size]) rfl rfl d (kk w hw H locs ls cells slots ok rel hS hl)
  · exact W.alen C0.1.1 C0.1.2.1 (relC_ia rel (by simp) hc) ((hK.2 2 _ rfl).1 _ _) (by rw [arrV_size]) rfl rfl d (kk w hw H locs ls cells slots ok rel hS hl)
  · exact W.alen C0.1.1 C0.1.2.1 (relC_la rel hc) ((hK.2 3 _ rfl).1 _ _) (by rw [arrV_size]) rfl rfl d (kk w hw H locs ls cells slots ok rel hS hl)
  · exact W.alen C0.1.1 C0.1.2.1 (relC_qa rel (by simp) hc) ((hK.2 4 _ rfl).1 _ _) (by rw [arrV_size]) rfl rfl d (kk w hw H locs ls cells slots ok rel hS hl)
  · exact W.alen C0.1.1 C0.1.2.1 (relC_qa rel (by simp) hc) ((hK.2 5 _ rfl).1 _ _) (by rw [arrV_size]) rfl rfl d (kk w hw H locs ls cells slots ok rel hS hl)
theorem relA {a kd j : Nat} {v : Int32} {H1 : Heap} (rel : RelH t G u H) (hk : kd = 1 ∨ kd = 2 ∨ kd = 3) (hc : hC u a = kd + 20) (e1 : H1[a]? = some ((arrV (t.2.2 kd) (hN u a) (fun j => .int (hA u a j))).setSlot j (.int v))) (z : H1.size = H.size) (oq : ∀ q, q ≠ a → H1[q]? = H[q]?) : RelH t G (uA u a j v) H1 := by
  refine rel.upd (fun b hb => ⟨rfl, rfl, rfl, up2_n _ _ _ hb, rfl, rfl, rfl⟩) rfl rfl rfl rfl (by omega) ⟨fun q1 q2 => ?_, fun _ => ?_, fun q => ?_, fun q => ?_⟩ z oq
  · have q2 : hC u a ≤ 16 := q2
    omega
  · show H1[a]? = some (arrV (t.2.2 (hC u a - 20)) (hN u a) (fun i => .int (up2 (hA u) a j v a i)))
    rw [e1, arrV_store, hc, Nat.add_sub_cancel]
    congr 2
    funext i
    unfold updV up2
    by_cases hi : i = j <;> simp [hi]
  · have q : hC u a = 24 := q
    omega
  · have q : hC u a = 25 ∨ hC u a = 26 := q
    omega
theorem relJ {a j : Nat} {v : Int64} {H1 : Heap} (rel : RelH t G u H) (hc : hC u a = 24) (e1 : H1[a]? = some ((arrV (t.2.2 4) (hN u a) (fun j => .long (hJ u a j))).setSlot j (.long v))) (z : H1.size = H.size) (oq : ∀ q, q ≠ a → H1[q]? = H[q]?) : RelH t G (uJ u a j v) H1 := by
  refine rel.upd (fun b hb => ⟨rfl, rfl, rfl, rfl, rfl, up2_n _ _ _ hb, rfl⟩) rfl rfl rfl rfl (by omega) ⟨fun q1 q2 => ?_, fun q => ?_, fun _ => ?_, fun q => ?_⟩ z oq
  · have q2 : hC u a ≤ 16 := q2
    omega
  · have q : hC u a = 21 ∨ hC u a = 22 ∨ hC u a = 23 := q
    omega
  · show H1[a]? = some (arrV (t.2.2 4) (hN u a) (fun i => .long (up2 (hJ u) a j v a i)))
    rw [e1, arrV_store]
    congr 2
    funext i
    unfold updV up2
    by_cases hi : i = j <;> simp [hi]
  · have q : hC u a = 25 ∨ hC u a = 26 := q
    omega
theorem relQr {a kd : Nat} {f : Nat → Option Nat} {H1 : Heap} (rel : RelH t G u H) (hk : kd = 5 ∨ kd = 6) (hc : hC u a = kd + 20) (e1 : H1[a]? = some (arrV (t.2.2 kd) (hN u a) (fun j => va_rf (f j)))) (z : H1.size = H.size) (oq : ∀ q, q ≠ a → H1[q]? = H[q]?) : RelH t G (uQr u a f) H1 := by
  refine rel.upd (fun b hb => ⟨rfl, rfl, rfl, rfl, up1_n _ _ hb, rfl, rfl⟩) rfl rfl rfl rfl (by omega) ⟨fun q1 q2 => ?_, fun q => ?_, fun q => ?_, fun _ => ?_⟩ z oq
  · have q2 : hC u a ≤ 16 := q2
    omega
  · have q : hC u a = 21 ∨ hC u a = 22 ∨ hC u a = 23 := q
    omega
  · have q : hC u a = 24 := q
    omega
  · show H1[a]? = some (arrV (t.2.2 (hC u a - 20)) (hN u a) (fun i => va_rf (up1 (hQ u) a f a i)))
    rw [e1, hc, Nat.add_sub_cancel, up1_s]
theorem relAr {a kd : Nat} {f : Nat → Int32} {H1 : Heap} (rel : RelH t G u H) (hk : kd = 1 ∨ kd = 2 ∨ kd = 3) (hc : hC u a = kd + 20) (e1 : H1[a]? = some (arrV (t.2.2 kd) (hN u a) (fun j => .int (f j)))) (z : H1.size = H.size) (oq : ∀ q, q ≠ a → H1[q]? = H[q]?) : RelH t G (uAr u a f) H1 := by
  refine rel.upd (fun b hb => ⟨rfl, rfl, rfl, up1_n _ _ hb, rfl, rfl, rfl⟩) rfl rfl rfl rfl (by omega) ⟨fun q1 q2 => ?_, fun _ => ?_, fun q => ?_, fun q => ?_⟩ z oq
  · have q2 : hC u a ≤ 16 := q2
    omega
  · show H1[a]? = some (arrV (t.2.2 (hC u a - 20)) (hN u a) (fun i => .int (up1 (hA u) a f a i)))
    rw [e1, hc, Nat.add_sub_cancel, up1_s]
  · have q : hC u a = 24 := q
    omega
  · have q : hC u a = 25 ∨ hC u a = 26 := q
    omega
theorem relQ {a kd j : Nat} {v : Option Nat} {H1 : Heap} (rel : RelH t G u H) (hk : kd = 5 ∨ kd = 6) (hc : hC u a = kd + 20) (e1 : H1[a]? = some ((arrV (t.2.2 kd) (hN u a) (fun j => va_rf (hQ u a j))).setSlot j (va_rf v))) (z : H1.size = H.size) (oq : ∀ q, q ≠ a → H1[q]? = H[q]?) : RelH t G (uQ u a j v) H1 := by
  refine rel.upd (fun b hb => ⟨rfl, rfl, rfl, rfl, up2_n _ _ _ hb, rfl, rfl⟩) rfl rfl rfl rfl (by omega) ⟨fun q1 q2 => ?_, fun q => ?_, fun q => ?_, fun _ => ?_⟩ z oq
  · have q2 : hC u a ≤ 16 := q2
    omega
  · have q : hC u a = 21 ∨ hC u a = 22 ∨ hC u a = 23 := q
    omega
  · have q : hC u a = 24 := q
    omega
  · show H1[a]? = some (arrV (t.2.2 (hC u a - 20)) (hN u a) (fun i => va_rf (up2 (hQ u) a j v a i)))
    rw [e1, arrV_store, hc, Nat.add_sub_cancel]
    congr 2
    funext i
    unfold updV up2
    by_cases hi : i = j <;> simp [hi]
theorem relG {a : Nat} (rel : RelH t G u H) (h1 : 1 ≤ hC u a) (h2 : hC u a < 30) : G.1 a := rel.2.2.2.2.1 a h1 h2
theorem v_haiast (C0 : CxH t G l p s m args meth c y cc nL ret) {j v : Int32} {a : Nat} {k1 : HS → Option (OH O)} (hj : inA u j a 21 = true) (d : decode cc pc = .ok (.iastore, 1))
    (kk : ∀ u1, BH t G K1 K2 Qw p l e R s m args below meth c nL (pc + 1) L st u1 (k1 u1)) : BH t G K1 K2 Qw p l e R s m args below meth c nL pc L (.int v :: .int j :: .ref a :: st) u (mlet (uA u a j.toNatClampNeg v) k1) := by
  intro w hw H locs ls cells slots ok rel hS hl
  obtain ⟨h1, hin⟩ := inA_k hj
  have hc := relC_ia (kd := 1) rel (Or.inl rfl) h1
  refine W.iast C0.1.1 C0.1.2.1 hc ((C0.1.2.2.2.2.2.2.2.2.1.2 0 _ rfl).1 _ _) (fun q => by cases q) (by rw [arrV_size]; exact hin) rfl rfl d (fun H1 e1 z oq => ?_)
  exact kk _ w hw H1 _ ls cells slots ok (relA (kd := 1) rel (Or.inl rfl) h1 e1 z oq) (hS.put z oq (relG rel (by omega) (by omega))) hl
theorem v_habast (C0 : CxH t G l p s m args meth c y cc nL ret) {j v : Int32} {a : Nat} {k1 : HS → Option (OH O)} (hj : inA u j a 23 = true) (d : decode cc pc = .ok (.bastore, 1))
    (kk : ∀ u1, BH t G K1 K2 Qw p l e R s m args below meth c nL (pc + 1) L st u1 (k1 u1)) : BH t G K1 K2 Qw p l e R s m args below meth c nL pc L (.int v :: .int j :: .ref a :: st) u (mlet (uA u a j.toNatClampNeg v.toInt8.toInt32) k1) := by
  intro w hw H locs ls cells slots ok rel hS hl
  obtain ⟨h1, hin⟩ := inA_k hj
  have hc := relC_ia (kd := 3) rel (Or.inr (Or.inr rfl)) h1
  refine W.bast C0.1.1 C0.1.2.1 hc ((C0.1.2.2.2.2.2.2.2.2.1.2 2 _ rfl).1 _ _) (fun q => by cases q) (by rw [arrV_size]; exact hin) rfl rfl d (fun H1 e1 z oq => ?_)
  exact kk _ w hw H1 _ ls cells slots ok (relA (kd := 3) rel (Or.inr (Or.inr rfl)) h1 e1 z oq) (hS.put z oq (relG rel (by omega) (by omega))) hl
theorem v_hlast (C0 : CxH t G l p s m args meth c y cc nL ret) {j : Int32} {v : Int64} {a : Nat} {k1 : HS → Option (OH O)} (hj : inA u j a 24 = true) (d : decode cc pc = .ok (.lastore, 1))
    (kk : ∀ u1, BH t G K1 K2 Qw p l e R s m args below meth c nL (pc + 1) L st u1 (k1 u1)) : BH t G K1 K2 Qw p l e R s m args below meth c nL pc L (.long v :: .int j :: .ref a :: st) u (mlet (uJ u a j.toNatClampNeg v) k1) := by
  intro w hw H locs ls cells slots ok rel hS hl
  obtain ⟨h1, hin⟩ := inA_k hj
  have hc := relC_la rel h1
  refine W.last C0.1.1 C0.1.2.1 hc ((C0.1.2.2.2.2.2.2.2.2.1.2 3 _ rfl).1 _ _) (fun q => by cases q) (by rw [arrV_size]; exact hin) rfl rfl d (fun H1 e1 z oq => ?_)
  exact kk _ w hw H1 _ ls cells slots ok (relJ rel h1 e1 z oq) (hS.put z oq (relG rel (by omega) (by omega))) hl
/-- what stands at an address can be stored in a row of objects -/
def okO (tag : Nat) : Bool := (decide (1 ≤ tag) && decide (tag ≤ 16)) || tag == 21 || tag == 31
theorem castO : ∀ k, k < 16 → ∃ C T N, vwCl[k]? = some (C, T, N) ∧ Cond.castable C "java/lang/Object" ∈ lw_tbl := by
  intro k hk
  match k, hk with
  | 0, _ => exact ⟨_, _, _, rfl, q2358⟩
  | 1, _ => exact ⟨_, _, _, rfl, q2359⟩
  | 2, _ => exact ⟨_, _, _, rfl, q2361⟩
  | 3, _ => exact ⟨_, _, _, rfl, q2362⟩
  | 4, _ => exact ⟨_, _, _, rfl, q2364⟩
  | 5, _ => exact ⟨_, _, _, rfl, q2365⟩
  | 6, _ => exact ⟨_, _, _, rfl, q2367⟩
  | 7, _ => exact ⟨_, _, _, rfl, q2368⟩
  | 8, _ => exact ⟨_, _, _, rfl, q2369⟩
  | 9, _ => exact ⟨_, _, _, rfl, q2370⟩
  | 10, _ => exact ⟨_, _, _, rfl, q2372⟩
  | 11, _ => exact ⟨_, _, _, rfl, q2360⟩
  | 12, _ => exact ⟨_, _, _, rfl, q2371⟩
  | 13, _ => exact ⟨_, _, _, rfl, q2366⟩
  | 14, _ => exact ⟨_, _, _, rfl, q2363⟩
  | 15, _ => exact ⟨_, _, _, rfl, q2373⟩
  | k + 16, hk => omega
theorem hAnyO {a : Nat} (C0 : CxH t G l p s m args meth c y cc nL ret) (rel : RelH t G u H) (hS : va_S G.1 s.heap H locs) (ok : okO (hC u a) = true) : va_Any "java/lang/Object" s H a := by
  have hK := C0.1.2.2.2.2.2.2.2.2
  have asg : ∀ {C : String} {cell : Cell}, Cond.castable C "java/lang/Object" ∈ lw_tbl → s.vm.findClass C = some cell.cls → ∀ comp : ClassId, s.vm.findClass "java/lang/Object" = some comp → s.vm.assignable cell.cls comp = true := by
    intro C cell hw hf comp hcomp
    exact vb_asgC (hK.2.1 _ hw rfl) comp _ hcomp hf
  have mk : ∀ {C : String} {cell : Cell}, H[a]? = some cell → cell.vm.isStatics = false → s.vm.findClass C = some cell.cls → (∀ comp : ClassId, s.vm.findClass "java/lang/Object" = some comp → s.vm.assignable cell.cls comp = true) → va_Any "java/lang/Object" s H a := by
    intro C cell h1 h2 h3 h4
    obtain ⟨kC, hkC, -⟩ := Vm.findClass_spec h3
    exact ⟨cell, h1, h2, ⟨kC, hkC⟩, h4⟩
  have old : ∀ q : Nat, q < s.heap.size → ¬ G.1 q → H[q]? = s.heap[q]? := hS.2.1
  unfold okO at ok
  rw [Bool.or_eq_true, Bool.or_eq_true, Bool.and_eq_true] at ok
  rcases ok with (⟨h2, h1⟩ | h1) | h1
  · have h2 := of_decide_eq_true h2
    have h1 := of_decide_eq_true h1
    obtain ⟨C, T, N, hcl, hw⟩ := castO (hC u a - 1) (by omega)
    obtain ⟨cell, q1, q2, q3, -⟩ := (rel.2.2.2.2.2 a).1.1 h2 h1
    have hc2 := (hK.1.1 _ _ hcl).2.1
    exact mk q1 (by rw [q3]; rfl) (by rw [q2]; exact hc2) (asg hw (by rw [q2]; exact hc2))
  · have hc := relC_ia (kd := 1) rel (Or.inl rfl) (eq_of_beq h1)
    have hf : s.vm.findClass "[I" = some (t.2.2 1) := (hK.1.2 0 _ rfl).2
    exact mk hc rfl hf (asg q2377 hf)
  · obtain ⟨k, hk, ha, -⟩ := (rel.2.2.2.2.2 a).2.2.1 (eq_of_beq h1)
    obtain ⟨cell, g1, g2, g3, -⟩ := (C0.2.1.2.2.2.1.kept old).1 k hk
    dsimp only at g1
    rw [← ha] at g1
    exact mk g1 g2 g3 (asg q2366 g3)
theorem hAnyS {a : Nat} (C0 : CxH t G l p s m args meth c y cc nL ret) (rel : RelH t G u H) (hS : va_S G.1 s.heap H locs) (h1 : hC u a = 30) : va_Any "java/lang/String" s H a := by
  obtain ⟨i, hi, ha, -⟩ := (rel.2.2.2.2.2 a).2.1 h1
  obtain ⟨⟨cell, g1, g2, g3, -⟩, -⟩ := (C0.2.1.2.1.kept hS.2.1).1 i hi
  dsimp only at g1
  rw [← ha] at g1
  obtain ⟨kC, hkC, -⟩ := Vm.findClass_spec g3
  exact ⟨cell, g1, g2, ⟨kC, hkC⟩, fun comp hcomp => vb_asgS comp _ hcomp g3⟩
theorem v_haast (C0 : CxH t G l p s m args meth c y cc nL ret) {j : Int32} {a v : Nat} {k1 : HS → Option (OH O)} (kd : Nat) (hk : (kd = 5 ∧ okO (hC u v) = true) ∨ (kd = 6 ∧ hC u v = 30)) (hj : inA u j a (kd + 20) = true) (d : decode cc pc = .ok (.aastore, 1))
    (kk : ∀ u1, BH t G K1 K2 Qw p l e R s m args below meth c nL (pc + 1) L st u1 (k1 u1)) : BH t G K1 K2 Qw p l e R s m args below meth c nL pc L (.ref v :: .int j :: .ref a :: st) u (mlet (uQ u a j.toNatClampNeg (some v)) k1) := by
  intro w hw H locs ls cells slots ok rel hS hl
  obtain ⟨h1, hin⟩ := inA_k hj
  have hlt : j.toNatClampNeg < hN u a := Nat.not_le.mp fun q => hin (Or.inr q)
  have h0 : ¬ j < 0 := fun q => hin (Or.inl q)
  have hk5 : kd = 5 ∨ kd = 6 := hk.imp (·.1) (·.1)
  have hc := relC_qa rel hk5 h1
  have hK := C0.1.2.2.2.2.2.2.2.2.1
  have key : ∀ (E : String), va_RA s (t.2.2 kd) (.object E) → va_Any E s H v → W p l e R s m args below meth c H locs cells slots (Qw w.1 w.2.1) (F0 m pc ls (.ref v :: .int j :: .ref a :: st)) := by
    intro E hra hany
    obtain ⟨cv, g1, g2, ⟨kC, hkC⟩, g4⟩ := hany
    obtain ⟨kA, comp, k1', k2, k3, -⟩ := hra
    obtain ⟨kE, hkE, -⟩ := Vm.findClass_spec k3
    refine W.aast C0.1.1 C0.1.2.1 hc (fun q h => by cases h) (fun h => by cases h) k1' k2 rfl hkE ⟨h0, by rw [arrV_size]; exact hlt⟩ g1 (fun q h => by rw [h] at g2; cases g2) hkC (g4 _ k3) rfl rfl d fun H1 e1 z oq => ?_
    exact kk _ w hw H1 _ ls cells slots ok (relQ (v := some v) rel hk5 h1 e1 z oq) (hS.put z oq (relG rel (by omega) (by omega))) hl
  rcases hk with ⟨rfl, hv⟩ | ⟨rfl, hv⟩
  · exact key _ (hK.2 4 _ rfl).2 (hAnyO C0 rel hS hv)
  · exact key _ (hK.2 5 _ rfl).2 (hAnyS C0 rel hS hv)
theorem v_haastN (C0 : CxH t G l p s m args meth c y cc nL ret) {j : Int32} {a : Nat} {k1 : HS → Option (OH O)} (hj : inA u j a 25 = true) (d : decode cc pc = .ok (.aastore, 1))
    (kk : ∀ u1, BH t G K1 K2 Qw p l e R s m args below meth c nL (pc + 1) L st u1 (k1 u1)) : BH t G K1 K2 Qw p l e R s m args below meth c nL pc L (.null :: .int j :: .ref a :: st) u (mlet (uQ u a j.toNatClampNeg none) k1) := by
  intro w hw H locs ls cells slots ok rel hS hl
  obtain ⟨h1, hin⟩ := inA_k hj
  have hc := relC_qa (kd := 5) rel (Or.inl rfl) h1
  have hK := C0.1.2.2.2.2.2.2.2.2.1
  refine va_WaastN (C := "java/lang/Object") C0.1.1 C0.1.2.1 hc ((hK.2 4 _ rfl).1 _ _) (fun h => by cases h) (by rw [arrV_size]; exact hin) rfl rfl d (fun H1 e1 z oq => ?_)
  exact kk _ w hw H1 _ ls cells slots ok (relQ (kd := 5) (v := none) rel (Or.inl rfl) h1 e1 z oq) (hS.put z oq (relG rel (by omega) (by omega))) hl
/-- a named value, and what it is -/
theorem v_letE {X : Type} {x : X} {k : X → Option (OH O)} (h : ∀ z, z = x → BH t G K1 K2 Qw p l e R s m args below meth c nL pc L st u (k z)) : BH t G K1 K2 Qw p l e R s m args below meth c nL pc L st u (mlet x k) := h x rfl
theorem relN {ci : Nat} {H1 : Heap} (rel : RelH t G u H) (h16 : ci < 16) (hob : t_OB H.size (t.1 ci) (cN ci) (t.2.1 ci) H1 (fun k => if fK ci k = 1 then .null else if fK ci k = 3 then .long 0 else .int 0)) (z : H1.size = H.size + 1) (oq : ∀ q, q < H.size → H1[q]? = H[q]?) : RelH t G (nO u ci) H1 := by
  have e0 : hC (nO u ci) (hZ u) = ci + 1 := up1_s _ _ _
  refine rel.push (fun b hb => ⟨up1_n _ _ hb, up1_n _ _ hb, up1_n _ _ hb, rfl, rfl, rfl, rfl⟩) rfl rfl rfl (by rw [e0]; omega) ⟨fun _ _ => ?_, fun q => ?_, fun q => ?_, fun q => ?_⟩ z oq
  · rw [e0, Nat.add_sub_cancel, rel.1]
    refine hob.to fun k hk9 => ?_
    rw [← rel.1]
    unfold hF
    rw [e0, Nat.add_sub_cancel, e_nO_R, e_nO_I, up1_s, up1_s]
    by_cases h1 : fK ci k = 1
    · rw [if_pos h1, h1]; rfl
    · rw [if_neg h1]
      by_cases h3 : fK ci k = 3
      · rw [if_pos h3, h3]; rfl
      · rw [if_neg h3]
        split <;> first | rfl | contradiction
  · rw [e0] at q; omega
  · rw [e0] at q; omega
  · rw [e0] at q; omega
theorem v_hnew (C0 : CxH t G l p s m args meth c y cc nL ret) {a index : Nat} {C : String} {T : u_T} {k1 : HS → Option (OH O)} (ci : Nat) (ha : a = hZ u) (h16 : ci < 16) (hcl : vwCl[ci]? = some (C, T, cN ci)) (hin : ∀ w ∈ u_ws C T (cN ci), w ∈ lw_all) (ty0 : Nat → FieldType) (hty : ∀ k, k < cN ci → parseFieldDescriptor (T k).2.2.1 = some (ty0 k)) (hdf : ∀ j, j < cN ci → defaultValue (ty0 j) = if fK ci j = 1 then .null else if fK ci j = 3 then .long 0 else .int 0) (q1 : Cond.classLink y.cls index C ∈ lw_all) (q2 : Cond.instantiable C (cN ci) ∈ lw_all) (q3 : Cond.initialized C ∈ lw_all) (d : decode cc pc = .ok (.new index, 3))
    (kk : ∀ u1, BH t G K1 K2 Qw p l e (rmH lv K1 K2) s m args below meth c nL (pc + 3) L (.ref a :: st) u1 (k1 u1)) : BH t G K1 K2 Qw p l e (rmH lv K1 K2) s m args below meth c nL pc L st u (addc 1 (cN ci) (mlet (nO u ci) k1)) := by
  intro w hw H locs ls cells slots ok rel hS hl
  obtain ⟨v, hv, rfl⟩ := addc_some hw
  obtain ⟨ok1, ok2⟩ := ok
  dsimp only at ok1 ok2
  have hKn := C0.1.2.2.2.2.2.2.2.2.1.1 ci _ hcl
  refine W.newcK C0.1.1 C0.1.2.1 C0.1.2.2.2.1 (C0.1.2.2.2.2.1 _ q1) (C0.1.2.2.2.2.1 _ q2) (C0.1.2.2.2.2.1 _ q3) rfl d (by show cells + 1 ≤ K1; omega) (by show slots + cN ci ≤ K2; omega) hKn.2.1 rfl fun H1 kC hkC e1 z1 o1 => ?_
  have hob := (u_born ty0 C0.1.2.2.2.2.1 hin hKn hkC e1 hty).to hdf
  have hSz : va_S G.1 s.heap H1 locs := ⟨Nat.le_trans hS.1 (by omega), fun x h1 h2 => (o1 x (Nat.lt_of_lt_of_le h1 hS.1)).trans (hS.2.1 x h1 h2), hS.2.2⟩
  have hgo := kk (nO u ci) v hv H1 locs ls (cells + 1) (slots + cN ci) ⟨by omega, by omega⟩ (relN rel h16 hob z1 o1) hSz hl
  subst ha
  rw [rel.1] at hgo
  exact hgo
theorem relNA {kd n : Nat} {H1 : Heap} (rel : RelH t G u H) (hk : kd = 1 ∨ kd = 2 ∨ kd = 3 ∨ kd = 4 ∨ kd = 5 ∨ kd = 6) (e1 : H1[H.size]? = some (arrV (t.2.2 kd) n (fun _ => if kd = 4 then .long 0 else if kd ≤ 3 then .int 0 else .null))) (z : H1.size = H.size + 1) (oq : ∀ q, q < H.size → H1[q]? = H[q]?) : RelH t G (nA u kd n) H1 := by
  have e0 : hC (nA u kd n) (hZ u) = kd + 20 := up1_s _ _ _
  refine rel.push (fun b hb => ⟨up1_n _ _ hb, rfl, rfl, up1_n _ _ hb, up1_n _ _ hb, up1_n _ _ hb, up1_n _ _ hb⟩) rfl rfl rfl (by rw [e0]; omega) ⟨fun q1 q2 => ?_, fun q => ?_, fun q => ?_, fun q => ?_⟩ z oq
  · rw [e0] at q2; omega
  · rw [e0] at q
    rw [e0, Nat.add_sub_cancel, rel.1, e1, e_nA_N, e_nA_A, ← rel.1, up1_s, up1_s, if_neg (by omega), if_pos (by omega)]
  · rw [e0] at q
    have q4 : kd = 4 := by omega
    subst q4
    rw [rel.1, e1, e_nA_N, e_nA_J, ← rel.1, up1_s, up1_s, if_pos rfl]
  · rw [e0] at q
    rw [e0, Nat.add_sub_cancel, rel.1, e1, e_nA_N, e_nA_Q, ← rel.1, up1_s, up1_s, if_neg (by omega), if_neg (by omega)]
    rfl
def kdT (kd : Nat) : FieldType := match kd with | 1 => .int | 2 => .boolean | 3 => .byte | _ => .long
theorem v_hnewa (C0 : CxH t G l p s m args meth c y cc nL ret) {a n : Nat} {v : Int32} {atype : ArrayType} {k1 : HS → Option (OH O)} (kd : Nat) (ha : a = hZ u) (hk : kd = 1 ∨ kd = 2 ∨ kd = 3 ∨ kd = 4) (hty : newarray.typeOf atype = kdT kd) (qa : Cond.arrayClass (kdT kd) ∈ lw_all) (h0 : ¬ v < 0) (hn : v.toNatClampNeg = n) (hbig : n ≤ 60000000) (d : decode cc pc = .ok (.newarray atype, 2))
    (kk : ∀ u1, BH t G K1 K2 Qw p l e (rmH lv K1 K2) s m args below meth c nL (pc + 2) L (.ref a :: st) u1 (k1 u1)) : BH t G K1 K2 Qw p l e (rmH lv K1 K2) s m args below meth c nL pc L (.int v :: st) u (addc 1 n (mlet (nA u kd n) k1)) := by
  intro w hw H locs ls cells slots ok rel hS hl
  obtain ⟨v1, hv, rfl⟩ := addc_some hw
  obtain ⟨ok1, ok2⟩ := ok
  dsimp only at ok1 ok2
  have hK := C0.1.2.2.2.2.2.2.2.2.1.2
  have hb : n * componentBytes (newarray.typeOf atype) ≤ 536870912 := by
    rw [hty]
    rcases hk with rfl | rfl | rfl | rfl
    · show n * 4 ≤ _; omega
    · show n * 1 ≤ _; omega
    · show n * 1 ≤ _; omega
    · show n * 8 ≤ _; omega
  refine va_newaK C0.1.1 C0.1.2.1 (by rw [hty]; exact C0.1.2.2.2.2.1 _ qa) rfl d rfl h0 hn hb (by show cells + 1 ≤ K1; omega) (by show slots + n ≤ K2; omega) rfl fun H1 cA e1 z1 o1 _ hf => ?_
  have hcA : cA = t.2.2 kd := by
    rw [hty] at hf
    rcases hk with rfl | rfl | rfl | rfl
    · exact Option.some.inj (hf.symm.trans (hK 0 _ rfl).2)
    · exact Option.some.inj (hf.symm.trans (hK 1 _ rfl).2)
    · exact Option.some.inj (hf.symm.trans (hK 2 _ rfl).2)
    · exact Option.some.inj (hf.symm.trans (hK 3 _ rfl).2)
  have e2 : H1[H.size]? = some (arrV (t.2.2 kd) n (fun _ => if kd = 4 then .long 0 else if kd ≤ 3 then .int 0 else .null)) := by
    rw [e1, hcA, hty]
    rcases hk with rfl | rfl | rfl | rfl <;> rfl
  have hSz : va_S G.1 s.heap H1 locs := ⟨Nat.le_trans hS.1 (by omega), fun x h1 h2 => (o1 x (Nat.lt_of_lt_of_le h1 hS.1)).trans (hS.2.1 x h1 h2), hS.2.2⟩
  have hgo := kk (nA u kd n) v1 hv H1 locs ls (cells + 1) (slots + n) ⟨by omega, by omega⟩ (relNA rel (by omega) e2 z1 o1) hSz hl
  subst ha
  rw [rel.1] at hgo
  exact hgo
theorem v_hanew (C0 : CxH t G l p s m args meth c y cc nL ret) {a n index : Nat} {v : Int32} {C : String} {k1 : HS → Option (OH O)} (kd : Nat) (ha : a = hZ u) (hk : (kd = 5 ∧ C = "java/lang/Object") ∨ (kd = 6 ∧ C = "java/lang/String")) (qa : Cond.classLink y.cls index C ∈ lw_all) (h0 : ¬ v < 0) (hn : v.toNatClampNeg = n) (hbig : n ≤ 60000000) (d : decode cc pc = .ok (.anewarray index, 3))
    (kk : ∀ u1, BH t G K1 K2 Qw p l e (rmH lv K1 K2) s m args below meth c nL (pc + 3) L (.ref a :: st) u1 (k1 u1)) : BH t G K1 K2 Qw p l e (rmH lv K1 K2) s m args below meth c nL pc L (.int v :: st) u (addc 1 n (mlet (nA u kd n) k1)) := by
  intro w hw H locs ls cells slots ok rel hS hl
  obtain ⟨v1, hv, rfl⟩ := addc_some hw
  obtain ⟨ok1, ok2⟩ := ok
  dsimp only at ok1 ok2
  have hK := C0.1.2.2.2.2.2.2.2.2
  have hover : (Cond.arrayOver (.object C)).before args s = true := by
    rcases hk with ⟨-, rfl⟩ | ⟨-, rfl⟩
    · exact va_AO.use hK.2.2.2.1
    · exact va_AO.use hK.2.2.2.2.1
  subst hn
  refine W.anew C0.1.1 C0.1.2.1 C0.1.2.2.2.1 (C0.1.2.2.2.2.1 _ qa) hover rfl d rfl h0 (by omega) (by show cells + 1 ≤ K1; omega) (by show slots + _ ≤ K2; omega) fun cA kA comp f1 f2 f3 f4 => ?_
  generalize hH1 : H.push ({ cls := cA, slots := Array.replicate v.toNatClampNeg .null, vm := .none } : Cell) = H1
  have z1 : H1.size = H.size + 1 := by rw [← hH1, Array.size_push]
  have o1 : ∀ q : Nat, q < H.size → H1[q]? = H[q]? := fun q hq => by rw [← hH1, Array.getElem?_push, if_neg (Nat.ne_of_lt hq)]
  have hcA : cA = t.2.2 kd := by
    rcases hk with ⟨rfl, rfl⟩ | ⟨rfl, rfl⟩
    · obtain ⟨_, _, _, _, _, h5⟩ := (hK.1.2 4 _ rfl).2
      exact Option.some.inj (f1.symm.trans h5)
    · obtain ⟨_, _, _, _, _, h5⟩ := (hK.1.2 5 _ rfl).2
      exact Option.some.inj (f1.symm.trans h5)
  have e2 : H1[H.size]? = some (arrV (t.2.2 kd) v.toNatClampNeg (fun _ => if kd = 4 then .long 0 else if kd ≤ 3 then .int 0 else .null)) := by
    rw [← hH1, Array.getElem?_push_size, ← hcA]
    rcases hk with ⟨rfl, rfl⟩ | ⟨rfl, rfl⟩ <;> rw [if_neg (by decide), if_neg (by decide), ← arrV_new]
  have hSz : va_S G.1 s.heap H1 locs := ⟨Nat.le_trans hS.1 (by omega), fun x h1 h2 => (o1 x (Nat.lt_of_lt_of_le h1 hS.1)).trans (hS.2.1 x h1 h2), hS.2.2⟩
  have hgo := kk (nA u kd v.toNatClampNeg) v1 hv H1 locs ls (cells + 1) (slots + v.toNatClampNeg) ⟨by omega, by omega⟩ (relNA rel (by omega) e2 z1 o1) hSz hl
  subst ha
  rw [rel.1] at hgo
  exact hgo
theorem recH {a ci : Nat} {C : String} {T : u_T} {N : Nat} (k : KK t s) (rel : RelH t G u H) (hc : hC u a = ci + 1) (h16 : ci < 16) (hcl : vwCl[ci]? = some (C, T, N)) : ∃ cell : Cell, H[a]? = some cell ∧ cell.vm.isStatics = false ∧ s.vm.findClass C = some cell.cls := by
  obtain ⟨cell, h1, h2, h3, -⟩ := relC_ob rel hc h16
  exact ⟨cell, h1, by rw [h3]; rfl, by rw [h2]; exact (k.1.1 ci _ hcl).2.1⟩
theorem v_hcastS (C0 : CxH t G l p s m args meth c y cc nL ret) {a index : Nat} {C : String} {T : u_T} {N : Nat} (ci : Nat) (hc : hC u a = ci + 1) (h16 : ci < 16) (hcl : vwCl[ci]? = some (C, T, N)) (q1 : Cond.classLink y.cls index C ∈ lw_all) (d : decode cc pc = .ok (.checkcast index, 3))
    (kk : BH t G K1 K2 Qw p l e R s m args below meth c nL (pc + 3) L (.ref a :: st) u M) : BH t G K1 K2 Qw p l e R s m args below meth c nL pc L (.ref a :: st) u M := by
  intro w hw H locs ls cells slots ok rel hS hl
  exact va_castS C0.1.1 C0.1.2.1 C0.1.2.2.2.1 (C0.1.2.2.2.2.1 _ q1) (C0.1.2.2.2.2.2.2.2.2.1.1 ci _ hcl).2 (recH C0.1.2.2.2.2.2.2.2.2 rel hc h16 hcl) d (kk w hw H locs ls cells slots ok rel hS hl)
theorem v_hcastY (C0 : CxH t G l p s m args meth c y cc nL ret) {a index : Nat} {C nm : String} {T : u_T} {N : Nat} (ci : Nat) (hc : hC u a = ci + 1) (h16 : ci < 16) (hcl : vwCl[ci]? = some (C, T, N)) (q1 : Cond.classLink y.cls index nm ∈ lw_all) (q2 : Cond.castable C nm ∈ lw_tbl) (d : decode cc pc = .ok (.checkcast index, 3))
    (kk : BH t G K1 K2 Qw p l e R s m args below meth c nL (pc + 3) L (.ref a :: st) u M) : BH t G K1 K2 Qw p l e R s m args below meth c nL pc L (.ref a :: st) u M := by
  intro w hw H locs ls cells slots ok rel hS hl
  exact va_castY C0.1.1 C0.1.2.1 C0.1.2.2.2.1 (C0.1.2.2.2.2.1 _ q1) (C0.1.2.2.2.2.2.2.2.2.2.1 _ q2 rfl) (recH C0.1.2.2.2.2.2.2.2.2 rel hc h16 hcl) d (kk w hw H locs ls cells slots ok rel hS hl)
theorem v_hcastB (C0 : CxH t G l p s m args meth c y cc nL ret) {a index : Nat} (hc : hC u a = 31) (q1 : Cond.classLink y.cls index "java/lang/Integer" ∈ lw_all) (d : decode cc pc = .ok (.checkcast index, 3))
    (kk : BH t G K1 K2 Qw p l e R s m args below meth c nL (pc + 3) L (.ref a :: st) u M) : BH t G K1 K2 Qw p l e R s m args below meth c nL pc L (.ref a :: st) u M := by
  intro w hw H locs ls cells slots ok rel hS hl
  obtain ⟨k, hk, ha, -⟩ := (rel.2.2.2.2.2 a).2.2.1 hc
  obtain ⟨cell, g1, g2, g3, -⟩ := (C0.2.1.2.2.2.1.kept hS.2.1).1 k hk
  dsimp only at g1
  rw [← ha] at g1
  exact va_castS C0.1.1 C0.1.2.1 C0.1.2.2.2.1 (C0.1.2.2.2.2.1 _ q1) (C0.1.2.2.2.2.2.2.2.2.1.1 13 _ rfl).2 ⟨cell, g1, g2, g3⟩ d (kk w hw H locs ls cells slots ok rel hS hl)
theorem v_hcastI (C0 : CxH t G l p s m args meth c y cc nL ret) {a index : Nat} (hc : hC u a = 21) (q1 : Cond.classLink y.cls index "[I" ∈ lw_all) (d : decode cc pc = .ok (.checkcast index, 3))
    (kk : BH t G K1 K2 Qw p l e R s m args below meth c nL (pc + 3) L (.ref a :: st) u M) : BH t G K1 K2 Qw p l e R s m args below meth c nL pc L (.ref a :: st) u M := by
  intro w hw H locs ls cells slots ok rel hS hl
  have hcell := relC_ia (kd := 1) rel (Or.inl rfl) hc
  have hP : va_P (t.1, t.2.1) vwCl [(a, .inl (t.2.2 1, hN u a, .inl (hA u a)))] H := by
    intro i q hq
    match i, hq with
    | 0, hq => cases hq; exact hcell
    | i + 1, hq => simp at hq
  exact va_castA C0.1.1 C0.1.2.1 C0.1.2.2.2.1 (C0.1.2.2.2.2.1 _ q1) hP 0 rfl (C0.1.2.2.2.2.2.2.2.2.1.2 0 _ rfl).2 d (kk w hw H locs ls cells slots ok rel hS hl)
end VHA
