/-! walks in mode H, printed by tools/genh.py -/
set_option maxRecDepth 100000
section
variable {t : TT} {G : GH} {l : Launch}
def hJ2_grow (p0 : Nat) (u : HS) : Option (OH Nat) :=
  mchk (hC u p0 == 12) <|
  mchk (hC u p0 == 12) <|
  hb (hJ2_grow_2 p0 ((hI u p0 2) + 1) u) fun r3 u2 =>
  hret r3 u2
theorem ctJ2_grow (t : TT) (G : GH) (l : Launch) (hl0 : l.stackTraces = false) (p0 : Nat) (u : HS) : CtH mkA t G l yJ2_grow cJ2_grow 1 (some (.array (.object "java/lang/Object"))) 5 [.ref p0] u (hJ2_grow p0 u) := by
  refine ctH_of [(0, .ref p0)] hl0 rfl (Nat.le_of_ble_eq_true rfl) rfl (fun K1 K2 p e s m args below meth c C => ?_)
  unfold hJ2_grow
  refine v_aload_n C.1 0 rfl rfl dJ2_grow_0 ?_
  refine v_aload_n C.1 0 rfl rfl dJ2_grow_1 ?_
  refine v_chk (fun h1 => ?_)
  refine v_hget C (v := .int (hI u p0 2)) 11 2 (eq_of_beq h1) (by decide) rfl in_J2 (by decide) (Or.inl q184) (fun _ h => h) (hF_i (ci := 11) (eq_of_beq h1) (by decide)) dJ2_grow_2 ?_
  refine v_iconst C.1 1 (by decide) dJ2_grow_5 ?_
  refine v_iadd C.1 dJ2_grow_6 ?_
  refine v_chk (fun h4 => ?_)
  refine v_callVH C [.int ((hI u p0 2) + 1)] [] (ctJ2_grow_2 t G l hl0 p0 ((hI u p0 2) + 1) u) (fun _ _ => cwJ2_grow_2 C q401 (by decide)) (recO C (ci := 11) (eq_of_beq h4) (by decide) rfl) rfl rfl (by exact Nat.le_of_ble_eq_true rfl) dJ2_grow_7 (fun r3 u2 => ?_)
  exact v_haret C (Or.inr ⟨_, rfl⟩) dJ2_grow_10
theorem cwJ2_grow {t : TT} {G : GH} {l : Launch} {p : Program} {s : State} {m : MethodId} {args : Array Value} {meth : Method} {c : Code} {y0 : MethodName} {cc0 : ByteArray} {nL0 : Nat} {ret0 : Option FieldType} (C : CxH t G l p s m args meth c y0 cc0 nL0 ret0) {index lv mc ms K1 K2 : Nat} (hq : Cond.methodLink y0.cls index yJ2_grow ∈ lw_all) (hR : 5 + 1 ≤ lv) : CallW (rmH lv K1 K2) s args y0.cls RJ2 index yJ2_grow cJ2_grow 1 (some (.array (.object "java/lang/Object"))) (ws_ yJ2_grow cJ2_grow 1 (some (.array (.object "java/lang/Object")))) (rmH 5 mc ms) mc ms 0 :=
  cwV 0 C.1.2.2.2.2.1 (lw_V hq q399 qs3 q125 q400) rfl rfl rfl (by decide +kernel) ⟨hR, by show 8 + (1 + 11) + 100 * 5 ≤ 100 * lv; omega⟩
def hJ2_add_2 (p0 : Nat) (p1 : Nat) (p2 : Nat) (p3 : Int32) (u : HS) : Option (OH Unit) :=
  mchk (hC u p2 == 25 || hC u p2 == 35) <|
  if p3 = (Int32.ofNat (hN u p2)) then
    mchk (hC u p0 == 12) <|
    hb (hJ2_grow p0 u) fun r3 u2 =>
    mchk (inA u2 p3 r3 25) <|
    mchk (okO (hC u2 p1)) <|
    mlet (uQ u2 r3 p3.toNatClampNeg (some p1)) fun u5 =>
    mchk (hC u5 p0 == 12) <|
    mlet (uI u5 p0 2 (p3 + 1)) fun u9 =>
    hret () u9
  else
    mchk (inA u p3 p2 25) <|
    mchk (okO (hC u p1)) <|
    mlet (uQ u p2 p3.toNatClampNeg (some p1)) fun u2 =>
    mchk (hC u2 p0 == 12) <|
    mlet (uI u2 p0 2 (p3 + 1)) fun u6 =>
    hret () u6
theorem ctJ2_add_2 (t : TT) (G : GH) (l : Launch) (hl0 : l.stackTraces = false) (p0 : Nat) (p1 : Nat) (p2 : Nat) (p3 : Int32) (u : HS) : CtH mkU t G l yJ2_add_2 cJ2_add_2 4 none 6 [.ref p0, .ref p1, .ref p2, .int p3] u (hJ2_add_2 p0 p1 p2 p3 u) := by
  refine ctH_of [(0, .ref p0), (1, .ref p1), (2, .ref p2), (3, .int p3)] hl0 rfl (Nat.le_of_ble_eq_true rfl) rfl (fun K1 K2 p e s m args below meth c C => ?_)
  unfold hJ2_add_2
  refine v_iload_n C.1 3 rfl rfl dJ2_add_2_0 ?_
  refine v_aload_n C.1 2 rfl rfl dJ2_add_2_1 ?_
  refine v_chk (fun h1 => ?_)
  refine v_qalen C h1 dJ2_add_2_2 ?_
  refine v_icmp_ne C.1 11 (by decide) dJ2_add_2_3 (fun _ => ?_) (fun _ => ?_)
  · refine v_aload_n C.1 0 rfl rfl dJ2_add_2_6 ?_
    refine v_chk (fun h4 => ?_)
    refine v_callVH C [] [] (ctJ2_grow t G l hl0 p0 u) (fun _ _ => cwJ2_grow C q397 (by decide)) (recO C (ci := 11) (eq_of_beq h4) (by decide) rfl) rfl rfl (by exact Nat.le_of_ble_eq_true rfl) dJ2_add_2_7 (fun r3 u2 => ?_)
    refine v_astore_n C.1 [(2, .ref r3), (0, .ref p0), (1, .ref p1), (3, .int p3)] rfl (by decide) rfl dJ2_add_2_10 ?_
    refine v_aload_n C.1 0 rfl rfl dJ2_add_2_11 ?_
    refine v_iload_n C.1 3 rfl rfl dJ2_add_2_12 ?_
    refine v_aload_n C.1 2 rfl rfl dJ2_add_2_13 ?_
    refine v_chk (fun h6 => ?_)
    refine v_chk (fun h7 => ?_)
    refine v_haast C 5 (Or.inl ⟨rfl, h7⟩) h6 dJ2_add_2_14 (fun u5 => ?_)
    refine v_aload_n C.1 1 rfl rfl dJ2_add_2_15 ?_
    refine v_iload_n C.1 3 rfl rfl dJ2_add_2_16 ?_
    refine v_iconst C.1 1 (by decide) dJ2_add_2_17 ?_
    refine v_iadd C.1 dJ2_add_2_18 ?_
    refine v_chk (fun h8 => ?_)
    refine v_hputI C 11 2 (eq_of_beq h8) (by decide) rfl in_J2 tyJ2 tyJ2_ok nmJ2 (by decide) (by decide) q184 (fun _ h => h) (Or.inl rfl) ⟨rfl, rfl⟩ dJ2_add_2_19 (fun u9 => ?_)
    exact v_hvret C dJ2_add_2_22
  · refine v_aload_n C.1 2 rfl rfl dJ2_add_2_11 ?_
    refine v_iload_n C.1 3 rfl rfl dJ2_add_2_12 ?_
    refine v_aload_n C.1 1 rfl rfl dJ2_add_2_13 ?_
    refine v_chk (fun h3 => ?_)
    refine v_chk (fun h4 => ?_)
    refine v_haast C 5 (Or.inl ⟨rfl, h4⟩) h3 dJ2_add_2_14 (fun u2 => ?_)
    refine v_aload_n C.1 0 rfl rfl dJ2_add_2_15 ?_
    refine v_iload_n C.1 3 rfl rfl dJ2_add_2_16 ?_
    refine v_iconst C.1 1 (by decide) dJ2_add_2_17 ?_
    refine v_iadd C.1 dJ2_add_2_18 ?_
    refine v_chk (fun h5 => ?_)
    refine v_hputI C 11 2 (eq_of_beq h5) (by decide) rfl in_J2 tyJ2 tyJ2_ok nmJ2 (by decide) (by decide) q184 (fun _ h => h) (Or.inl rfl) ⟨rfl, rfl⟩ dJ2_add_2_19 (fun u6 => ?_)
    exact v_hvret C dJ2_add_2_22
theorem cwJ2_add_2 {t : TT} {G : GH} {l : Launch} {p : Program} {s : State} {m : MethodId} {args : Array Value} {meth : Method} {c : Code} {y0 : MethodName} {cc0 : ByteArray} {nL0 : Nat} {ret0 : Option FieldType} (C : CxH t G l p s m args meth c y0 cc0 nL0 ret0) {index lv mc ms K1 K2 : Nat} (hq : Cond.methodLink y0.cls index yJ2_add_2 ∈ lw_all) (hR : 6 + 1 ≤ lv) : CallW (rmH lv K1 K2) s args y0.cls RJ2 index yJ2_add_2 cJ2_add_2 4 none (ws_ yJ2_add_2 cJ2_add_2 4 none) (rmH 6 mc ms) mc ms 3 :=
  cwV 3 C.1.2.2.2.2.1 (lw_V hq q395 qs2 q125 q396) rfl rfl rfl (by decide +kernel) ⟨hR, by show 8 + (4 + 11) + 100 * 6 ≤ 100 * lv; omega⟩
def hJ2_add (p0 : Nat) (p1 : Nat) (u : HS) : Option (OH Int32) :=
  mchk (hC u p0 == 12) <|
  mchk (hC u p0 == 12) <|
  mlet (uI u p0 0 ((hI u p0 0) + 1)) fun u3 =>
  mchk (hC u3 p0 == 12) <|
  mderef (hR u3 p0 1) fun a5 =>
  mchk (hC u3 p0 == 12) <|
  mchk (hC u3 p0 == 12) <|
  hb (hJ2_add_2 p0 p1 a5 (hI u3 p0 2) u3) fun _ u8 =>
  hz id 1 u8
theorem ctJ2_add (t : TT) (G : GH) (l : Launch) (hl0 : l.stackTraces = false) (p0 : Nat) (p1 : Nat) (u : HS) : CtH mkI t G l yJ2_add cJ2_add 2 (some .boolean) 7 [.ref p0, .ref p1] u (hJ2_add p0 p1 u) := by
  refine ctH_of [(0, .ref p0), (1, .ref p1)] hl0 rfl (Nat.le_of_ble_eq_true rfl) rfl (fun K1 K2 p e s m args below meth c C => ?_)
  unfold hJ2_add
  refine v_aload_n C.1 0 rfl rfl dJ2_add_0 ?_
  refine v_dup C.1 rfl dJ2_add_1 ?_
  refine v_chk (fun h1 => ?_)
  refine v_hget C (v := .int (hI u p0 0)) 11 0 (eq_of_beq h1) (by decide) rfl in_J2 (by decide) (Or.inl q186) (fun x h9 => u_same (C.1.2.2.2.2.1 _ q187) x h9) (hF_i (ci := 11) (eq_of_beq h1) (by decide)) dJ2_add_2 ?_
  refine v_iconst C.1 1 (by decide) dJ2_add_5 ?_
  refine v_iadd C.1 dJ2_add_6 ?_
  refine v_chk (fun h2 => ?_)
  refine v_hputI C 11 0 (eq_of_beq h2) (by decide) rfl in_J2 tyJ2 tyJ2_ok nmJ2 (by decide) (by decide) q186 (fun x h9 => u_same (C.1.2.2.2.2.1 _ q187) x h9) (Or.inl rfl) ⟨rfl, rfl⟩ dJ2_add_7 (fun u3 => ?_)
  refine v_aload_n C.1 0 rfl rfl dJ2_add_10 ?_
  refine v_aload_n C.1 1 rfl rfl dJ2_add_11 ?_
  refine v_aload_n C.1 0 rfl rfl dJ2_add_12 ?_
  refine v_chk (fun h4 => ?_)
  refine v_hget C (v := va_rf (hR u3 p0 1)) 11 1 (eq_of_beq h4) (by decide) rfl in_J2 (by decide) (Or.inl q183) (fun _ h => h) (hF_r (ci := 11) (eq_of_beq h4) (by decide)) dJ2_add_13 ?_
  refine v_deref (fun a5 e6 => ?_)
  refine v_aload_n C.1 0 rfl rfl dJ2_add_16 ?_
  refine v_chk (fun h7 => ?_)
  refine v_hget C (v := .int (hI u3 p0 2)) 11 2 (eq_of_beq h7) (by decide) rfl in_J2 (by decide) (Or.inl q184) (fun _ h => h) (hF_i (ci := 11) (eq_of_beq h7) (by decide)) dJ2_add_17 ?_
  refine v_chk (fun h9 => ?_)
  refine v_callVH C [.ref p1, .ref a5, .int (hI u3 p0 2)] [] (ctJ2_add_2 t G l hl0 p0 p1 a5 (hI u3 p0 2) u3) (fun _ _ => cwJ2_add_2 C q393 (by decide)) (recO C (ci := 11) (eq_of_beq h9) (by decide) rfl) rfl rfl (by exact Nat.le_of_ble_eq_true rfl) dJ2_add_20 (fun _ u8 => ?_)
  refine v_iconst C.1 1 (by decide) dJ2_add_23 ?_
  exact v_hzret C dJ2_add_24
theorem cwJ2_addF {t : TT} {G : GH} {l : Launch} {p : Program} {s : State} {m : MethodId} {args : Array Value} {meth : Method} {c : Code} {y0 : MethodName} {cc0 : ByteArray} {nL0 : Nat} {ret0 : Option FieldType} (C : CxH t G l p s m args meth c y0 cc0 nL0 ret0) {index lv mc ms K1 K2 : Nat} (hq : Cond.methodLink y0.cls index (⟨"java/util/List", "add", "(Ljava/lang/Object;)Z"⟩ : MethodName) ∈ lw_all) (hR : 7 + 1 ≤ lv) : va_CI (rmH lv K1 K2) s args y0.cls RJ2 index (⟨"java/util/List", "add", "(Ljava/lang/Object;)Z"⟩ : MethodName) yJ2_add cJ2_add 2 (some .boolean) (ws_ yJ2_add cJ2_add 2 (some .boolean)) (rmH 7 mc ms) mc ms 1 :=
  va_cwF 1 C.1.2.2.2.2.1 (lw_F hq q388 q390 q125 q392) rfl rfl rfl (C.1.2.2.2.2.2.2.2.2.2.2.1 _ (List.mem_of_getElem? (i := 0) rfl)) (by decide +kernel) ⟨hR, by show 8 + (2 + 11) + 100 * 7 ≤ 100 * lv; omega⟩
def hJ2_size (p0 : Nat) (u : HS) : Option (OH Int32) :=
  mchk (hC u p0 == 12) <|
  hret (hI u p0 2) u
theorem ctJ2_size (t : TT) (G : GH) (l : Launch) (hl0 : l.stackTraces = false) (p0 : Nat) (u : HS) : CtH mkI t G l yJ2_size cJ2_size 1 (some .int) 2 [.ref p0] u (hJ2_size p0 u) := by
  refine ctH_of [(0, .ref p0)] hl0 rfl (Nat.le_of_ble_eq_true rfl) rfl (fun K1 K2 p e s m args below meth c C => ?_)
  unfold hJ2_size
  refine v_aload_n C.1 0 rfl rfl dJ2_size_0 ?_
  refine v_chk (fun h1 => ?_)
  refine v_hget C (v := .int (hI u p0 2)) 11 2 (eq_of_beq h1) (by decide) rfl in_J2 (by decide) (Or.inl q184) (fun _ h => h) (hF_i (ci := 11) (eq_of_beq h1) (by decide)) dJ2_size_1 ?_
  exact v_hiret C dJ2_size_4
theorem cwJ2_sizeF {t : TT} {G : GH} {l : Launch} {p : Program} {s : State} {m : MethodId} {args : Array Value} {meth : Method} {c : Code} {y0 : MethodName} {cc0 : ByteArray} {nL0 : Nat} {ret0 : Option FieldType} (C : CxH t G l p s m args meth c y0 cc0 nL0 ret0) {index lv mc ms K1 K2 : Nat} (hq : Cond.methodLink y0.cls index (⟨"java/util/List", "size", "()I"⟩ : MethodName) ∈ lw_all) (hR : 2 + 1 ≤ lv) : va_CI (rmH lv K1 K2) s args y0.cls RJ2 index (⟨"java/util/List", "size", "()I"⟩ : MethodName) yJ2_size cJ2_size 1 (some .int) (ws_ yJ2_size cJ2_size 1 (some .int)) (rmH 2 mc ms) mc ms 0 :=
  va_cwF 0 C.1.2.2.2.2.1 (lw_F hq q456 q458 q125 q460) rfl rfl rfl (C.1.2.2.2.2.2.2.2.2.2.2.1 _ (List.mem_of_getElem? (i := 1) rfl)) (by decide +kernel) ⟨hR, by show 8 + (1 + 11) + 100 * 2 ≤ 100 * lv; omega⟩
def hJ11_checkIndex (p0 : Int32) (p1 : Int32) (p2 : Option Nat) (u : HS) : Option (OH Int32) :=
  if p0 < 0 then
    none
  else
    if p0 < p1 then
      hret p0 u
    else
      none
theorem ctJ11_checkIndex (t : TT) (G : GH) (l : Launch) (hl0 : l.stackTraces = false) (p0 : Int32) (p1 : Int32) (p2 : Option Nat) (u : HS) : CtH mkI t G l yJ11_checkIndex cJ11_checkIndex 3 (some .int) 2 [.int p0, .int p1, va_rf p2] u (hJ11_checkIndex p0 p1 p2 u) := by
  refine ctH_of [(0, .int p0), (1, .int p1), (2, va_rf p2)] hl0 rfl (by cases p2 <;> exact Nat.le_of_ble_eq_true rfl) (by cases p2 <;> rfl) (fun K1 K2 p e s m args below meth c C => ?_)
  unfold hJ11_checkIndex
  refine v_iload_n C.1 0 rfl rfl dJ11_checkIndex_0 ?_
  refine v_if_lt C.1 9 (by decide) dJ11_checkIndex_1 (fun _ => ?_) (fun _ => ?_)
  · refine v_aload_nO C.1 2 rfl rfl dJ11_checkIndex_9 ?_
    refine v_iload_n C.1 0 rfl rfl dJ11_checkIndex_10 ?_
    refine v_iload_n C.1 1 rfl rfl dJ11_checkIndex_11 ?_
    exact v_none
  · refine v_iload_n C.1 0 rfl rfl dJ11_checkIndex_4 ?_
    refine v_iload_n C.1 1 rfl rfl dJ11_checkIndex_5 ?_
    refine v_icmp_lt C.1 16 (by decide) dJ11_checkIndex_6 (fun _ => ?_) (fun _ => ?_)
    · refine v_iload_n C.1 0 rfl rfl dJ11_checkIndex_16 ?_
      exact v_hiret C dJ11_checkIndex_17
    · refine v_aload_nO C.1 2 rfl rfl dJ11_checkIndex_9 ?_
      refine v_iload_n C.1 0 rfl rfl dJ11_checkIndex_10 ?_
      refine v_iload_n C.1 1 rfl rfl dJ11_checkIndex_11 ?_
      exact v_none
theorem cwJ11_checkIndex {t : TT} {G : GH} {l : Launch} {p : Program} {s : State} {m : MethodId} {args : Array Value} {meth : Method} {c : Code} {y0 : MethodName} {cc0 : ByteArray} {nL0 : Nat} {ret0 : Option FieldType} (C : CxH t G l p s m args meth c y0 cc0 nL0 ret0) {index lv mc ms K1 K2 : Nat} (hq : Cond.methodLink y0.cls index yJ11_checkIndex ∈ lw_all) (hR : 2 + 1 ≤ lv) : CallB (rmH lv K1 K2) s args y0.cls index yJ11_checkIndex cJ11_checkIndex 3 (some .int) (ws_ yJ11_checkIndex cJ11_checkIndex 3 (some .int)) (rmH 2 mc ms) mc ms 3 ∧ (Cond.static yJ11_checkIndex).before args s = true :=
  ⟨callB_of 3 C.1.2.2.2.2.1 (lw_meth q475) rfl rfl rfl (C.1.2.2.2.2.1 _ q137) (C.1.2.2.2.2.1 _ hq) (by decide +kernel) ⟨hR, by show 8 + (3 + 11) + 100 * 2 ≤ 100 * lv; omega⟩, C.1.2.2.2.2.1 _ q474⟩
def hJ17_checkIndex (p0 : Int32) (p1 : Int32) (u : HS) : Option (OH Int32) :=
  hb (hJ11_checkIndex p0 p1 none u) fun r2 u1 =>
  hret r2 u1
theorem ctJ17_checkIndex (t : TT) (G : GH) (l : Launch) (hl0 : l.stackTraces = false) (p0 : Int32) (p1 : Int32) (u : HS) : CtH mkI t G l yJ17_checkIndex cJ17_checkIndex 2 (some .int) 3 [.int p0, .int p1] u (hJ17_checkIndex p0 p1 u) := by
  refine ctH_of [(0, .int p0), (1, .int p1)] hl0 rfl (Nat.le_of_ble_eq_true rfl) rfl (fun K1 K2 p e s m args below meth c C => ?_)
  unfold hJ17_checkIndex
  refine v_iload_n C.1 0 rfl rfl dJ17_checkIndex_0 ?_
  refine v_iload_n C.1 1 rfl rfl dJ17_checkIndex_1 ?_
  refine v_null C dJ17_checkIndex_2 ?_
  refine v_callSH C [.int p0, .int p1, .null] [] (ctJ11_checkIndex t G l hl0 p0 p1 none u) (fun _ _ => cwJ11_checkIndex C q473 (by decide)) rfl rfl (by exact Nat.le_of_ble_eq_true rfl) dJ17_checkIndex_3 (fun r2 u1 => ?_)
  exact v_hiret C dJ17_checkIndex_6
theorem cwJ17_checkIndex {t : TT} {G : GH} {l : Launch} {p : Program} {s : State} {m : MethodId} {args : Array Value} {meth : Method} {c : Code} {y0 : MethodName} {cc0 : ByteArray} {nL0 : Nat} {ret0 : Option FieldType} (C : CxH t G l p s m args meth c y0 cc0 nL0 ret0) {index lv mc ms K1 K2 : Nat} (hq : Cond.methodLink y0.cls index yJ17_checkIndex ∈ lw_all) (hR : 3 + 1 ≤ lv) : CallB (rmH lv K1 K2) s args y0.cls index yJ17_checkIndex cJ17_checkIndex 2 (some .int) (ws_ yJ17_checkIndex cJ17_checkIndex 2 (some .int)) (rmH 3 mc ms) mc ms 2 ∧ (Cond.static yJ17_checkIndex).before args s = true :=
  ⟨callB_of 2 C.1.2.2.2.2.1 (lw_meth q472) rfl rfl rfl (C.1.2.2.2.2.1 _ q146) (C.1.2.2.2.2.1 _ hq) (by decide +kernel) ⟨hR, by show 8 + (2 + 11) + 100 * 3 ≤ 100 * lv; omega⟩, C.1.2.2.2.2.1 _ q471⟩
def hJ2_fastRemove (p0 : Nat) (p1 : Nat) (p2 : Int32) (u : HS) : Option (OH Unit) :=
  mchk (hC u p0 == 12) <|
  mchk (hC u p0 == 12) <|
  mlet (uI u p0 0 ((hI u p0 0) + 1)) fun u3 =>
  mchk (hC u3 p0 == 12) <|
  mlet ((hI u3 p0 2) - 1) fun v5 =>
  if ((hI u3 p0 2) - 1) ≤ p2 then
    mchk (hC u3 p0 == 12) <|
    mlet (uI u3 p0 2 v5) fun u7 =>
    mchk (inA u7 v5 p1 25) <|
    mlet (uQ u7 p1 v5.toNatClampNeg none) fun u8 =>
    hret () u8
  else
    mchk (cpQ u3 p1 (p2 + 1) p1 p2 (v5 - p2)) <|
    mlet (uQr u3 p1 (va_cpy (hQ u3 p1) (hQ u3 p1) (p2 + 1).toNatClampNeg p2.toNatClampNeg (v5 - p2).toNatClampNeg)) fun u6 =>
    mchk (hC u6 p0 == 12) <|
    mlet (uI u6 p0 2 v5) fun u8 =>
    mchk (inA u8 v5 p1 25) <|
    mlet (uQ u8 p1 v5.toNatClampNeg none) fun u9 =>
    hret () u9
theorem ctJ2_fastRemove (t : TT) (G : GH) (l : Launch) (hl0 : l.stackTraces = false) (p0 : Nat) (p1 : Nat) (p2 : Int32) (u : HS) : CtH mkU t G l yJ2_fastRemove cJ2_fastRemove 4 none 2 [.ref p0, .ref p1, .int p2] u (hJ2_fastRemove p0 p1 p2 u) := by
  refine ctH_of [(0, .ref p0), (1, .ref p1), (2, .int p2)] hl0 rfl (Nat.le_of_ble_eq_true rfl) rfl (fun K1 K2 p e s m args below meth c C => ?_)
  unfold hJ2_fastRemove
  refine v_aload_n C.1 0 rfl rfl dJ2_fastRemove_0 ?_
  refine v_dup C.1 rfl dJ2_fastRemove_1 ?_
  refine v_chk (fun h1 => ?_)
  refine v_hget C (v := .int (hI u p0 0)) 11 0 (eq_of_beq h1) (by decide) rfl in_J2 (by decide) (Or.inl q186) (fun x h9 => u_same (C.1.2.2.2.2.1 _ q187) x h9) (hF_i (ci := 11) (eq_of_beq h1) (by decide)) dJ2_fastRemove_2 ?_
  refine v_iconst C.1 1 (by decide) dJ2_fastRemove_5 ?_
  refine v_iadd C.1 dJ2_fastRemove_6 ?_
  refine v_chk (fun h2 => ?_)
  refine v_hputI C 11 0 (eq_of_beq h2) (by decide) rfl in_J2 tyJ2 tyJ2_ok nmJ2 (by decide) (by decide) q186 (fun x h9 => u_same (C.1.2.2.2.2.1 _ q187) x h9) (Or.inl rfl) ⟨rfl, rfl⟩ dJ2_fastRemove_7 (fun u3 => ?_)
  refine v_aload_n C.1 0 rfl rfl dJ2_fastRemove_10 ?_
  refine v_chk (fun h4 => ?_)
  refine v_hget C (v := .int (hI u3 p0 2)) 11 2 (eq_of_beq h4) (by decide) rfl in_J2 (by decide) (Or.inl q184) (fun _ h => h) (hF_i (ci := 11) (eq_of_beq h4) (by decide)) dJ2_fastRemove_11 ?_
  refine v_iconst C.1 1 (by decide) dJ2_fastRemove_14 ?_
  refine v_isub C.1 dJ2_fastRemove_15 ?_
  refine v_dup C.1 rfl dJ2_fastRemove_16 ?_
  refine v_topi (fun v5 => ?_)
  refine v_istore_n C.1 [(3, .int v5), (0, .ref p0), (1, .ref p1), (2, .int p2)] rfl (by decide) rfl dJ2_fastRemove_17 ?_
  refine v_iload_n C.1 3 rfl rfl dJ2_fastRemove_18 ?_
  refine v_icmp_le C.1 34 (by decide) dJ2_fastRemove_19 (fun _ => ?_) (fun _ => ?_)
  · refine v_aload_n C.1 2 rfl rfl dJ2_fastRemove_34 ?_
    refine v_aload_n C.1 1 rfl rfl dJ2_fastRemove_35 ?_
    refine v_iload_n C.1 0 rfl rfl dJ2_fastRemove_36 ?_
    refine v_dup_x1 C.1 rfl rfl dJ2_fastRemove_37 ?_
    refine v_chk (fun h6 => ?_)
    refine v_hputI C 11 2 (eq_of_beq h6) (by decide) rfl in_J2 tyJ2 tyJ2_ok nmJ2 (by decide) (by decide) q184 (fun _ h => h) (Or.inl rfl) ⟨rfl, rfl⟩ dJ2_fastRemove_38 (fun u7 => ?_)
    refine v_null C dJ2_fastRemove_41 ?_
    refine v_chk (fun h9 => ?_)
    refine v_haastN C h9 dJ2_fastRemove_42 (fun u8 => ?_)
    exact v_hvret C dJ2_fastRemove_43
  · refine v_aload_n C.1 2 rfl rfl dJ2_fastRemove_22 ?_
    refine v_iload_n C.1 3 rfl rfl dJ2_fastRemove_23 ?_
    refine v_iconst C.1 1 (by decide) dJ2_fastRemove_24 ?_
    refine v_iadd C.1 dJ2_fastRemove_25 ?_
    refine v_aload_n C.1 2 rfl rfl dJ2_fastRemove_26 ?_
    refine v_iload_n C.1 3 rfl rfl dJ2_fastRemove_27 ?_
    refine v_iload_n C.1 0 rfl rfl dJ2_fastRemove_28 ?_
    refine v_iload_n C.1 3 rfl rfl dJ2_fastRemove_29 ?_
    refine v_isub C.1 dJ2_fastRemove_30 ?_
    refine v_hcopyQ C q480 q449 q448 q142 (by exact Nat.le_of_ble_eq_true rfl) (by exact Nat.le_of_ble_eq_true rfl) dJ2_fastRemove_31 (fun u6 => ?_)
    refine v_aload_n C.1 2 rfl rfl dJ2_fastRemove_34 ?_
    refine v_aload_n C.1 1 rfl rfl dJ2_fastRemove_35 ?_
    refine v_iload_n C.1 0 rfl rfl dJ2_fastRemove_36 ?_
    refine v_dup_x1 C.1 rfl rfl dJ2_fastRemove_37 ?_
    refine v_chk (fun h7 => ?_)
    refine v_hputI C 11 2 (eq_of_beq h7) (by decide) rfl in_J2 tyJ2 tyJ2_ok nmJ2 (by decide) (by decide) q184 (fun _ h => h) (Or.inl rfl) ⟨rfl, rfl⟩ dJ2_fastRemove_38 (fun u8 => ?_)
    refine v_null C dJ2_fastRemove_41 ?_
    refine v_chk (fun h10 => ?_)
    refine v_haastN C h10 dJ2_fastRemove_42 (fun u9 => ?_)
    exact v_hvret C dJ2_fastRemove_43
theorem cwJ2_fastRemove {t : TT} {G : GH} {l : Launch} {p : Program} {s : State} {m : MethodId} {args : Array Value} {meth : Method} {c : Code} {y0 : MethodName} {cc0 : ByteArray} {nL0 : Nat} {ret0 : Option FieldType} (C : CxH t G l p s m args meth c y0 cc0 nL0 ret0) {index lv mc ms K1 K2 : Nat} (hq : Cond.methodLink y0.cls index yJ2_fastRemove ∈ lw_all) (hR : 2 + 1 ≤ lv) : CallW (rmH lv K1 K2) s args y0.cls RJ2 index yJ2_fastRemove cJ2_fastRemove 4 none (ws_ yJ2_fastRemove cJ2_fastRemove 4 none) (rmH 2 mc ms) mc ms 2 :=
  cwV 2 C.1.2.2.2.2.1 (lw_V hq q478 qs5 q125 q479) rfl rfl rfl (by decide +kernel) ⟨hR, by show 8 + (4 + 11) + 100 * 2 ≤ 100 * lv; omega⟩
def hJ2_remove (p0 : Nat) (p1 : Int32) (u : HS) : Option (OH Nat) :=
  mchk (hC u p0 == 12) <|
  hb (hJ17_checkIndex p1 (hI u p0 2) u) fun r3 u2 =>
  mchk (hC u2 p0 == 12) <|
  mderef (hR u2 p0 1) fun a5 =>
  mchk (inA u2 p1 a5 25) <|
  mderef (hQ u2 a5 p1.toNatClampNeg) fun a8 =>
  mchk (hC u2 p0 == 12) <|
  hb (hJ2_fastRemove p0 a5 p1 u2) fun _ u10 =>
  hret a8 u10
theorem ctJ2_remove (t : TT) (G : GH) (l : Launch) (hl0 : l.stackTraces = false) (p0 : Nat) (p1 : Int32) (u : HS) : CtH mkA t G l yJ2_remove cJ2_remove 4 (some (.object "java/lang/Object")) 4 [.ref p0, .int p1] u (hJ2_remove p0 p1 u) := by
  refine ctH_of [(0, .ref p0), (1, .int p1)] hl0 rfl (Nat.le_of_ble_eq_true rfl) rfl (fun K1 K2 p e s m args below meth c C => ?_)
  unfold hJ2_remove
  refine v_iload_n C.1 1 rfl rfl dJ2_remove_0 ?_
  refine v_aload_n C.1 0 rfl rfl dJ2_remove_1 ?_
  refine v_chk (fun h1 => ?_)
  refine v_hget C (v := .int (hI u p0 2)) 11 2 (eq_of_beq h1) (by decide) rfl in_J2 (by decide) (Or.inl q184) (fun _ h => h) (hF_i (ci := 11) (eq_of_beq h1) (by decide)) dJ2_remove_2 ?_
  refine v_callSH C [.int p1, .int (hI u p0 2)] [] (ctJ17_checkIndex t G l hl0 p1 (hI u p0 2) u) (fun _ _ => cwJ17_checkIndex C q470 (by decide)) rfl rfl (by exact Nat.le_of_ble_eq_true rfl) dJ2_remove_5 (fun r3 u2 => ?_)
  refine v_pop C.1 rfl dJ2_remove_8 ?_
  refine v_aload_n C.1 0 rfl rfl dJ2_remove_9 ?_
  refine v_chk (fun h4 => ?_)
  refine v_hget C (v := va_rf (hR u2 p0 1)) 11 1 (eq_of_beq h4) (by decide) rfl in_J2 (by decide) (Or.inl q183) (fun _ h => h) (hF_r (ci := 11) (eq_of_beq h4) (by decide)) dJ2_remove_10 ?_
  refine v_deref (fun a5 e6 => ?_)
  refine v_astore_n C.1 [(2, .ref a5), (0, .ref p0), (1, .int p1)] rfl (by decide) rfl dJ2_remove_13 ?_
  refine v_aload_n C.1 0 rfl rfl dJ2_remove_14 ?_
  refine v_iload_n C.1 2 rfl rfl dJ2_remove_15 ?_
  refine v_chk (fun h7 => ?_)
  refine v_haald C 5 (by decide) h7 dJ2_remove_16 ?_
  refine v_deref (fun a8 e9 => ?_)
  refine v_astore_n C.1 [(3, .ref a8), (2, .ref a5), (0, .ref p0), (1, .int p1)] rfl (by decide) rfl dJ2_remove_17 ?_
  refine v_aload_n C.1 2 rfl rfl dJ2_remove_18 ?_
  refine v_aload_n C.1 1 rfl rfl dJ2_remove_19 ?_
  refine v_iload_n C.1 3 rfl rfl dJ2_remove_20 ?_
  refine v_chk (fun h11 => ?_)
  refine v_callVH C [.ref a5, .int p1] [] (ctJ2_fastRemove t G l hl0 p0 a5 p1 u2) (fun _ _ => cwJ2_fastRemove C q476 (by decide)) (recO C (ci := 11) (eq_of_beq h11) (by decide) rfl) rfl rfl (by exact Nat.le_of_ble_eq_true rfl) dJ2_remove_21 (fun _ u10 => ?_)
  refine v_aload_n C.1 0 rfl rfl dJ2_remove_24 ?_
  exact v_haret C (Or.inl ⟨_, rfl⟩) dJ2_remove_25
theorem cwJ2_removeF {t : TT} {G : GH} {l : Launch} {p : Program} {s : State} {m : MethodId} {args : Array Value} {meth : Method} {c : Code} {y0 : MethodName} {cc0 : ByteArray} {nL0 : Nat} {ret0 : Option FieldType} (C : CxH t G l p s m args meth c y0 cc0 nL0 ret0) {index lv mc ms K1 K2 : Nat} (hq : Cond.methodLink y0.cls index (⟨"java/util/List", "remove", "(I)Ljava/lang/Object;"⟩ : MethodName) ∈ lw_all) (hR : 4 + 1 ≤ lv) : va_CI (rmH lv K1 K2) s args y0.cls RJ2 index (⟨"java/util/List", "remove", "(I)Ljava/lang/Object;"⟩ : MethodName) yJ2_remove cJ2_remove 4 (some (.object "java/lang/Object")) (ws_ yJ2_remove cJ2_remove 4 (some (.object "java/lang/Object"))) (rmH 4 mc ms) mc ms 1 :=
  va_cwF 1 C.1.2.2.2.2.1 (lw_F hq q465 q467 q125 q469) rfl rfl rfl (C.1.2.2.2.2.2.2.2.2.2.2.1 _ (List.mem_of_getElem? (i := 3) rfl)) (by decide +kernel) ⟨hR, by show 8 + (4 + 11) + 100 * 4 ≤ 100 * lv; omega⟩
def hX1_keep (p0 : Nat) (u : HS) : Option (OH Unit) :=
  mchk (hC u p0 == 1) <|
  mderef (hR u p0 8) fun a2 =>
  mchk (hC u p0 == 1) <|
  mderef (hR u p0 3) fun a5 =>
  mchk (hC u a5 == 3) <|
  hb (hX3_copy a5 u) fun r8 u7 =>
  mchk (hC u7 a2 == 12) <|
  hb (hJ2_add a2 r8 u7) fun r11 u10 =>
  mchk (hC u10 p0 == 1) <|
  mderef (hR u10 p0 8) fun a14 =>
  mchk (hC u10 a14 == 12) <|
  hb (hJ2_size a14 u10) fun r17 u16 =>
  if r17 ≤ 40 then
    hret () u16
  else
    mchk (hC u16 p0 == 1) <|
    mderef (hR u16 p0 8) fun a20 =>
    mchk (hC u16 a20 == 12) <|
    hb (hJ2_remove a20 0 u16) fun r23 u22 =>
    hret () u22
theorem ctX1_keep (t : TT) (G : GH) (l : Launch) (hl0 : l.stackTraces = false) (p0 : Nat) (u : HS) : CtH mkU t G l yX1_keep cX1_keep 1 none 8 [.ref p0] u (hX1_keep p0 u) := by
  refine ctH_of [(0, .ref p0)] hl0 rfl (Nat.le_of_ble_eq_true rfl) rfl (fun K1 K2 p e s m args below meth c C => ?_)
  unfold hX1_keep
  refine v_aload_n C.1 0 rfl rfl dX1_keep_0 ?_
  refine v_chk (fun h1 => ?_)
  refine v_hget C (v := va_rf (hR u p0 8)) 0 8 (eq_of_beq h1) (by decide) rfl in_X1 (by decide) (Or.inl q318) (fun _ h => h) (hF_r (ci := 0) (eq_of_beq h1) (by decide)) dX1_keep_1 ?_
  refine v_deref (fun a2 e3 => ?_)
  refine v_aload_n C.1 0 rfl rfl dX1_keep_4 ?_
  refine v_chk (fun h4 => ?_)
  refine v_hget C (v := va_rf (hR u p0 3)) 0 3 (eq_of_beq h4) (by decide) rfl in_X1 (by decide) (Or.inl q312) (fun _ h => h) (hF_r (ci := 0) (eq_of_beq h4) (by decide)) dX1_keep_5 ?_
  refine v_deref (fun a5 e6 => ?_)
  refine v_chk (fun h9 => ?_)
  refine v_callVH C [] [.ref a2] (ctX3_copy t G l hl0 a5 u) (fun _ _ => cwX3_copy C q377 (by decide)) (recO C (ci := 2) (eq_of_beq h9) (by decide) rfl) rfl rfl (by exact Nat.le_of_ble_eq_true rfl) dX1_keep_8 (fun r8 u7 => ?_)
  refine v_chk (fun h12 => ?_)
  refine v_callFH C [.ref r8] [] (ctJ2_add t G l hl0 a2 r8 u7) (fun _ _ => cwJ2_addF C q384 (by decide)) (eq_of_beq h12) (by decide) rfl rfl rfl (by exact Nat.le_of_ble_eq_true rfl) dX1_keep_11 (fun r11 u10 => ?_)
  refine v_pop C.1 rfl dX1_keep_16 ?_
  refine v_aload_n C.1 0 rfl rfl dX1_keep_17 ?_
  refine v_chk (fun h13 => ?_)
  refine v_hget C (v := va_rf (hR u10 p0 8)) 0 8 (eq_of_beq h13) (by decide) rfl in_X1 (by decide) (Or.inl q318) (fun _ h => h) (hF_r (ci := 0) (eq_of_beq h13) (by decide)) dX1_keep_18 ?_
  refine v_deref (fun a14 e15 => ?_)
  refine v_chk (fun h18 => ?_)
  refine v_callFH C [] [] (ctJ2_size t G l hl0 a14 u10) (fun _ _ => cwJ2_sizeF C q453 (by decide)) (eq_of_beq h18) (by decide) rfl rfl rfl (by exact Nat.le_of_ble_eq_true rfl) dX1_keep_21 (fun r17 u16 => ?_)
  refine v_bipush C.1 40 (by decide) dX1_keep_26 ?_
  refine v_icmp_le C.1 42 (by decide) dX1_keep_28 (fun _ => ?_) (fun _ => ?_)
  · exact v_hvret C dX1_keep_42
  · refine v_aload_n C.1 0 rfl rfl dX1_keep_31 ?_
    refine v_chk (fun h19 => ?_)
    refine v_hget C (v := va_rf (hR u16 p0 8)) 0 8 (eq_of_beq h19) (by decide) rfl in_X1 (by decide) (Or.inl q318) (fun _ h => h) (hF_r (ci := 0) (eq_of_beq h19) (by decide)) dX1_keep_32 ?_
    refine v_deref (fun a20 e21 => ?_)
    refine v_iconst C.1 0 (by decide) dX1_keep_35 ?_
    refine v_chk (fun h24 => ?_)
    refine v_callFH C [.int 0] [] (ctJ2_remove t G l hl0 a20 0 u16) (fun _ _ => cwJ2_removeF C q462 (by decide)) (eq_of_beq h24) (by decide) rfl rfl rfl (by exact Nat.le_of_ble_eq_true rfl) dX1_keep_36 (fun r23 u22 => ?_)
    refine v_pop C.1 rfl dX1_keep_41 ?_
    exact v_hvret C dX1_keep_42
theorem cwX1_keep {t : TT} {G : GH} {l : Launch} {p : Program} {s : State} {m : MethodId} {args : Array Value} {meth : Method} {c : Code} {y0 : MethodName} {cc0 : ByteArray} {nL0 : Nat} {ret0 : Option FieldType} (C : CxH t G l p s m args meth c y0 cc0 nL0 ret0) {index lv mc ms K1 K2 : Nat} (hq : Cond.methodLink y0.cls index yX1_keep ∈ lw_all) (hR : 8 + 1 ≤ lv) : CallW (rmH lv K1 K2) s args y0.cls RX1 index yX1_keep cX1_keep 1 none (ws_ yX1_keep cX1_keep 1 none) (rmH 8 mc ms) mc ms 0 :=
  cwV 0 C.1.2.2.2.2.1 (lw_V hq q375 qs1 q121 q376) rfl rfl rfl (by decide +kernel) ⟨hR, by show 8 + (1 + 11) + 100 * 8 ≤ 100 * lv; omega⟩
def hX3_ahead (p0 : Nat) (p1 : Int32) (u : HS) : Option (OH Int32) :=
  mchk (hC u p0 == 3) <|
  hret (iMin p1 ((60 : Int32) - (hI u p0 6))) u
theorem ctX3_ahead (t : TT) (G : GH) (l : Launch) (hl0 : l.stackTraces = false) (p0 : Nat) (p1 : Int32) (u : HS) : CtH mkI t G l yX3_ahead cX3_ahead 2 (some .int) 2 [.ref p0, .int p1] u (hX3_ahead p0 p1 u) := by
  refine ctH_of [(0, .ref p0), (1, .int p1)] hl0 rfl (Nat.le_of_ble_eq_true rfl) rfl (fun K1 K2 p e s m args below meth c C => ?_)
  unfold hX3_ahead
  refine v_iload_n C.1 1 rfl rfl dX3_ahead_0 ?_
  refine v_bipush C.1 60 (by decide) dX3_ahead_1 ?_
  refine v_aload_n C.1 0 rfl rfl dX3_ahead_3 ?_
  refine v_chk (fun h1 => ?_)
  refine v_hget C (v := .int (hI u p0 6)) 2 6 (eq_of_beq h1) (by decide) rfl in_X3 (by decide) (Or.inl q268) (fun _ h => h) (hF_i (ci := 2) (eq_of_beq h1) (by decide)) dX3_ahead_4 ?_
  refine v_isub C.1 dX3_ahead_7 ?_
  refine v_mmin C q489 q445 q133 q446 (by exact Nat.le_of_ble_eq_true rfl) (by exact Nat.le_of_ble_eq_true rfl) dX3_ahead_8 ?_
  exact v_hiret C dX3_ahead_11
theorem cwX3_ahead {t : TT} {G : GH} {l : Launch} {p : Program} {s : State} {m : MethodId} {args : Array Value} {meth : Method} {c : Code} {y0 : MethodName} {cc0 : ByteArray} {nL0 : Nat} {ret0 : Option FieldType} (C : CxH t G l p s m args meth c y0 cc0 nL0 ret0) {index lv mc ms K1 K2 : Nat} (hq : Cond.methodLink y0.cls index yX3_ahead ∈ lw_all) (hR : 2 + 1 ≤ lv) : CallW (rmH lv K1 K2) s args y0.cls RX3 index yX3_ahead cX3_ahead 2 (some .int) (ws_ yX3_ahead cX3_ahead 2 (some .int)) (rmH 2 mc ms) mc ms 1 :=
  cwV 1 C.1.2.2.2.2.1 (lw_V hq q486 q487 q126 q488) rfl rfl rfl (by decide +kernel) ⟨hR, by show 8 + (2 + 11) + 100 * 2 ≤ 100 * lv; omega⟩
def hX2_people (p0 : Nat) (u : HS) : Option (OH Int32) :=
  mchk (hC u p0 == 2) <|
  mderef (hR u p0 1) fun a2 =>
  mchk (hC u a2 == 12) <|
  hb (hJ2_size a2 u) fun r5 u4 =>
  hret r5 u4
theorem ctX2_people (t : TT) (G : GH) (l : Launch) (hl0 : l.stackTraces = false) (p0 : Nat) (u : HS) : CtH mkI t G l yX2_people cX2_people 1 (some .int) 3 [.ref p0] u (hX2_people p0 u) := by
  refine ctH_of [(0, .ref p0)] hl0 rfl (Nat.le_of_ble_eq_true rfl) rfl (fun K1 K2 p e s m args below meth c C => ?_)
  unfold hX2_people
  refine v_aload_n C.1 0 rfl rfl dX2_people_0 ?_
  refine v_chk (fun h1 => ?_)
  refine v_hget C (v := va_rf (hR u p0 1)) 1 1 (eq_of_beq h1) (by decide) rfl in_X2 (by decide) (Or.inl q200) (fun _ h => h) (hF_r (ci := 1) (eq_of_beq h1) (by decide)) dX2_people_1 ?_
  refine v_deref (fun a2 e3 => ?_)
  refine v_chk (fun h6 => ?_)
  refine v_callFH C [] [] (ctJ2_size t G l hl0 a2 u) (fun _ _ => cwJ2_sizeF C q503 (by decide)) (eq_of_beq h6) (by decide) rfl rfl rfl (by exact Nat.le_of_ble_eq_true rfl) dX2_people_4 (fun r5 u4 => ?_)
  exact v_hiret C dX2_people_9
theorem cwX2_people {t : TT} {G : GH} {l : Launch} {p : Program} {s : State} {m : MethodId} {args : Array Value} {meth : Method} {c : Code} {y0 : MethodName} {cc0 : ByteArray} {nL0 : Nat} {ret0 : Option FieldType} (C : CxH t G l p s m args meth c y0 cc0 nL0 ret0) {index lv mc ms K1 K2 : Nat} (hq : Cond.methodLink y0.cls index yX2_people ∈ lw_all) (hR : 3 + 1 ≤ lv) : CallW (rmH lv K1 K2) s args y0.cls RX2 index yX2_people cX2_people 1 (some .int) (ws_ yX2_people cX2_people 1 (some .int)) (rmH 3 mc ms) mc ms 0 :=
  cwV 0 C.1.2.2.2.2.1 (lw_V hq q499 q500 q122 q501) rfl rfl rfl (by decide +kernel) ⟨hR, by show 8 + (1 + 11) + 100 * 3 ≤ 100 * lv; omega⟩
def hX3_isListed (p0 : Nat) (p1 : Int32) (u : HS) : Option (OH Int32) :=
  mchk (hC u p0 == 3) <|
  mderef (hR u p0 1) fun a2 =>
  mchk (inA u p1 a2 21) <|
  if (hA u a2 p1.toNatClampNeg) = (-1) then
    hz id 0 u
  else
    hz id 1 u
theorem ctX3_isListed (t : TT) (G : GH) (l : Launch) (hl0 : l.stackTraces = false) (p0 : Nat) (p1 : Int32) (u : HS) : CtH mkI t G l yX3_isListed cX3_isListed 2 (some .boolean) 2 [.ref p0, .int p1] u (hX3_isListed p0 p1 u) := by
  refine ctH_of [(0, .ref p0), (1, .int p1)] hl0 rfl (Nat.le_of_ble_eq_true rfl) rfl (fun K1 K2 p e s m args below meth c C => ?_)
  unfold hX3_isListed
  refine v_aload_n C.1 0 rfl rfl dX3_isListed_0 ?_
  refine v_chk (fun h1 => ?_)
  refine v_hget C (v := va_rf (hR u p0 1)) 2 1 (eq_of_beq h1) (by decide) rfl in_X3 (by decide) (Or.inl q256) (fun _ h => h) (hF_r (ci := 2) (eq_of_beq h1) (by decide)) dX3_isListed_1 ?_
  refine v_deref (fun a2 e3 => ?_)
  refine v_iload_n C.1 1 rfl rfl dX3_isListed_4 ?_
  refine v_chk (fun h4 => ?_)
  refine v_haiald C h4 dX3_isListed_5 ?_
  refine v_iconst C.1 (-1) (by decide) dX3_isListed_6 ?_
  refine v_icmp_eq C.1 14 (by decide) dX3_isListed_7 (fun _ => ?_) (fun _ => ?_)
  · refine v_iconst C.1 0 (by decide) dX3_isListed_14 ?_
    exact v_hzret C dX3_isListed_15
  · refine v_iconst C.1 1 (by decide) dX3_isListed_10 ?_
    refine v_goto C.1 15 (by decide) dX3_isListed_11 ?_
    exact v_hzret C dX3_isListed_15
theorem cwX3_isListed {t : TT} {G : GH} {l : Launch} {p : Program} {s : State} {m : MethodId} {args : Array Value} {meth : Method} {c : Code} {y0 : MethodName} {cc0 : ByteArray} {nL0 : Nat} {ret0 : Option FieldType} (C : CxH t G l p s m args meth c y0 cc0 nL0 ret0) {index lv mc ms K1 K2 : Nat} (hq : Cond.methodLink y0.cls index yX3_isListed ∈ lw_all) (hR : 2 + 1 ≤ lv) : CallW (rmH lv K1 K2) s args y0.cls RX3 index yX3_isListed cX3_isListed 2 (some .boolean) (ws_ yX3_isListed cX3_isListed 2 (some .boolean)) (rmH 2 mc ms) mc ms 1 :=
  cwV 1 C.1.2.2.2.2.1 (lw_V hq q505 q506 q126 q507) rfl rfl rfl (by decide +kernel) ⟨hR, by show 8 + (2 + 11) + 100 * 2 ≤ 100 * lv; omega⟩
def hJ2_elementData (p0 : Nat) (p1 : Int32) (u : HS) : Option (OH Nat) :=
  mchk (hC u p0 == 12) <|
  mderef (hR u p0 1) fun a2 =>
  mchk (inA u p1 a2 25) <|
  mderef (hQ u a2 p1.toNatClampNeg) fun a5 =>
  hret a5 u
theorem ctJ2_elementData (t : TT) (G : GH) (l : Launch) (hl0 : l.stackTraces = false) (p0 : Nat) (p1 : Int32) (u : HS) : CtH mkA t G l yJ2_elementData cJ2_elementData 2 (some (.object "java/lang/Object")) 2 [.ref p0, .int p1] u (hJ2_elementData p0 p1 u) := by
  refine ctH_of [(0, .ref p0), (1, .int p1)] hl0 rfl (Nat.le_of_ble_eq_true rfl) rfl (fun K1 K2 p e s m args below meth c C => ?_)
  unfold hJ2_elementData
  refine v_aload_n C.1 0 rfl rfl dJ2_elementData_0 ?_
  refine v_chk (fun h1 => ?_)
  refine v_hget C (v := va_rf (hR u p0 1)) 11 1 (eq_of_beq h1) (by decide) rfl in_J2 (by decide) (Or.inl q183) (fun _ h => h) (hF_r (ci := 11) (eq_of_beq h1) (by decide)) dJ2_elementData_1 ?_
  refine v_deref (fun a2 e3 => ?_)
  refine v_iload_n C.1 1 rfl rfl dJ2_elementData_4 ?_
  refine v_chk (fun h4 => ?_)
  refine v_haald C 5 (by decide) h4 dJ2_elementData_5 ?_
  refine v_deref (fun a5 e6 => ?_)
  exact v_haret C (Or.inl ⟨_, rfl⟩) dJ2_elementData_6
theorem cwJ2_elementData {t : TT} {G : GH} {l : Launch} {p : Program} {s : State} {m : MethodId} {args : Array Value} {meth : Method} {c : Code} {y0 : MethodName} {cc0 : ByteArray} {nL0 : Nat} {ret0 : Option FieldType} (C : CxH t G l p s m args meth c y0 cc0 nL0 ret0) {index lv mc ms K1 K2 : Nat} (hq : Cond.methodLink y0.cls index yJ2_elementData ∈ lw_all) (hR : 2 + 1 ≤ lv) : CallW (rmH lv K1 K2) s args y0.cls RJ2 index yJ2_elementData cJ2_elementData 2 (some (.object "java/lang/Object")) (ws_ yJ2_elementData cJ2_elementData 2 (some (.object "java/lang/Object"))) (rmH 2 mc ms) mc ms 1 :=
  cwV 1 C.1.2.2.2.2.1 (lw_V hq q522 q523 q125 q524) rfl rfl rfl (by decide +kernel) ⟨hR, by show 8 + (2 + 11) + 100 * 2 ≤ 100 * lv; omega⟩
def hJ2_get (p0 : Nat) (p1 : Int32) (u : HS) : Option (OH Nat) :=
  mchk (hC u p0 == 12) <|
  hb (hJ17_checkIndex p1 (hI u p0 2) u) fun r3 u2 =>
  mchk (hC u2 p0 == 12) <|
  hb (hJ2_elementData p0 p1 u2) fun r5 u4 =>
  hret r5 u4
theorem ctJ2_get (t : TT) (G : GH) (l : Launch) (hl0 : l.stackTraces = false) (p0 : Nat) (p1 : Int32) (u : HS) : CtH mkA t G l yJ2_get cJ2_get 2 (some (.object "java/lang/Object")) 4 [.ref p0, .int p1] u (hJ2_get p0 p1 u) := by
  refine ctH_of [(0, .ref p0), (1, .int p1)] hl0 rfl (Nat.le_of_ble_eq_true rfl) rfl (fun K1 K2 p e s m args below meth c C => ?_)
  unfold hJ2_get
  refine v_iload_n C.1 1 rfl rfl dJ2_get_0 ?_
  refine v_aload_n C.1 0 rfl rfl dJ2_get_1 ?_
  refine v_chk (fun h1 => ?_)
  refine v_hget C (v := .int (hI u p0 2)) 11 2 (eq_of_beq h1) (by decide) rfl in_J2 (by decide) (Or.inl q184) (fun _ h => h) (hF_i (ci := 11) (eq_of_beq h1) (by decide)) dJ2_get_2 ?_
  refine v_callSH C [.int p1, .int (hI u p0 2)] [] (ctJ17_checkIndex t G l hl0 p1 (hI u p0 2) u) (fun _ _ => cwJ17_checkIndex C q470 (by decide)) rfl rfl (by exact Nat.le_of_ble_eq_true rfl) dJ2_get_5 (fun r3 u2 => ?_)
  refine v_pop C.1 rfl dJ2_get_8 ?_
  refine v_aload_n C.1 0 rfl rfl dJ2_get_9 ?_
  refine v_iload_n C.1 1 rfl rfl dJ2_get_10 ?_
  refine v_chk (fun h6 => ?_)
  refine v_callVH C [.int p1] [] (ctJ2_elementData t G l hl0 p0 p1 u2) (fun _ _ => cwJ2_elementData C q521 (by decide)) (recO C (ci := 11) (eq_of_beq h6) (by decide) rfl) rfl rfl (by exact Nat.le_of_ble_eq_true rfl) dJ2_get_11 (fun r5 u4 => ?_)
  exact v_haret C (Or.inl ⟨_, rfl⟩) dJ2_get_14
theorem cwJ2_getF {t : TT} {G : GH} {l : Launch} {p : Program} {s : State} {m : MethodId} {args : Array Value} {meth : Method} {c : Code} {y0 : MethodName} {cc0 : ByteArray} {nL0 : Nat} {ret0 : Option FieldType} (C : CxH t G l p s m args meth c y0 cc0 nL0 ret0) {index lv mc ms K1 K2 : Nat} (hq : Cond.methodLink y0.cls index (⟨"java/util/List", "get", "(I)Ljava/lang/Object;"⟩ : MethodName) ∈ lw_all) (hR : 4 + 1 ≤ lv) : va_CI (rmH lv K1 K2) s args y0.cls RJ2 index (⟨"java/util/List", "get", "(I)Ljava/lang/Object;"⟩ : MethodName) yJ2_get cJ2_get 2 (some (.object "java/lang/Object")) (ws_ yJ2_get cJ2_get 2 (some (.object "java/lang/Object"))) (rmH 4 mc ms) mc ms 1 :=
  va_cwF 1 C.1.2.2.2.2.1 (lw_F hq q516 q518 q125 q520) rfl rfl rfl (C.1.2.2.2.2.2.2.2.2.2.2.1 _ (List.mem_of_getElem? (i := 2) rfl)) (by decide +kernel) ⟨hR, by show 8 + (2 + 11) + 100 * 4 ≤ 100 * lv; omega⟩
def hJ16_intValue (p0 : Nat) (u : HS) : Option (OH Int32) :=
  mchk (hC u p0 == 31) <|
  hret (hI u p0 0) u
theorem ctJ16_intValue (t : TT) (G : GH) (l : Launch) (hl0 : l.stackTraces = false) (p0 : Nat) (u : HS) : CtH mkI t G l yJ16_intValue cJ16_intValue 1 (some .int) 2 [.ref p0] u (hJ16_intValue p0 u) := by
  refine ctH_of [(0, .ref p0)] hl0 rfl (Nat.le_of_ble_eq_true rfl) rfl (fun K1 K2 p e s m args below meth c C => ?_)
  unfold hJ16_intValue
  refine v_aload_n C.1 0 rfl rfl dJ16_intValue_0 ?_
  refine v_chk (fun h1 => ?_)
  refine v_hgetB C (eq_of_beq h1) q627 dJ16_intValue_1 ?_
  exact v_hiret C dJ16_intValue_4
theorem cwJ16_intValue {t : TT} {G : GH} {l : Launch} {p : Program} {s : State} {m : MethodId} {args : Array Value} {meth : Method} {c : Code} {y0 : MethodName} {cc0 : ByteArray} {nL0 : Nat} {ret0 : Option FieldType} (C : CxH t G l p s m args meth c y0 cc0 nL0 ret0) {index lv mc ms K1 K2 : Nat} (hq : Cond.methodLink y0.cls index yJ16_intValue ∈ lw_all) (hR : 2 + 1 ≤ lv) : CallW (rmH lv K1 K2) s args y0.cls RJ16 index yJ16_intValue cJ16_intValue 1 (some .int) (ws_ yJ16_intValue cJ16_intValue 1 (some .int)) (rmH 2 mc ms) mc ms 0 :=
  cwV 0 C.1.2.2.2.2.1 (lw_V hq q527 q528 q144 q529) rfl rfl rfl (by decide +kernel) ⟨hR, by show 8 + (1 + 11) + 100 * 2 ≤ 100 * lv; omega⟩
def hX3_list_4 (p0 : Nat) (k : Int32 → Int32 → HS → Option (OH Int32)) (x1 : Int32) (x2 : Int32) (u : HS) : Option (OH Int32) :=
  mchk (hC u p0 == 3) <|
  mderef (hR u p0 11) fun a2 =>
  mchk (hC u a2 == 1) <|
  mderef (hR u a2 2) fun a5 =>
  mchk (hC u a5 == 2) <|
  hb (hX2_people a5 u) fun r8 u7 =>
  if r8 ≤ x2 then
    hret x1 u7
  else
    mchk (hC u7 p0 == 3) <|
    hb (hX3_isListed p0 x2 u7) fun r11 u10 =>
    if r11 = 0 then
      k x1 (x2 + 1) u10
    else
      mlet (x1 ||| ((1 : Int32) <<< (x2 &&& 31))) fun v13 =>
      k v13 (x2 + 1) u10
theorem whX3_list_4 {K1 K2 : Nat} {p : Program} {e : Env} {s : State} {m : MethodId} {args : Array Value} {below : List Frame} {meth : Method} {c : Code} (hl0 : l.stackTraces = false) (C : CxH t G l p s m args meth c yX3_list cX3_list 3 (some .int)) (p0 : Nat) (n : Nat) (x1 : Int32) (x2 : Int32) (u : HS) : VH mkI t G p l e 4 K1 K2 s m args below meth c 3 4 [(0, .ref p0), (1, .int x1), (2, .int x2)] [] u (ml2 (hX3_list_4 p0) n x1 x2 u) := by
  refine vl2 (L := fun x1 x2 => [(0, .ref p0), (1, .int x1), (2, .int x2)]) (fun k hk x1 x2 u => ?_) n x1 x2 u
  unfold hX3_list_4
  refine v_iload_n C.1 2 rfl rfl dX3_list_4 ?_
  refine v_aload_n C.1 0 rfl rfl dX3_list_5 ?_
  refine v_chk (fun h1 => ?_)
  refine v_hget C (v := va_rf (hR u p0 11)) 2 11 (eq_of_beq h1) (by decide) rfl in_X3 (by decide) (Or.inl q278) (fun _ h => h) (hF_r (ci := 2) (eq_of_beq h1) (by decide)) dX3_list_6 ?_
  refine v_deref (fun a2 e3 => ?_)
  refine v_chk (fun h4 => ?_)
  refine v_hget C (v := va_rf (hR u a2 2)) 0 2 (eq_of_beq h4) (by decide) rfl in_X1 (by decide) (Or.inr ⟨_, q310⟩) (fun _ h => h) (hF_r (ci := 0) (eq_of_beq h4) (by decide)) dX3_list_9 ?_
  refine v_deref (fun a5 e6 => ?_)
  refine v_chk (fun h9 => ?_)
  refine v_callVH C [] [.int x2] (ctX2_people t G l hl0 a5 u) (fun _ _ => cwX2_people C q498 (by decide)) (recO C (ci := 1) (eq_of_beq h9) (by decide) rfl) rfl rfl (by exact Nat.le_of_ble_eq_true rfl) dX3_list_12 (fun r8 u7 => ?_)
  refine v_icmp_ge C.1 38 (by decide) dX3_list_15 (fun _ => ?_) (fun _ => ?_)
  · refine v_iload_n C.1 1 rfl rfl dX3_list_38 ?_
    exact v_hiret C dX3_list_39
  · refine v_aload_n C.1 0 rfl rfl dX3_list_18 ?_
    refine v_iload_n C.1 2 rfl rfl dX3_list_19 ?_
    refine v_chk (fun h12 => ?_)
    refine v_callVH C [.int x2] [] (ctX3_isListed t G l hl0 p0 x2 u7) (fun _ _ => cwX3_isListed C q504 (by decide)) (recO C (ci := 2) (eq_of_beq h12) (by decide) rfl) rfl rfl (by exact Nat.le_of_ble_eq_true rfl) dX3_list_20 (fun r11 u10 => ?_)
    refine v_if_eq C.1 32 (by decide) dX3_list_23 (fun _ => ?_) (fun _ => ?_)
    · refine v_iinc C.1 1 [(2, .int (x2 + 1)), (0, .ref p0), (1, .int x1)] 2 rfl (by decide) (by decide) rfl dX3_list_32 ?_
      refine v_goto C.1 4 (by decide) dX3_list_35 ?_
      refine v_sub [1, 2, 0] rfl ?_
      exact hk x1 (x2 + 1) u10
    · refine v_iload_n C.1 1 rfl rfl dX3_list_26 ?_
      refine v_iconst C.1 1 (by decide) dX3_list_27 ?_
      refine v_iload_n C.1 2 rfl rfl dX3_list_28 ?_
      refine v_ishl C.1 dX3_list_29 ?_
      refine v_ior C.1 dX3_list_30 ?_
      refine v_topi (fun v13 => ?_)
      refine v_istore_n C.1 [(1, .int v13), (0, .ref p0), (2, .int x2)] rfl (by decide) rfl dX3_list_31 ?_
      refine v_iinc C.1 1 [(2, .int (x2 + 1)), (1, .int v13), (0, .ref p0)] 2 rfl (by decide) (by decide) rfl dX3_list_32 ?_
      refine v_goto C.1 4 (by decide) dX3_list_35 ?_
      refine v_sub [2, 1, 0] rfl ?_
      exact hk v13 (x2 + 1) u10
def hX3_list (p0 : Nat) (u : HS) : Option (OH Int32) :=
  ml2 (hX3_list_4 p0) FUEL 0 0 u
theorem ctX3_list (t : TT) (G : GH) (l : Launch) (hl0 : l.stackTraces = false) (p0 : Nat) (u : HS) : CtH mkI t G l yX3_list cX3_list 3 (some .int) 4 [.ref p0] u (hX3_list p0 u) := by
  refine ctH_of [(0, .ref p0)] hl0 rfl (Nat.le_of_ble_eq_true rfl) rfl (fun K1 K2 p e s m args below meth c C => ?_)
  unfold hX3_list
  refine v_iconst C.1 0 (by decide) dX3_list_0 ?_
  refine v_istore_n C.1 [(1, .int 0), (0, .ref p0)] rfl (by decide) rfl dX3_list_1 ?_
  refine v_iconst C.1 0 (by decide) dX3_list_2 ?_
  refine v_istore_n C.1 [(2, .int 0), (1, .int 0), (0, .ref p0)] rfl (by decide) rfl dX3_list_3 ?_
  refine v_sub [2, 1, 0] rfl ?_
  exact whX3_list_4 hl0 C p0 FUEL 0 0 u
theorem cwX3_list {t : TT} {G : GH} {l : Launch} {p : Program} {s : State} {m : MethodId} {args : Array Value} {meth : Method} {c : Code} {y0 : MethodName} {cc0 : ByteArray} {nL0 : Nat} {ret0 : Option FieldType} (C : CxH t G l p s m args meth c y0 cc0 nL0 ret0) {index lv mc ms K1 K2 : Nat} (hq : Cond.methodLink y0.cls index yX3_list ∈ lw_all) (hR : 4 + 1 ≤ lv) : CallW (rmH lv K1 K2) s args y0.cls RX3 index yX3_list cX3_list 3 (some .int) (ws_ yX3_list cX3_list 3 (some .int)) (rmH 4 mc ms) mc ms 0 :=
  cwV 0 C.1.2.2.2.2.1 (lw_V hq q531 q532 q126 q533) rfl rfl rfl (by decide +kernel) ⟨hR, by show 8 + (3 + 11) + 100 * 4 ≤ 100 * lv; omega⟩
def hJ16_bitCount (p0 : Int32) (u : HS) : Option (OH Int32) :=
  mlet (p0 - (((Int32.toUInt32 p0 >>> (Int32.toUInt32 1 &&& Int32.toUInt32 31)).toInt32) &&& 1431655765)) fun v1 =>
  mlet ((v1 &&& 858993459) + (((Int32.toUInt32 v1 >>> (Int32.toUInt32 2 &&& Int32.toUInt32 31)).toInt32) &&& 858993459)) fun v2 =>
  mlet ((v2 + ((Int32.toUInt32 v2 >>> (Int32.toUInt32 4 &&& Int32.toUInt32 31)).toInt32)) &&& 252645135) fun v3 =>
  mlet (v3 + ((Int32.toUInt32 v3 >>> (Int32.toUInt32 8 &&& Int32.toUInt32 31)).toInt32)) fun v4 =>
  mlet (v4 + ((Int32.toUInt32 v4 >>> (Int32.toUInt32 16 &&& Int32.toUInt32 31)).toInt32)) fun v5 =>
  hret (v5 &&& 63) u
theorem ctJ16_bitCount (t : TT) (G : GH) (l : Launch) (hl0 : l.stackTraces = false) (p0 : Int32) (u : HS) : CtH mkI t G l yJ16_bitCount cJ16_bitCount 1 (some .int) 2 [.int p0] u (hJ16_bitCount p0 u) := by
  refine ctH_of [(0, .int p0)] hl0 rfl (Nat.le_of_ble_eq_true rfl) rfl (fun K1 K2 p e s m args below meth c C => ?_)
  unfold hJ16_bitCount
  refine v_iload_n C.1 0 rfl rfl dJ16_bitCount_0 ?_
  refine v_iload_n C.1 0 rfl rfl dJ16_bitCount_1 ?_
  refine v_iconst C.1 1 (by decide) dJ16_bitCount_2 ?_
  refine v_iushr C.1 dJ16_bitCount_3 ?_
  refine v_ldcw C.1 q537 dJ16_bitCount_4 ?_
  refine v_iand C.1 dJ16_bitCount_7 ?_
  refine v_isub C.1 dJ16_bitCount_8 ?_
  refine v_topi (fun v1 => ?_)
  refine v_istore_n C.1 [(0, .int v1)] rfl (by decide) rfl dJ16_bitCount_9 ?_
  refine v_iload_n C.1 0 rfl rfl dJ16_bitCount_10 ?_
  refine v_ldcw C.1 q538 dJ16_bitCount_11 ?_
  refine v_iand C.1 dJ16_bitCount_14 ?_
  refine v_iload_n C.1 0 rfl rfl dJ16_bitCount_15 ?_
  refine v_iconst C.1 2 (by decide) dJ16_bitCount_16 ?_
  refine v_iushr C.1 dJ16_bitCount_17 ?_
  refine v_ldcw C.1 q538 dJ16_bitCount_18 ?_
  refine v_iand C.1 dJ16_bitCount_21 ?_
  refine v_iadd C.1 dJ16_bitCount_22 ?_
  refine v_topi (fun v2 => ?_)
  refine v_istore_n C.1 [(0, .int v2)] rfl (by decide) rfl dJ16_bitCount_23 ?_
  refine v_iload_n C.1 0 rfl rfl dJ16_bitCount_24 ?_
  refine v_iload_n C.1 0 rfl rfl dJ16_bitCount_25 ?_
  refine v_iconst C.1 4 (by decide) dJ16_bitCount_26 ?_
  refine v_iushr C.1 dJ16_bitCount_27 ?_
  refine v_iadd C.1 dJ16_bitCount_28 ?_
  refine v_ldcw C.1 q539 dJ16_bitCount_29 ?_
  refine v_iand C.1 dJ16_bitCount_32 ?_
  refine v_topi (fun v3 => ?_)
  refine v_istore_n C.1 [(0, .int v3)] rfl (by decide) rfl dJ16_bitCount_33 ?_
  refine v_iload_n C.1 0 rfl rfl dJ16_bitCount_34 ?_
  refine v_iload_n C.1 0 rfl rfl dJ16_bitCount_35 ?_
  refine v_bipush C.1 8 (by decide) dJ16_bitCount_36 ?_
  refine v_iushr C.1 dJ16_bitCount_38 ?_
  refine v_iadd C.1 dJ16_bitCount_39 ?_
  refine v_topi (fun v4 => ?_)
  refine v_istore_n C.1 [(0, .int v4)] rfl (by decide) rfl dJ16_bitCount_40 ?_
  refine v_iload_n C.1 0 rfl rfl dJ16_bitCount_41 ?_
  refine v_iload_n C.1 0 rfl rfl dJ16_bitCount_42 ?_
  refine v_bipush C.1 16 (by decide) dJ16_bitCount_43 ?_
  refine v_iushr C.1 dJ16_bitCount_45 ?_
  refine v_iadd C.1 dJ16_bitCount_46 ?_
  refine v_topi (fun v5 => ?_)
  refine v_istore_n C.1 [(0, .int v5)] rfl (by decide) rfl dJ16_bitCount_47 ?_
  refine v_iload_n C.1 0 rfl rfl dJ16_bitCount_48 ?_
  refine v_bipush C.1 63 (by decide) dJ16_bitCount_49 ?_
  refine v_iand C.1 dJ16_bitCount_51 ?_
  exact v_hiret C dJ16_bitCount_52
theorem cwJ16_bitCount {t : TT} {G : GH} {l : Launch} {p : Program} {s : State} {m : MethodId} {args : Array Value} {meth : Method} {c : Code} {y0 : MethodName} {cc0 : ByteArray} {nL0 : Nat} {ret0 : Option FieldType} (C : CxH t G l p s m args meth c y0 cc0 nL0 ret0) {index lv mc ms K1 K2 : Nat} (hq : Cond.methodLink y0.cls index yJ16_bitCount ∈ lw_all) (hR : 2 + 1 ≤ lv) : CallB (rmH lv K1 K2) s args y0.cls index yJ16_bitCount cJ16_bitCount 1 (some .int) (ws_ yJ16_bitCount cJ16_bitCount 1 (some .int)) (rmH 2 mc ms) mc ms 1 ∧ (Cond.static yJ16_bitCount).before args s = true :=
  ⟨callB_of 1 C.1.2.2.2.2.1 (lw_meth q536) rfl rfl rfl (C.1.2.2.2.2.1 _ q144) (C.1.2.2.2.2.1 _ hq) (by decide +kernel) ⟨hR, by show 8 + (1 + 11) + 100 * 2 ≤ 100 * lv; omega⟩, C.1.2.2.2.2.1 _ q535⟩
theorem cwX8_ofF {t : TT} {G : GH} {l : Launch} {p : Program} {s : State} {m : MethodId} {args : Array Value} {meth : Method} {c : Code} {y0 : MethodName} {cc0 : ByteArray} {nL0 : Nat} {ret0 : Option FieldType} (C : CxH t G l p s m args meth c y0 cc0 nL0 ret0) {index lv mc ms K1 K2 lx : Nat} (hq : Cond.methodLink y0.cls index (⟨"WhiteBoard$Form", "of", "([I)I"⟩ : MethodName) ∈ lw_all) (hR : lx + 1 ≤ lv) : va_CI (rmH lv K1 K2) s args y0.cls RX8 index (⟨"WhiteBoard$Form", "of", "([I)I"⟩ : MethodName) yX8_of cX8_of 4 (some .int) (ws_ yX8_of cX8_of 4 (some .int)) (rmH lx mc ms) mc ms 1 :=
  va_cwF 1 C.1.2.2.2.2.1 (lw_F hq q545 q547 q148 q549) rfl rfl rfl (C.1.2.2.2.2.2.2.2.2.2.2.1 _ (List.mem_of_getElem? (i := 9) rfl)) (by decide +kernel) ⟨hR, by show 8 + (4 + 11) + 100 * lx ≤ 100 * lv; omega⟩
theorem cwX9_ofF {t : TT} {G : GH} {l : Launch} {p : Program} {s : State} {m : MethodId} {args : Array Value} {meth : Method} {c : Code} {y0 : MethodName} {cc0 : ByteArray} {nL0 : Nat} {ret0 : Option FieldType} (C : CxH t G l p s m args meth c y0 cc0 nL0 ret0) {index lv mc ms K1 K2 : Nat} (hq : Cond.methodLink y0.cls index (⟨"WhiteBoard$Form", "of", "([I)I"⟩ : MethodName) ∈ lw_all) (hR : 2 + 1 ≤ lv) : va_CI (rmH lv K1 K2) s args y0.cls RX9 index (⟨"WhiteBoard$Form", "of", "([I)I"⟩ : MethodName) yX9_of cX9_of 2 (some .int) (ws_ yX9_of cX9_of 2 (some .int)) (rmH 2 mc ms) mc ms 1 :=
  va_cwF 1 C.1.2.2.2.2.1 (lw_F hq q564 q566 q149 q568) rfl rfl rfl (C.1.2.2.2.2.2.2.2.2.2.2.1 _ (List.mem_of_getElem? (i := 6) rfl)) (by decide +kernel) ⟨hR, by show 8 + (2 + 11) + 100 * 2 ≤ 100 * lv; omega⟩
theorem cwX10_ofF {t : TT} {G : GH} {l : Launch} {p : Program} {s : State} {m : MethodId} {args : Array Value} {meth : Method} {c : Code} {y0 : MethodName} {cc0 : ByteArray} {nL0 : Nat} {ret0 : Option FieldType} (C : CxH t G l p s m args meth c y0 cc0 nL0 ret0) {index lv mc ms K1 K2 : Nat} (hq : Cond.methodLink y0.cls index (⟨"WhiteBoard$Form", "of", "([I)I"⟩ : MethodName) ∈ lw_all) (hR : 2 + 1 ≤ lv) : va_CI (rmH lv K1 K2) s args y0.cls RX10 index (⟨"WhiteBoard$Form", "of", "([I)I"⟩ : MethodName) yX10_of cX10_of 2 (some .int) (ws_ yX10_of cX10_of 2 (some .int)) (rmH 2 mc ms) mc ms 1 :=
  va_cwF 1 C.1.2.2.2.2.1 (lw_F hq q570 q572 q150 q574) rfl rfl rfl (C.1.2.2.2.2.2.2.2.2.2.2.1 _ (List.mem_of_getElem? (i := 7) rfl)) (by decide +kernel) ⟨hR, by show 8 + (2 + 11) + 100 * 2 ≤ 100 * lv; omega⟩
theorem cwX11_ofF {t : TT} {G : GH} {l : Launch} {p : Program} {s : State} {m : MethodId} {args : Array Value} {meth : Method} {c : Code} {y0 : MethodName} {cc0 : ByteArray} {nL0 : Nat} {ret0 : Option FieldType} (C : CxH t G l p s m args meth c y0 cc0 nL0 ret0) {index lv mc ms K1 K2 lx : Nat} (hq : Cond.methodLink y0.cls index (⟨"WhiteBoard$Form", "of", "([I)I"⟩ : MethodName) ∈ lw_all) (hR : lx + 1 ≤ lv) : va_CI (rmH lv K1 K2) s args y0.cls RX11 index (⟨"WhiteBoard$Form", "of", "([I)I"⟩ : MethodName) yX11_of cX11_of 2 (some .int) (ws_ yX11_of cX11_of 2 (some .int)) (rmH lx mc ms) mc ms 1 :=
  va_cwF 1 C.1.2.2.2.2.1 (lw_F hq q556 q558 q153 q560) rfl rfl rfl (C.1.2.2.2.2.2.2.2.2.2.2.1 _ (List.mem_of_getElem? (i := 8) rfl)) (by decide +kernel) ⟨hR, by show 8 + (2 + 11) + 100 * lx ≤ 100 * lv; omega⟩
def FormC (fo : Nat → Nat → HS → Option (OH Int32)) (t : TT) (G : GH) (l : Launch) (ld : Nat) : Prop := 30 ≤ ld ∧ (∀ (b x : Nat) (u : HS), hC u b = 8 → CtH mkI t G l yX8_of cX8_of 4 (some .int) ld [.ref b, .ref x] u (fo b x u)) ∧ (∀ (b x : Nat) (u : HS), hC u b = 9 → CtH mkI t G l yX9_of cX9_of 2 (some .int) 2 [.ref b, .ref x] u (fo b x u)) ∧ (∀ (b x : Nat) (u : HS), hC u b = 10 → CtH mkI t G l yX10_of cX10_of 2 (some .int) 2 [.ref b, .ref x] u (fo b x u)) ∧ (∀ (b x : Nat) (u : HS), hC u b = 11 → CtH mkI t G l yX11_of cX11_of 2 (some .int) ld [.ref b, .ref x] u (fo b x u))
theorem v_callForm {b x : Nat} {fo : Nat → Nat → HS → Option (OH Int32)} {ld : Nat} {O : Type} {K1 K2 lv : Nat} {Qw : O → HS → State → Prop} {p : Program} {e : Env} {s : State} {m : MethodId} {args : Array Value} {below : List Frame} {meth : Method} {c : Code} {nL pc index count : Nat} {L : List (Nat × Value)} {st : List Value} {u : HS} {y : MethodName} {cc : ByteArray} {ret : Option FieldType} {k1 : Int32 → HS → Option (OH O)} (C0 : CxH t G l p s m args meth c y cc nL ret) (rest : List Value) (hrec : FormC fo t G l ld) (hq : Cond.methodLink y.cls index ⟨"WhiteBoard$Form", "of", "([I)I"⟩ ∈ lw_all) (hf : isForm (hC u b) = true) (hlv : ld + 1 ≤ lv) (hst : st = .ref x :: .ref b :: rest) (hsm : (rest.map fun v => v.category).sum ≤ 8) (d : decode cc pc = .ok (.invokeinterface index count, 5))
    (kk : ∀ r u1, BH t G K1 K2 Qw p l e (rmH lv K1 K2) s m args below meth c nL (pc + 5) L (.int r :: rest) u1 (k1 r u1)) : BH t G K1 K2 Qw p l e (rmH lv K1 K2) s m args below meth c nL pc L st u (hb (fo b x u) k1) := by
  have h30 := hrec.1
  rcases isForm_k hf with h | h | h | h
  · exact v_callFH C0 [.ref x] rest (hrec.2.1 b x u h) (fun _ _ => cwX8_ofF C0 hq hlv) h (by decide) rfl rfl (by rw [hst]; rfl) hsm d kk
  · exact v_callFH C0 [.ref x] rest (hrec.2.2.1 b x u h) (fun _ _ => cwX9_ofF C0 hq (by omega)) h (by decide) rfl rfl (by rw [hst]; rfl) hsm d kk
  · exact v_callFH C0 [.ref x] rest (hrec.2.2.2.1 b x u h) (fun _ _ => cwX10_ofF C0 hq (by omega)) h (by decide) rfl rfl (by rw [hst]; rfl) hsm d kk
  · exact v_callFH C0 [.ref x] rest (hrec.2.2.2.2 b x u h) (fun _ _ => cwX11_ofF C0 hq hlv) h (by decide) rfl rfl (by rw [hst]; rfl) hsm d kk
def hX9_of (p0 : Nat) (p1 : Nat) (u : HS) : Option (OH Int32) :=
  mchk (hC u p0 == 9) <|
  hret (hI u p0 0) u
theorem ctX9_of (t : TT) (G : GH) (l : Launch) (hl0 : l.stackTraces = false) (p0 : Nat) (p1 : Nat) (u : HS) : CtH mkI t G l yX9_of cX9_of 2 (some .int) 2 [.ref p0, .ref p1] u (hX9_of p0 p1 u) := by
  refine ctH_of [(0, .ref p0), (1, .ref p1)] hl0 rfl (Nat.le_of_ble_eq_true rfl) rfl (fun K1 K2 p e s m args below meth c C => ?_)
  unfold hX9_of
  refine v_aload_n C.1 0 rfl rfl dX9_of_0 ?_
  refine v_chk (fun h1 => ?_)
  refine v_hget C (v := .int (hI u p0 0)) 8 0 (eq_of_beq h1) (by decide) rfl in_X9 (by decide) (Or.inl q1158) (fun _ h => h) (hF_i (ci := 8) (eq_of_beq h1) (by decide)) dX9_of_1 ?_
  exact v_hiret C dX9_of_4
def hX10_of (p0 : Nat) (p1 : Nat) (u : HS) : Option (OH Int32) :=
  mchk (hC u p0 == 10) <|
  mchk (inA u (hI u p0 0) p1 21) <|
  hret (hA u p1 (hI u p0 0).toNatClampNeg) u
theorem ctX10_of (t : TT) (G : GH) (l : Launch) (hl0 : l.stackTraces = false) (p0 : Nat) (p1 : Nat) (u : HS) : CtH mkI t G l yX10_of cX10_of 2 (some .int) 2 [.ref p0, .ref p1] u (hX10_of p0 p1 u) := by
  refine ctH_of [(0, .ref p0), (1, .ref p1)] hl0 rfl (Nat.le_of_ble_eq_true rfl) rfl (fun K1 K2 p e s m args below meth c C => ?_)
  unfold hX10_of
  refine v_aload_n C.1 1 rfl rfl dX10_of_0 ?_
  refine v_aload_n C.1 0 rfl rfl dX10_of_1 ?_
  refine v_chk (fun h1 => ?_)
  refine v_hget C (v := .int (hI u p0 0)) 9 0 (eq_of_beq h1) (by decide) rfl in_X10 (by decide) (Or.inl q1172) (fun _ h => h) (hF_i (ci := 9) (eq_of_beq h1) (by decide)) dX10_of_2 ?_
  refine v_chk (fun h2 => ?_)
  refine v_haiald C h2 dX10_of_5 ?_
  exact v_hiret C dX10_of_6
def hX11_of (fo : Nat → Nat → HS → Option (OH Int32)) (p0 : Nat) (p1 : Nat) (u : HS) : Option (OH Int32) :=
  mchk (hC u p0 == 11) <|
  mderef (hR u p0 0) fun a2 =>
  mchk (isForm (hC u a2)) <|
  hb (fo a2 p1 u) fun r5 u4 =>
  if r5 = 0 then
    hret 1 u4
  else
    hret 0 u4
theorem ctX11_of (t : TT) (G : GH) (l : Launch) (hl0 : l.stackTraces = false) {ld : Nat} (fo : Nat → Nat → HS → Option (OH Int32)) (hrec : FormC fo t G l ld) (p0 : Nat) (p1 : Nat) (u : HS) : CtH mkI t G l yX11_of cX11_of 2 (some .int) (ld + 1) [.ref p0, .ref p1] u (hX11_of fo p0 p1 u) := by
  refine ctH_of [(0, .ref p0), (1, .ref p1)] hl0 rfl (Nat.le_of_ble_eq_true rfl) rfl (fun K1 K2 p e s m args below meth c C => ?_)
  unfold hX11_of
  refine v_aload_n C.1 0 rfl rfl dX11_of_0 ?_
  refine v_chk (fun h1 => ?_)
  refine v_hget C (v := va_rf (hR u p0 0)) 10 0 (eq_of_beq h1) (by decide) rfl in_X11 (by decide) (Or.inl q1297) (fun _ h => h) (hF_r (ci := 10) (eq_of_beq h1) (by decide)) dX11_of_1 ?_
  refine v_deref (fun a2 e3 => ?_)
  refine v_aload_n C.1 1 rfl rfl dX11_of_4 ?_
  refine v_chk (fun h6 => ?_)
  refine v_callForm C [] hrec q562 h6 (by omega) rfl (by exact Nat.le_of_ble_eq_true rfl) dX11_of_5 (fun r5 u4 => ?_)
  refine v_if_ne C.1 17 (by decide) dX11_of_10 (fun _ => ?_) (fun _ => ?_)
  · refine v_iconst C.1 1 (by decide) dX11_of_13 ?_
    refine v_goto C.1 18 (by decide) dX11_of_14 ?_
    exact v_hiret C dX11_of_18
  · refine v_iconst C.1 0 (by decide) dX11_of_17 ?_
    exact v_hiret C dX11_of_18
def hJ8_checkIndex (p0 : Int32) (p1 : Int32) (u : HS) : Option (OH Unit) :=
  mlet (hO u 2) fun o1 =>
  hb (hJ11_checkIndex p0 p1 o1 u) fun r5 u4 =>
  hret () u4
theorem ctJ8_checkIndex (t : TT) (G : GH) (l : Launch) (hl0 : l.stackTraces = false) (p0 : Int32) (p1 : Int32) (u : HS) : CtH mkU t G l yJ8_checkIndex cJ8_checkIndex 2 none 3 [.int p0, .int p1] u (hJ8_checkIndex p0 p1 u) := by
  refine ctH_of [(0, .int p0), (1, .int p1)] hl0 rfl (Nat.le_of_ble_eq_true rfl) rfl (fun K1 K2 p e s m args below meth c C => ?_)
  unfold hJ8_checkIndex
  refine v_iload_n C.1 0 rfl rfl dJ8_checkIndex_0 ?_
  refine v_iload_n C.1 1 rfl rfl dJ8_checkIndex_1 ?_
  refine v_K (fun _ ek3 => ?_)
  refine v_letE (fun o1 e2 => ?_)
  refine v_gets C (v := va_rf o1) (by rw [e2, ek3]; exact C.2.1.fmt) q589 (fun _ h => h) dJ8_checkIndex_2 ?_
  refine v_callSH C [.int p0, .int p1, va_rf o1] [] (ctJ11_checkIndex t G l hl0 p0 p1 o1 u) (fun _ _ => cwJ11_checkIndex C q591 (by decide)) rfl rfl (by exact Nat.le_of_ble_eq_true rfl) dJ8_checkIndex_5 (fun r5 u4 => ?_)
  refine v_pop C.1 rfl dJ8_checkIndex_8 ?_
  exact v_hvret C dJ8_checkIndex_9
theorem cwJ8_checkIndex {t : TT} {G : GH} {l : Launch} {p : Program} {s : State} {m : MethodId} {args : Array Value} {meth : Method} {c : Code} {y0 : MethodName} {cc0 : ByteArray} {nL0 : Nat} {ret0 : Option FieldType} (C : CxH t G l p s m args meth c y0 cc0 nL0 ret0) {index lv mc ms K1 K2 : Nat} (hq : Cond.methodLink y0.cls index yJ8_checkIndex ∈ lw_all) (hR : 3 + 1 ≤ lv) : CallB (rmH lv K1 K2) s args y0.cls index yJ8_checkIndex cJ8_checkIndex 2 none (ws_ yJ8_checkIndex cJ8_checkIndex 2 none) (rmH 3 mc ms) mc ms 2 ∧ (Cond.static yJ8_checkIndex).before args s = true :=
  ⟨callB_of 2 C.1.2.2.2.2.1 (lw_meth q588) rfl rfl rfl (C.1.2.2.2.2.1 _ q134) (C.1.2.2.2.2.1 _ hq) (by decide +kernel) ⟨hR, by show 8 + (2 + 11) + 100 * 3 ≤ 100 * lv; omega⟩, C.1.2.2.2.2.1 _ q587⟩
def hJ18_charAt (p0 : Nat) (p1 : Int32) (u : HS) : Option (OH Int32) :=
  mchk (hC u p0 == 13) <|
  mlet (hI u p0 1) fun v2 =>
  mchk (hC u p0 == 13) <|
  mderef (hR u p0 0) fun a4 =>
  mchk (hC u p0 == 13) <|
  mchk (hC u a4 == 23) <|
  mlet (iMin (hI u p0 3) ((Int32.ofNat (hN u a4)) >>> (v2 &&& 31))) fun v8 =>
  hb (hJ8_checkIndex p1 v8 u) fun _ u9 =>
  if v2 = 0 then
    mchk (inA u9 p1 a4 23) <|
    mchk (isCh ((Int32.toUInt32 ((hA u9 a4 p1.toNatClampNeg) &&& 255) % 65536).toInt32)) <|
    hret ((Int32.toUInt32 ((hA u9 a4 p1.toNatClampNeg) &&& 255) % 65536).toInt32) u9
  else
    none
theorem ctJ18_charAt (t : TT) (G : GH) (l : Launch) (hl0 : l.stackTraces = false) (p0 : Nat) (p1 : Int32) (u : HS) : CtH mkI t G l yJ18_charAt cJ18_charAt 5 (some .char) 4 [.ref p0, .int p1] u (hJ18_charAt p0 p1 u) := by
  refine ctH_of [(0, .ref p0), (1, .int p1)] hl0 rfl (Nat.le_of_ble_eq_true rfl) rfl (fun K1 K2 p e s m args below meth c C => ?_)
  unfold hJ18_charAt
  refine v_aload_n C.1 0 rfl rfl dJ18_charAt_0 ?_
  refine v_chk (fun h1 => ?_)
  refine v_hget C (v := .int (hI u p0 1)) 12 1 (eq_of_beq h1) (by decide) rfl in_J19 (by decide) (Or.inl q1200) (fun _ h => h) (hF_i (ci := 12) (eq_of_beq h1) (by decide)) dJ18_charAt_1 ?_
  refine v_topi (fun v2 => ?_)
  refine v_istore_n C.1 [(2, .int v2), (0, .ref p0), (1, .int p1)] rfl (by decide) rfl dJ18_charAt_4 ?_
  refine v_aload_n C.1 1 rfl rfl dJ18_charAt_5 ?_
  refine v_chk (fun h3 => ?_)
  refine v_hget C (v := va_rf (hR u p0 0)) 12 0 (eq_of_beq h3) (by decide) rfl in_J19 (by decide) (Or.inl q1199) (fun _ h => h) (hF_r (ci := 12) (eq_of_beq h3) (by decide)) dJ18_charAt_6 ?_
  refine v_deref (fun a4 e5 => ?_)
  refine v_astore_n C.1 [(3, .ref a4), (2, .int v2), (0, .ref p0), (1, .int p1)] rfl (by decide) rfl dJ18_charAt_9 ?_
  refine v_aload_n C.1 2 rfl rfl dJ18_charAt_10 ?_
  refine v_chk (fun h6 => ?_)
  refine v_hget C (v := .int (hI u p0 3)) 12 3 (eq_of_beq h6) (by decide) rfl in_J19 (by decide) (Or.inl q1201) (fun _ h => h) (hF_i (ci := 12) (eq_of_beq h6) (by decide)) dJ18_charAt_11 ?_
  refine v_aload_n C.1 0 rfl rfl dJ18_charAt_14 ?_
  refine v_chk (fun h7 => ?_)
  refine v_halen C 3 (by decide) (eq_of_beq h7) dJ18_charAt_15 ?_
  refine v_iload_n C.1 1 rfl rfl dJ18_charAt_16 ?_
  refine v_ishr C.1 dJ18_charAt_17 ?_
  refine v_mmin C q585 q445 q133 q446 (by exact Nat.le_of_ble_eq_true rfl) (by exact Nat.le_of_ble_eq_true rfl) dJ18_charAt_18 ?_
  refine v_topi (fun v8 => ?_)
  refine v_istore C.1 [(4, .int v8), (3, .ref a4), (2, .int v2), (0, .ref p0), (1, .int p1)] (by decide) rfl dJ18_charAt_21 ?_
  refine v_iload_n C.1 4 rfl rfl dJ18_charAt_23 ?_
  refine v_iload C.1 0 rfl dJ18_charAt_24 ?_
  refine v_callSH C [.int p1, .int v8] [] (ctJ8_checkIndex t G l hl0 p1 v8 u) (fun _ _ => cwJ8_checkIndex C q586 (by decide)) rfl rfl (by exact Nat.le_of_ble_eq_true rfl) dJ18_charAt_26 (fun _ u9 => ?_)
  refine v_iload_n C.1 2 rfl rfl dJ18_charAt_29 ?_
  refine v_if_ne C.1 42 (by decide) dJ18_charAt_30 (fun _ => ?_) (fun _ => ?_)
  · refine v_aload_n C.1 1 rfl rfl dJ18_charAt_33 ?_
    refine v_iload_n C.1 4 rfl rfl dJ18_charAt_34 ?_
    refine v_chk (fun h10 => ?_)
    refine v_habald C h10 dJ18_charAt_35 ?_
    refine v_sipush C.1 255 (by decide) dJ18_charAt_36 ?_
    refine v_iand C.1 dJ18_charAt_39 ?_
    refine v_i2c C.1 dJ18_charAt_40 ?_
    refine v_chk (fun h11 => ?_)
    exact v_hcret C h11 dJ18_charAt_41
  · refine v_aload_n C.1 1 rfl rfl dJ18_charAt_42 ?_
    refine v_iload_n C.1 4 rfl rfl dJ18_charAt_43 ?_
    exact v_none
theorem cwJ18_charAtSU {t : TT} {G : GH} {l : Launch} {p : Program} {s : State} {m : MethodId} {args : Array Value} {meth : Method} {c : Code} {y0 : MethodName} {cc0 : ByteArray} {nL0 : Nat} {ret0 : Option FieldType} (C : CxH t G l p s m args meth c y0 cc0 nL0 ret0) {index lv mc ms K1 K2 : Nat} (hy0 : y0.cls = RJ19) (hq : Cond.methodLink y0.cls index yJ18_charAt ∈ lw_all) (hR : 4 + 1 ≤ lv) : va_CS (rmH lv K1 K2) s args y0.cls index yJ18_charAt cJ18_charAt 5 (some .char) (ws_ yJ18_charAt cJ18_charAt 5 (some .char)) (rmH 4 mc ms) mc ms 1 :=
  va_cwSU 1 C.1.2.2.2.2.1 (lw_SU hq q2350 (by rw [hy0]; exact q582) q583 q151 q584) rfl rfl rfl (by decide +kernel) ⟨hR, by show 8 + (5 + 11) + 100 * 4 ≤ 100 * lv; omega⟩
def hJ19_charAt (p0 : Nat) (p1 : Int32) (u : HS) : Option (OH Int32) :=
  mchk (hC u p0 == 13) <|
  hb (hJ18_charAt p0 p1 u) fun r2 u1 =>
  mchk (isCh r2) <|
  hret r2 u1
theorem ctJ19_charAt (t : TT) (G : GH) (l : Launch) (hl0 : l.stackTraces = false) (p0 : Nat) (p1 : Int32) (u : HS) : CtH mkI t G l yJ19_charAt cJ19_charAt 2 (some .char) 5 [.ref p0, .int p1] u (hJ19_charAt p0 p1 u) := by
  refine ctH_of [(0, .ref p0), (1, .int p1)] hl0 rfl (Nat.le_of_ble_eq_true rfl) rfl (fun K1 K2 p e s m args below meth c C => ?_)
  unfold hJ19_charAt
  refine v_aload_n C.1 0 rfl rfl dJ19_charAt_0 ?_
  refine v_iload_n C.1 1 rfl rfl dJ19_charAt_1 ?_
  refine v_chk (fun h3 => ?_)
  refine v_callSUH C [.int p1] [] (ctJ18_charAt t G l hl0 p0 p1 u) (fun _ _ => cwJ18_charAtSU C rfl q581 (by decide)) (ci := 12) (eq_of_beq h3) (by decide) rfl rfl rfl (by exact Nat.le_of_ble_eq_true rfl) dJ19_charAt_2 (fun r2 u1 => ?_)
  refine v_chk (fun h4 => ?_)
  exact v_hcret C h4 dJ19_charAt_5
theorem cwJ19_charAt {t : TT} {G : GH} {l : Launch} {p : Program} {s : State} {m : MethodId} {args : Array Value} {meth : Method} {c : Code} {y0 : MethodName} {cc0 : ByteArray} {nL0 : Nat} {ret0 : Option FieldType} (C : CxH t G l p s m args meth c y0 cc0 nL0 ret0) {index lv mc ms K1 K2 : Nat} (hq : Cond.methodLink y0.cls index yJ19_charAt ∈ lw_all) (hR : 5 + 1 ≤ lv) : CallW (rmH lv K1 K2) s args y0.cls RJ19 index yJ19_charAt cJ19_charAt 2 (some .char) (ws_ yJ19_charAt cJ19_charAt 2 (some .char)) (rmH 5 mc ms) mc ms 1 :=
  cwV 1 C.1.2.2.2.2.1 (lw_V hq q578 q579 q152 q580) rfl rfl rfl (by decide +kernel) ⟨hR, by show 8 + (2 + 11) + 100 * 5 ≤ 100 * lv; omega⟩
def hX8_by (p0 : Int32) (p1 : Int32) (p2 : Int32) (u : HS) : Option (OH Int32) :=
  if p0 = 38 then
    if p1 = 0 then
      hret 0 u
    else
      if p2 = 0 then
        hret 0 u
      else
        hret 1 u
  else
    if p0 = 39 then
      if p1 = 0 then
        if p2 = 0 then
          hret 0 u
        else
          hret 1 u
      else
        hret 1 u
    else
      if p0 = 40 then
        if p1 = 0 then
          if p2 = 0 then
            hret 0 u
          else
            hret 1 u
        else
          hret 1 u
      else
        if p0 = 41 then
          if p1 = 0 then
            if p2 = 0 then
              hret 0 u
            else
              hret 1 u
          else
            hret 1 u
        else
          if p0 = 42 then
            hret (p1 * p2) u
          else
            if p0 = 43 then
              hret (p1 + p2) u
            else
              if p0 = 44 then
                if p1 = 0 then
                  if p2 = 0 then
                    hret 0 u
                  else
                    hret 1 u
                else
                  hret 1 u
              else
                if p0 = 45 then
                  hret (p1 - p2) u
                else
                  if p0 = 46 then
                    if p1 = 0 then
                      if p2 = 0 then
                        hret 0 u
                      else
                        hret 1 u
                    else
                      hret 1 u
                  else
                    if p0 = 47 then
                      if p2 = 0 then
                        hret 0 u
                      else
                        mchk (p2 != 0) <|
                        hret (p1 / p2) u
                    else
                      if p0 = 48 then
                        if p1 = 0 then
                          if p2 = 0 then
                            hret 0 u
                          else
                            hret 1 u
                        else
                          hret 1 u
                      else
                        if p0 = 49 then
                          if p1 = 0 then
                            if p2 = 0 then
                              hret 0 u
                            else
                              hret 1 u
                          else
                            hret 1 u
                        else
                          if p0 = 50 then
                            if p1 = 0 then
                              if p2 = 0 then
                                hret 0 u
                              else
                                hret 1 u
                            else
                              hret 1 u
                          else
                            if p0 = 51 then
                              if p1 = 0 then
                                if p2 = 0 then
                                  hret 0 u
                                else
                                  hret 1 u
                              else
                                hret 1 u
                            else
                              if p0 = 52 then
                                if p1 = 0 then
                                  if p2 = 0 then
                                    hret 0 u
                                  else
                                    hret 1 u
                                else
                                  hret 1 u
                              else
                                if p0 = 53 then
                                  if p1 = 0 then
                                    if p2 = 0 then
                                      hret 0 u
                                    else
                                      hret 1 u
                                  else
                                    hret 1 u
                                else
                                  if p0 = 54 then
                                    if p1 = 0 then
                                      if p2 = 0 then
                                        hret 0 u
                                      else
                                        hret 1 u
                                    else
                                      hret 1 u
                                  else
                                    if p0 = 55 then
                                      if p1 = 0 then
                                        if p2 = 0 then
                                          hret 0 u
                                        else
                                          hret 1 u
                                      else
                                        hret 1 u
                                    else
                                      if p0 = 56 then
                                        if p1 = 0 then
                                          if p2 = 0 then
                                            hret 0 u
                                          else
                                            hret 1 u
                                        else
                                          hret 1 u
                                      else
                                        if p0 = 57 then
                                          if p1 = 0 then
                                            if p2 = 0 then
                                              hret 0 u
                                            else
                                              hret 1 u
                                          else
                                            hret 1 u
                                        else
                                          if p0 = 58 then
                                            if p1 = 0 then
                                              if p2 = 0 then
                                                hret 0 u
                                              else
                                                hret 1 u
                                            else
                                              hret 1 u
                                          else
                                            if p0 = 59 then
                                              if p1 = 0 then
                                                if p2 = 0 then
                                                  hret 0 u
                                                else
                                                  hret 1 u
                                              else
                                                hret 1 u
                                            else
                                              if p0 = 60 then
                                                if p2 ≤ p1 then
                                                  hret 0 u
                                                else
                                                  hret 1 u
                                              else
                                                if p0 = 61 then
                                                  if p1 = p2 then
                                                    hret 1 u
                                                  else
                                                    hret 0 u
                                                else
                                                  if p1 = 0 then
                                                    if p2 = 0 then
                                                      hret 0 u
                                                    else
                                                      hret 1 u
                                                  else
                                                    hret 1 u
theorem ctX8_by (t : TT) (G : GH) (l : Launch) (hl0 : l.stackTraces = false) (p0 : Int32) (p1 : Int32) (p2 : Int32) (u : HS) : CtH mkI t G l yX8_by cX8_by 3 (some .int) 2 [.int p0, .int p1, .int p2] u (hX8_by p0 p1 p2 u) := by
  refine ctH_of [(0, .int p0), (1, .int p1), (2, .int p2)] hl0 rfl (Nat.le_of_ble_eq_true rfl) rfl (fun K1 K2 p e s m args below meth c C => ?_)
  unfold hX8_by
  refine v_iload_n C.1 0 rfl rfl dX8_by_0 ?_
  refine v_if (fun h1 => ?_) (fun h1 => ?_)
  · refine v_tableIn C.1 (157) 158 (by rw [h1]; decide) (by rw [h1]; decide) (by rw [h1]; rfl) (by decide) dX8_by_1 ?_
    refine v_iload_n C.1 1 rfl rfl dX8_by_158 ?_
    refine v_if_eq C.1 170 (by decide) dX8_by_159 (fun _ => ?_) (fun _ => ?_)
    · refine v_iconst C.1 0 (by decide) dX8_by_170 ?_
      exact v_hiret C dX8_by_171
    · refine v_iload_n C.1 2 rfl rfl dX8_by_162 ?_
      refine v_if_eq C.1 170 (by decide) dX8_by_163 (fun _ => ?_) (fun _ => ?_)
      · refine v_iconst C.1 0 (by decide) dX8_by_170 ?_
        exact v_hiret C dX8_by_171
      · refine v_iconst C.1 1 (by decide) dX8_by_166 ?_
        refine v_goto C.1 171 (by decide) dX8_by_167 ?_
        exact v_hiret C dX8_by_171
  · skip
    refine v_if (fun h2 => ?_) (fun h2 => ?_)
    · refine v_tableIn C.1 (171) 172 (by rw [h2]; decide) (by rw [h2]; decide) (by rw [h2]; rfl) (by decide) dX8_by_1 ?_
      refine v_iload_n C.1 1 rfl rfl dX8_by_172 ?_
      refine v_if_ne C.1 180 (by decide) dX8_by_173 (fun _ => ?_) (fun _ => ?_)
      · refine v_iload_n C.1 2 rfl rfl dX8_by_176 ?_
        refine v_if_eq C.1 184 (by decide) dX8_by_177 (fun _ => ?_) (fun _ => ?_)
        · refine v_iconst C.1 0 (by decide) dX8_by_184 ?_
          exact v_hiret C dX8_by_185
        · refine v_iconst C.1 1 (by decide) dX8_by_180 ?_
          refine v_goto C.1 185 (by decide) dX8_by_181 ?_
          exact v_hiret C dX8_by_185
      · refine v_iconst C.1 1 (by decide) dX8_by_180 ?_
        refine v_goto C.1 185 (by decide) dX8_by_181 ?_
        exact v_hiret C dX8_by_185
    · skip
      refine v_if (fun h3 => ?_) (fun h3 => ?_)
      · refine v_tableIn C.1 (171) 172 (by rw [h3]; decide) (by rw [h3]; decide) (by rw [h3]; rfl) (by decide) dX8_by_1 ?_
        refine v_iload_n C.1 1 rfl rfl dX8_by_172 ?_
        refine v_if_ne C.1 180 (by decide) dX8_by_173 (fun _ => ?_) (fun _ => ?_)
        · refine v_iload_n C.1 2 rfl rfl dX8_by_176 ?_
          refine v_if_eq C.1 184 (by decide) dX8_by_177 (fun _ => ?_) (fun _ => ?_)
          · refine v_iconst C.1 0 (by decide) dX8_by_184 ?_
            exact v_hiret C dX8_by_185
          · refine v_iconst C.1 1 (by decide) dX8_by_180 ?_
            refine v_goto C.1 185 (by decide) dX8_by_181 ?_
            exact v_hiret C dX8_by_185
        · refine v_iconst C.1 1 (by decide) dX8_by_180 ?_
          refine v_goto C.1 185 (by decide) dX8_by_181 ?_
          exact v_hiret C dX8_by_185
      · skip
        refine v_if (fun h4 => ?_) (fun h4 => ?_)
        · refine v_tableIn C.1 (171) 172 (by rw [h4]; decide) (by rw [h4]; decide) (by rw [h4]; rfl) (by decide) dX8_by_1 ?_
          refine v_iload_n C.1 1 rfl rfl dX8_by_172 ?_
          refine v_if_ne C.1 180 (by decide) dX8_by_173 (fun _ => ?_) (fun _ => ?_)
          · refine v_iload_n C.1 2 rfl rfl dX8_by_176 ?_
            refine v_if_eq C.1 184 (by decide) dX8_by_177 (fun _ => ?_) (fun _ => ?_)
            · refine v_iconst C.1 0 (by decide) dX8_by_184 ?_
              exact v_hiret C dX8_by_185
            · refine v_iconst C.1 1 (by decide) dX8_by_180 ?_
              refine v_goto C.1 185 (by decide) dX8_by_181 ?_
              exact v_hiret C dX8_by_185
          · refine v_iconst C.1 1 (by decide) dX8_by_180 ?_
            refine v_goto C.1 185 (by decide) dX8_by_181 ?_
            exact v_hiret C dX8_by_185
        · skip
          refine v_if (fun h5 => ?_) (fun h5 => ?_)
          · refine v_tableIn C.1 (119) 120 (by rw [h5]; decide) (by rw [h5]; decide) (by rw [h5]; rfl) (by decide) dX8_by_1 ?_
            refine v_iload_n C.1 1 rfl rfl dX8_by_120 ?_
            refine v_iload_n C.1 2 rfl rfl dX8_by_121 ?_
            refine v_imul C.1 dX8_by_122 ?_
            exact v_hiret C dX8_by_123
          · skip
            refine v_if (fun h6 => ?_) (fun h6 => ?_)
            · refine v_tableIn C.1 (111) 112 (by rw [h6]; decide) (by rw [h6]; decide) (by rw [h6]; rfl) (by decide) dX8_by_1 ?_
              refine v_iload_n C.1 1 rfl rfl dX8_by_112 ?_
              refine v_iload_n C.1 2 rfl rfl dX8_by_113 ?_
              refine v_iadd C.1 dX8_by_114 ?_
              exact v_hiret C dX8_by_115
            · skip
              refine v_if (fun h7 => ?_) (fun h7 => ?_)
              · refine v_tableIn C.1 (171) 172 (by rw [h7]; decide) (by rw [h7]; decide) (by rw [h7]; rfl) (by decide) dX8_by_1 ?_
                refine v_iload_n C.1 1 rfl rfl dX8_by_172 ?_
                refine v_if_ne C.1 180 (by decide) dX8_by_173 (fun _ => ?_) (fun _ => ?_)
                · refine v_iload_n C.1 2 rfl rfl dX8_by_176 ?_
                  refine v_if_eq C.1 184 (by decide) dX8_by_177 (fun _ => ?_) (fun _ => ?_)
                  · refine v_iconst C.1 0 (by decide) dX8_by_184 ?_
                    exact v_hiret C dX8_by_185
                  · refine v_iconst C.1 1 (by decide) dX8_by_180 ?_
                    refine v_goto C.1 185 (by decide) dX8_by_181 ?_
                    exact v_hiret C dX8_by_185
                · refine v_iconst C.1 1 (by decide) dX8_by_180 ?_
                  refine v_goto C.1 185 (by decide) dX8_by_181 ?_
                  exact v_hiret C dX8_by_185
              · skip
                refine v_if (fun h8 => ?_) (fun h8 => ?_)
                · refine v_tableIn C.1 (115) 116 (by rw [h8]; decide) (by rw [h8]; decide) (by rw [h8]; rfl) (by decide) dX8_by_1 ?_
                  refine v_iload_n C.1 1 rfl rfl dX8_by_116 ?_
                  refine v_iload_n C.1 2 rfl rfl dX8_by_117 ?_
                  refine v_isub C.1 dX8_by_118 ?_
                  exact v_hiret C dX8_by_119
                · skip
                  refine v_if (fun h9 => ?_) (fun h9 => ?_)
                  · refine v_tableIn C.1 (171) 172 (by rw [h9]; decide) (by rw [h9]; decide) (by rw [h9]; rfl) (by decide) dX8_by_1 ?_
                    refine v_iload_n C.1 1 rfl rfl dX8_by_172 ?_
                    refine v_if_ne C.1 180 (by decide) dX8_by_173 (fun _ => ?_) (fun _ => ?_)
                    · refine v_iload_n C.1 2 rfl rfl dX8_by_176 ?_
                      refine v_if_eq C.1 184 (by decide) dX8_by_177 (fun _ => ?_) (fun _ => ?_)
                      · refine v_iconst C.1 0 (by decide) dX8_by_184 ?_
                        exact v_hiret C dX8_by_185
                      · refine v_iconst C.1 1 (by decide) dX8_by_180 ?_
                        refine v_goto C.1 185 (by decide) dX8_by_181 ?_
                        exact v_hiret C dX8_by_185
                    · refine v_iconst C.1 1 (by decide) dX8_by_180 ?_
                      refine v_goto C.1 185 (by decide) dX8_by_181 ?_
                      exact v_hiret C dX8_by_185
                  · skip
                    refine v_if (fun h10 => ?_) (fun h10 => ?_)
                    · refine v_tableIn C.1 (123) 124 (by rw [h10]; decide) (by rw [h10]; decide) (by rw [h10]; rfl) (by decide) dX8_by_1 ?_
                      refine v_iload_n C.1 2 rfl rfl dX8_by_124 ?_
                      refine v_if_ne C.1 132 (by decide) dX8_by_125 (fun _ => ?_) (fun _ => ?_)
                      · refine v_iconst C.1 0 (by decide) dX8_by_128 ?_
                        refine v_goto C.1 135 (by decide) dX8_by_129 ?_
                        exact v_hiret C dX8_by_135
                      · refine v_iload_n C.1 1 rfl rfl dX8_by_132 ?_
                        refine v_iload_n C.1 2 rfl rfl dX8_by_133 ?_
                        refine v_chk (fun h11 => ?_)
                        refine v_idiv C.1 (bne_iff_ne.mp h11) dX8_by_134 ?_
                        exact v_hiret C dX8_by_135
                    · skip
                      refine v_if (fun h11 => ?_) (fun h11 => ?_)
                      · refine v_tableIn C.1 (171) 172 (by rw [h11]; decide) (by rw [h11]; decide) (by rw [h11]; rfl) (by decide) dX8_by_1 ?_
                        refine v_iload_n C.1 1 rfl rfl dX8_by_172 ?_
                        refine v_if_ne C.1 180 (by decide) dX8_by_173 (fun _ => ?_) (fun _ => ?_)
                        · refine v_iload_n C.1 2 rfl rfl dX8_by_176 ?_
                          refine v_if_eq C.1 184 (by decide) dX8_by_177 (fun _ => ?_) (fun _ => ?_)
                          · refine v_iconst C.1 0 (by decide) dX8_by_184 ?_
                            exact v_hiret C dX8_by_185
                          · refine v_iconst C.1 1 (by decide) dX8_by_180 ?_
                            refine v_goto C.1 185 (by decide) dX8_by_181 ?_
                            exact v_hiret C dX8_by_185
                        · refine v_iconst C.1 1 (by decide) dX8_by_180 ?_
                          refine v_goto C.1 185 (by decide) dX8_by_181 ?_
                          exact v_hiret C dX8_by_185
                      · skip
                        refine v_if (fun h12 => ?_) (fun h12 => ?_)
                        · refine v_tableIn C.1 (171) 172 (by rw [h12]; decide) (by rw [h12]; decide) (by rw [h12]; rfl) (by decide) dX8_by_1 ?_
                          refine v_iload_n C.1 1 rfl rfl dX8_by_172 ?_
                          refine v_if_ne C.1 180 (by decide) dX8_by_173 (fun _ => ?_) (fun _ => ?_)
                          · refine v_iload_n C.1 2 rfl rfl dX8_by_176 ?_
                            refine v_if_eq C.1 184 (by decide) dX8_by_177 (fun _ => ?_) (fun _ => ?_)
                            · refine v_iconst C.1 0 (by decide) dX8_by_184 ?_
                              exact v_hiret C dX8_by_185
                            · refine v_iconst C.1 1 (by decide) dX8_by_180 ?_
                              refine v_goto C.1 185 (by decide) dX8_by_181 ?_
                              exact v_hiret C dX8_by_185
                          · refine v_iconst C.1 1 (by decide) dX8_by_180 ?_
                            refine v_goto C.1 185 (by decide) dX8_by_181 ?_
                            exact v_hiret C dX8_by_185
                        · skip
                          refine v_if (fun h13 => ?_) (fun h13 => ?_)
                          · refine v_tableIn C.1 (171) 172 (by rw [h13]; decide) (by rw [h13]; decide) (by rw [h13]; rfl) (by decide) dX8_by_1 ?_
                            refine v_iload_n C.1 1 rfl rfl dX8_by_172 ?_
                            refine v_if_ne C.1 180 (by decide) dX8_by_173 (fun _ => ?_) (fun _ => ?_)
                            · refine v_iload_n C.1 2 rfl rfl dX8_by_176 ?_
                              refine v_if_eq C.1 184 (by decide) dX8_by_177 (fun _ => ?_) (fun _ => ?_)
                              · refine v_iconst C.1 0 (by decide) dX8_by_184 ?_
                                exact v_hiret C dX8_by_185
                              · refine v_iconst C.1 1 (by decide) dX8_by_180 ?_
                                refine v_goto C.1 185 (by decide) dX8_by_181 ?_
                                exact v_hiret C dX8_by_185
                            · refine v_iconst C.1 1 (by decide) dX8_by_180 ?_
                              refine v_goto C.1 185 (by decide) dX8_by_181 ?_
                              exact v_hiret C dX8_by_185
                          · skip
                            refine v_if (fun h14 => ?_) (fun h14 => ?_)
                            · refine v_tableIn C.1 (171) 172 (by rw [h14]; decide) (by rw [h14]; decide) (by rw [h14]; rfl) (by decide) dX8_by_1 ?_
                              refine v_iload_n C.1 1 rfl rfl dX8_by_172 ?_
                              refine v_if_ne C.1 180 (by decide) dX8_by_173 (fun _ => ?_) (fun _ => ?_)
                              · refine v_iload_n C.1 2 rfl rfl dX8_by_176 ?_
                                refine v_if_eq C.1 184 (by decide) dX8_by_177 (fun _ => ?_) (fun _ => ?_)
                                · refine v_iconst C.1 0 (by decide) dX8_by_184 ?_
                                  exact v_hiret C dX8_by_185
                                · refine v_iconst C.1 1 (by decide) dX8_by_180 ?_
                                  refine v_goto C.1 185 (by decide) dX8_by_181 ?_
                                  exact v_hiret C dX8_by_185
                              · refine v_iconst C.1 1 (by decide) dX8_by_180 ?_
                                refine v_goto C.1 185 (by decide) dX8_by_181 ?_
                                exact v_hiret C dX8_by_185
                            · skip
                              refine v_if (fun h15 => ?_) (fun h15 => ?_)
                              · refine v_tableIn C.1 (171) 172 (by rw [h15]; decide) (by rw [h15]; decide) (by rw [h15]; rfl) (by decide) dX8_by_1 ?_
                                refine v_iload_n C.1 1 rfl rfl dX8_by_172 ?_
                                refine v_if_ne C.1 180 (by decide) dX8_by_173 (fun _ => ?_) (fun _ => ?_)
                                · refine v_iload_n C.1 2 rfl rfl dX8_by_176 ?_
                                  refine v_if_eq C.1 184 (by decide) dX8_by_177 (fun _ => ?_) (fun _ => ?_)
                                  · refine v_iconst C.1 0 (by decide) dX8_by_184 ?_
                                    exact v_hiret C dX8_by_185
                                  · refine v_iconst C.1 1 (by decide) dX8_by_180 ?_
                                    refine v_goto C.1 185 (by decide) dX8_by_181 ?_
                                    exact v_hiret C dX8_by_185
                                · refine v_iconst C.1 1 (by decide) dX8_by_180 ?_
                                  refine v_goto C.1 185 (by decide) dX8_by_181 ?_
                                  exact v_hiret C dX8_by_185
                              · skip
                                refine v_if (fun h16 => ?_) (fun h16 => ?_)
                                · refine v_tableIn C.1 (171) 172 (by rw [h16]; decide) (by rw [h16]; decide) (by rw [h16]; rfl) (by decide) dX8_by_1 ?_
                                  refine v_iload_n C.1 1 rfl rfl dX8_by_172 ?_
                                  refine v_if_ne C.1 180 (by decide) dX8_by_173 (fun _ => ?_) (fun _ => ?_)
                                  · refine v_iload_n C.1 2 rfl rfl dX8_by_176 ?_
                                    refine v_if_eq C.1 184 (by decide) dX8_by_177 (fun _ => ?_) (fun _ => ?_)
                                    · refine v_iconst C.1 0 (by decide) dX8_by_184 ?_
                                      exact v_hiret C dX8_by_185
                                    · refine v_iconst C.1 1 (by decide) dX8_by_180 ?_
                                      refine v_goto C.1 185 (by decide) dX8_by_181 ?_
                                      exact v_hiret C dX8_by_185
                                  · refine v_iconst C.1 1 (by decide) dX8_by_180 ?_
                                    refine v_goto C.1 185 (by decide) dX8_by_181 ?_
                                    exact v_hiret C dX8_by_185
                                · skip
                                  refine v_if (fun h17 => ?_) (fun h17 => ?_)
                                  · refine v_tableIn C.1 (171) 172 (by rw [h17]; decide) (by rw [h17]; decide) (by rw [h17]; rfl) (by decide) dX8_by_1 ?_
                                    refine v_iload_n C.1 1 rfl rfl dX8_by_172 ?_
                                    refine v_if_ne C.1 180 (by decide) dX8_by_173 (fun _ => ?_) (fun _ => ?_)
                                    · refine v_iload_n C.1 2 rfl rfl dX8_by_176 ?_
                                      refine v_if_eq C.1 184 (by decide) dX8_by_177 (fun _ => ?_) (fun _ => ?_)
                                      · refine v_iconst C.1 0 (by decide) dX8_by_184 ?_
                                        exact v_hiret C dX8_by_185
                                      · refine v_iconst C.1 1 (by decide) dX8_by_180 ?_
                                        refine v_goto C.1 185 (by decide) dX8_by_181 ?_
                                        exact v_hiret C dX8_by_185
                                    · refine v_iconst C.1 1 (by decide) dX8_by_180 ?_
                                      refine v_goto C.1 185 (by decide) dX8_by_181 ?_
                                      exact v_hiret C dX8_by_185
                                  · skip
                                    refine v_if (fun h18 => ?_) (fun h18 => ?_)
                                    · refine v_tableIn C.1 (171) 172 (by rw [h18]; decide) (by rw [h18]; decide) (by rw [h18]; rfl) (by decide) dX8_by_1 ?_
                                      refine v_iload_n C.1 1 rfl rfl dX8_by_172 ?_
                                      refine v_if_ne C.1 180 (by decide) dX8_by_173 (fun _ => ?_) (fun _ => ?_)
                                      · refine v_iload_n C.1 2 rfl rfl dX8_by_176 ?_
                                        refine v_if_eq C.1 184 (by decide) dX8_by_177 (fun _ => ?_) (fun _ => ?_)
                                        · refine v_iconst C.1 0 (by decide) dX8_by_184 ?_
                                          exact v_hiret C dX8_by_185
                                        · refine v_iconst C.1 1 (by decide) dX8_by_180 ?_
                                          refine v_goto C.1 185 (by decide) dX8_by_181 ?_
                                          exact v_hiret C dX8_by_185
                                      · refine v_iconst C.1 1 (by decide) dX8_by_180 ?_
                                        refine v_goto C.1 185 (by decide) dX8_by_181 ?_
                                        exact v_hiret C dX8_by_185
                                    · skip
                                      refine v_if (fun h19 => ?_) (fun h19 => ?_)
                                      · refine v_tableIn C.1 (171) 172 (by rw [h19]; decide) (by rw [h19]; decide) (by rw [h19]; rfl) (by decide) dX8_by_1 ?_
                                        refine v_iload_n C.1 1 rfl rfl dX8_by_172 ?_
                                        refine v_if_ne C.1 180 (by decide) dX8_by_173 (fun _ => ?_) (fun _ => ?_)
                                        · refine v_iload_n C.1 2 rfl rfl dX8_by_176 ?_
                                          refine v_if_eq C.1 184 (by decide) dX8_by_177 (fun _ => ?_) (fun _ => ?_)
                                          · refine v_iconst C.1 0 (by decide) dX8_by_184 ?_
                                            exact v_hiret C dX8_by_185
                                          · refine v_iconst C.1 1 (by decide) dX8_by_180 ?_
                                            refine v_goto C.1 185 (by decide) dX8_by_181 ?_
                                            exact v_hiret C dX8_by_185
                                        · refine v_iconst C.1 1 (by decide) dX8_by_180 ?_
                                          refine v_goto C.1 185 (by decide) dX8_by_181 ?_
                                          exact v_hiret C dX8_by_185
                                      · skip
                                        refine v_if (fun h20 => ?_) (fun h20 => ?_)
                                        · refine v_tableIn C.1 (171) 172 (by rw [h20]; decide) (by rw [h20]; decide) (by rw [h20]; rfl) (by decide) dX8_by_1 ?_
                                          refine v_iload_n C.1 1 rfl rfl dX8_by_172 ?_
                                          refine v_if_ne C.1 180 (by decide) dX8_by_173 (fun _ => ?_) (fun _ => ?_)
                                          · refine v_iload_n C.1 2 rfl rfl dX8_by_176 ?_
                                            refine v_if_eq C.1 184 (by decide) dX8_by_177 (fun _ => ?_) (fun _ => ?_)
                                            · refine v_iconst C.1 0 (by decide) dX8_by_184 ?_
                                              exact v_hiret C dX8_by_185
                                            · refine v_iconst C.1 1 (by decide) dX8_by_180 ?_
                                              refine v_goto C.1 185 (by decide) dX8_by_181 ?_
                                              exact v_hiret C dX8_by_185
                                          · refine v_iconst C.1 1 (by decide) dX8_by_180 ?_
                                            refine v_goto C.1 185 (by decide) dX8_by_181 ?_
                                            exact v_hiret C dX8_by_185
                                        · skip
                                          refine v_if (fun h21 => ?_) (fun h21 => ?_)
                                          · refine v_tableIn C.1 (171) 172 (by rw [h21]; decide) (by rw [h21]; decide) (by rw [h21]; rfl) (by decide) dX8_by_1 ?_
                                            refine v_iload_n C.1 1 rfl rfl dX8_by_172 ?_
                                            refine v_if_ne C.1 180 (by decide) dX8_by_173 (fun _ => ?_) (fun _ => ?_)
                                            · refine v_iload_n C.1 2 rfl rfl dX8_by_176 ?_
                                              refine v_if_eq C.1 184 (by decide) dX8_by_177 (fun _ => ?_) (fun _ => ?_)
                                              · refine v_iconst C.1 0 (by decide) dX8_by_184 ?_
                                                exact v_hiret C dX8_by_185
                                              · refine v_iconst C.1 1 (by decide) dX8_by_180 ?_
                                                refine v_goto C.1 185 (by decide) dX8_by_181 ?_
                                                exact v_hiret C dX8_by_185
                                            · refine v_iconst C.1 1 (by decide) dX8_by_180 ?_
                                              refine v_goto C.1 185 (by decide) dX8_by_181 ?_
                                              exact v_hiret C dX8_by_185
                                          · skip
                                            refine v_if (fun h22 => ?_) (fun h22 => ?_)
                                            · refine v_tableIn C.1 (171) 172 (by rw [h22]; decide) (by rw [h22]; decide) (by rw [h22]; rfl) (by decide) dX8_by_1 ?_
                                              refine v_iload_n C.1 1 rfl rfl dX8_by_172 ?_
                                              refine v_if_ne C.1 180 (by decide) dX8_by_173 (fun _ => ?_) (fun _ => ?_)
                                              · refine v_iload_n C.1 2 rfl rfl dX8_by_176 ?_
                                                refine v_if_eq C.1 184 (by decide) dX8_by_177 (fun _ => ?_) (fun _ => ?_)
                                                · refine v_iconst C.1 0 (by decide) dX8_by_184 ?_
                                                  exact v_hiret C dX8_by_185
                                                · refine v_iconst C.1 1 (by decide) dX8_by_180 ?_
                                                  refine v_goto C.1 185 (by decide) dX8_by_181 ?_
                                                  exact v_hiret C dX8_by_185
                                              · refine v_iconst C.1 1 (by decide) dX8_by_180 ?_
                                                refine v_goto C.1 185 (by decide) dX8_by_181 ?_
                                                exact v_hiret C dX8_by_185
                                            · skip
                                              refine v_if (fun h23 => ?_) (fun h23 => ?_)
                                              · refine v_tableIn C.1 (135) 136 (by rw [h23]; decide) (by rw [h23]; decide) (by rw [h23]; rfl) (by decide) dX8_by_1 ?_
                                                refine v_iload_n C.1 1 rfl rfl dX8_by_136 ?_
                                                refine v_iload_n C.1 2 rfl rfl dX8_by_137 ?_
                                                refine v_icmp_ge C.1 145 (by decide) dX8_by_138 (fun _ => ?_) (fun _ => ?_)
                                                · refine v_iconst C.1 0 (by decide) dX8_by_145 ?_
                                                  exact v_hiret C dX8_by_146
                                                · refine v_iconst C.1 1 (by decide) dX8_by_141 ?_
                                                  refine v_goto C.1 146 (by decide) dX8_by_142 ?_
                                                  exact v_hiret C dX8_by_146
                                              · skip
                                                refine v_if (fun h24 => ?_) (fun h24 => ?_)
                                                · refine v_tableIn C.1 (146) 147 (by rw [h24]; decide) (by rw [h24]; decide) (by rw [h24]; rfl) (by decide) dX8_by_1 ?_
                                                  refine v_iload_n C.1 1 rfl rfl dX8_by_147 ?_
                                                  refine v_iload_n C.1 2 rfl rfl dX8_by_148 ?_
                                                  refine v_icmp_ne C.1 156 (by decide) dX8_by_149 (fun _ => ?_) (fun _ => ?_)
                                                  · refine v_iconst C.1 1 (by decide) dX8_by_152 ?_
                                                    refine v_goto C.1 157 (by decide) dX8_by_153 ?_
                                                    exact v_hiret C dX8_by_157
                                                  · refine v_iconst C.1 0 (by decide) dX8_by_156 ?_
                                                    exact v_hiret C dX8_by_157
                                                · skip
                                                  refine v_tableOut C.1 172 (by have := lv_neT (a := 38) h1 (by decide); have := lv_neT (a := 39) h2 (by decide); have := lv_neT (a := 40) h3 (by decide); have := lv_neT (a := 41) h4 (by decide); have := lv_neT (a := 42) h5 (by decide); have := lv_neT (a := 43) h6 (by decide); have := lv_neT (a := 44) h7 (by decide); have := lv_neT (a := 45) h8 (by decide); have := lv_neT (a := 46) h9 (by decide); have := lv_neT (a := 47) h10 (by decide); have := lv_neT (a := 48) h11 (by decide); have := lv_neT (a := 49) h12 (by decide); have := lv_neT (a := 50) h13 (by decide); have := lv_neT (a := 51) h14 (by decide); have := lv_neT (a := 52) h15 (by decide); have := lv_neT (a := 53) h16 (by decide); have := lv_neT (a := 54) h17 (by decide); have := lv_neT (a := 55) h18 (by decide); have := lv_neT (a := 56) h19 (by decide); have := lv_neT (a := 57) h20 (by decide); have := lv_neT (a := 58) h21 (by decide); have := lv_neT (a := 59) h22 (by decide); have := lv_neT (a := 60) h23 (by decide); have := lv_neT (a := 61) h24 (by decide); omega) (by decide) dX8_by_1 ?_
                                                  refine v_iload_n C.1 1 rfl rfl dX8_by_172 ?_
                                                  refine v_if_ne C.1 180 (by decide) dX8_by_173 (fun _ => ?_) (fun _ => ?_)
                                                  · refine v_iload_n C.1 2 rfl rfl dX8_by_176 ?_
                                                    refine v_if_eq C.1 184 (by decide) dX8_by_177 (fun _ => ?_) (fun _ => ?_)
                                                    · refine v_iconst C.1 0 (by decide) dX8_by_184 ?_
                                                      exact v_hiret C dX8_by_185
                                                    · refine v_iconst C.1 1 (by decide) dX8_by_180 ?_
                                                      refine v_goto C.1 185 (by decide) dX8_by_181 ?_
                                                      exact v_hiret C dX8_by_185
                                                  · refine v_iconst C.1 1 (by decide) dX8_by_180 ?_
                                                    refine v_goto C.1 185 (by decide) dX8_by_181 ?_
                                                    exact v_hiret C dX8_by_185
theorem cwX8_by {t : TT} {G : GH} {l : Launch} {p : Program} {s : State} {m : MethodId} {args : Array Value} {meth : Method} {c : Code} {y0 : MethodName} {cc0 : ByteArray} {nL0 : Nat} {ret0 : Option FieldType} (C : CxH t G l p s m args meth c y0 cc0 nL0 ret0) {index lv mc ms K1 K2 : Nat} (hq : Cond.methodLink y0.cls index yX8_by ∈ lw_all) (hR : 2 + 1 ≤ lv) : CallB (rmH lv K1 K2) s args y0.cls index yX8_by cX8_by 3 (some .int) (ws_ yX8_by cX8_by 3 (some .int)) (rmH 2 mc ms) mc ms 3 ∧ (Cond.static yX8_by).before args s = true :=
  ⟨callB_of 3 C.1.2.2.2.2.1 (lw_meth q606) rfl rfl rfl (C.1.2.2.2.2.1 _ q148) (C.1.2.2.2.2.1 _ hq) (by decide +kernel) ⟨hR, by show 8 + (3 + 11) + 100 * 2 ≤ 100 * lv; omega⟩, C.1.2.2.2.2.1 _ q605⟩
def hX8_of_22 (fo : Nat → Nat → HS → Option (OH Int32)) (p0 : Nat) (p1 : Nat) (k : Int32 → Int32 → HS → Option (OH Int32)) (x2 : Int32) (x3 : Int32) (u : HS) : Option (OH Int32) :=
  mchk (hC u p0 == 8) <|
  mderef (hR u p0 0) fun a2 =>
  mchk (hC u a2 == 12) <|
  hb (hJ2_size a2 u) fun r5 u4 =>
  if r5 ≤ x3 then
    hret x2 u4
  else
    mchk (hC u4 p0 == 8) <|
    mderef (hR u4 p0 1) fun a8 =>
    mchk (hC u4 a8 == 13) <|
    hb (hJ19_charAt a8 (x3 - 1) u4) fun r11 u10 =>
    mchk (hC u10 p0 == 8) <|
    mderef (hR u10 p0 0) fun a14 =>
    mchk (hC u10 a14 == 12) <|
    hb (hJ2_get a14 x3 u10) fun r17 u16 =>
    mchk (isForm (hC u16 r17)) <|
    mchk (isForm (hC u16 r17)) <|
    hb (fo r17 p1 u16) fun r21 u20 =>
    hb (hX8_by r11 x2 r21 u20) fun r24 u23 =>
    k r24 (x3 + 1) u23
theorem whX8_of_22 {K1 K2 ld : Nat} {p : Program} {e : Env} {s : State} {m : MethodId} {args : Array Value} {below : List Frame} {meth : Method} {c : Code} (hl0 : l.stackTraces = false) (C : CxH t G l p s m args meth c yX8_of cX8_of 4 (some .int)) (fo : Nat → Nat → HS → Option (OH Int32)) (hrec : FormC fo t G l ld) (p0 : Nat) (p1 : Nat) (n : Nat) (x2 : Int32) (x3 : Int32) (u : HS) : VH mkI t G p l e (ld + 1) K1 K2 s m args below meth c 4 22 [(0, .ref p0), (1, .ref p1), (2, .int x2), (3, .int x3)] [] u (ml2 (hX8_of_22 fo p0 p1) n x2 x3 u) := by
  refine vl2 (L := fun x2 x3 => [(0, .ref p0), (1, .ref p1), (2, .int x2), (3, .int x3)]) (fun k hk x2 x3 u => ?_) n x2 x3 u
  unfold hX8_of_22
  refine v_iload_n C.1 3 rfl rfl dX8_of_22 ?_
  refine v_aload_n C.1 0 rfl rfl dX8_of_23 ?_
  refine v_chk (fun h1 => ?_)
  refine v_hget C (v := va_rf (hR u p0 0)) 7 0 (eq_of_beq h1) (by decide) rfl in_X8 (by decide) (Or.inl q1212) (fun _ h => h) (hF_r (ci := 7) (eq_of_beq h1) (by decide)) dX8_of_24 ?_
  refine v_deref (fun a2 e3 => ?_)
  refine v_chk (fun h6 => ?_)
  refine v_callFH C [] [.int x3] (ctJ2_size t G l hl0 a2 u) (fun _ _ => cwJ2_sizeF C q576 (by have h9 := hrec.1; omega)) (eq_of_beq h6) (by decide) rfl rfl rfl (by exact Nat.le_of_ble_eq_true rfl) dX8_of_27 (fun r5 u4 => ?_)
  refine v_icmp_ge C.1 75 (by decide) dX8_of_32 (fun _ => ?_) (fun _ => ?_)
  · refine v_iload_n C.1 2 rfl rfl dX8_of_75 ?_
    exact v_hiret C dX8_of_76
  · refine v_aload_n C.1 0 rfl rfl dX8_of_35 ?_
    refine v_chk (fun h7 => ?_)
    refine v_hget C (v := va_rf (hR u4 p0 1)) 7 1 (eq_of_beq h7) (by decide) rfl in_X8 (by decide) (Or.inl q1213) (fun _ h => h) (hF_r (ci := 7) (eq_of_beq h7) (by decide)) dX8_of_36 ?_
    refine v_deref (fun a8 e9 => ?_)
    refine v_iload_n C.1 3 rfl rfl dX8_of_39 ?_
    refine v_iconst C.1 1 (by decide) dX8_of_40 ?_
    refine v_isub C.1 dX8_of_41 ?_
    refine v_chk (fun h12 => ?_)
    refine v_callVH C [.int (x3 - 1)] [] (ctJ19_charAt t G l hl0 a8 (x3 - 1) u4) (fun _ _ => cwJ19_charAt C q577 (by have h9 := hrec.1; omega)) (recO C (ci := 12) (eq_of_beq h12) (by decide) rfl) rfl rfl (by exact Nat.le_of_ble_eq_true rfl) dX8_of_42 (fun r11 u10 => ?_)
    refine v_iload_n C.1 2 rfl rfl dX8_of_45 ?_
    refine v_aload_n C.1 0 rfl rfl dX8_of_46 ?_
    refine v_chk (fun h13 => ?_)
    refine v_hget C (v := va_rf (hR u10 p0 0)) 7 0 (eq_of_beq h13) (by decide) rfl in_X8 (by decide) (Or.inl q1212) (fun _ h => h) (hF_r (ci := 7) (eq_of_beq h13) (by decide)) dX8_of_47 ?_
    refine v_deref (fun a14 e15 => ?_)
    refine v_iload_n C.1 3 rfl rfl dX8_of_50 ?_
    refine v_chk (fun h18 => ?_)
    refine v_callFH C [.int x3] [.int x2, .int r11] (ctJ2_get t G l hl0 a14 x3 u10) (fun _ _ => cwJ2_getF C q551 (by have h9 := hrec.1; omega)) (eq_of_beq h18) (by decide) rfl rfl rfl (by exact Nat.le_of_ble_eq_true rfl) dX8_of_51 (fun r17 u16 => ?_)
    refine v_chk (fun h19 => ?_)
    refine v_hcastF C h19 q552 dX8_of_56 ?_
    refine v_aload_n C.1 1 rfl rfl dX8_of_59 ?_
    refine v_chk (fun h22 => ?_)
    refine v_callForm C [.int x2, .int r11] hrec q554 h22 (by omega) rfl (by exact Nat.le_of_ble_eq_true rfl) dX8_of_60 (fun r21 u20 => ?_)
    refine v_callSH C [.int r11, .int x2, .int r21] [] (ctX8_by t G l hl0 r11 x2 r21 u20) (fun _ _ => cwX8_by C q604 (by have h9 := hrec.1; omega)) rfl rfl (by exact Nat.le_of_ble_eq_true rfl) dX8_of_65 (fun r24 u23 => ?_)
    refine v_istore_n C.1 [(2, .int r24), (0, .ref p0), (1, .ref p1), (3, .int x3)] rfl (by decide) rfl dX8_of_68 ?_
    refine v_iinc C.1 1 [(3, .int (x3 + 1)), (2, .int r24), (0, .ref p0), (1, .ref p1)] 3 rfl (by decide) (by decide) rfl dX8_of_69 ?_
    refine v_goto C.1 22 (by decide) dX8_of_72 ?_
    refine v_sub [2, 3, 1, 0] rfl ?_
    exact hk r24 (x3 + 1) u23
def hX8_of (fo : Nat → Nat → HS → Option (OH Int32)) (p0 : Nat) (p1 : Nat) (u : HS) : Option (OH Int32) :=
  mchk (hC u p0 == 8) <|
  mderef (hR u p0 0) fun a2 =>
  mchk (hC u a2 == 12) <|
  hb (hJ2_get a2 0 u) fun r5 u4 =>
  mchk (isForm (hC u4 r5)) <|
  mchk (isForm (hC u4 r5)) <|
  hb (fo r5 p1 u4) fun r9 u8 =>
  ml2 (hX8_of_22 fo p0 p1) FUEL r9 1 u8
theorem ctX8_of (t : TT) (G : GH) (l : Launch) (hl0 : l.stackTraces = false) {ld : Nat} (fo : Nat → Nat → HS → Option (OH Int32)) (hrec : FormC fo t G l ld) (p0 : Nat) (p1 : Nat) (u : HS) : CtH mkI t G l yX8_of cX8_of 4 (some .int) (ld + 1) [.ref p0, .ref p1] u (hX8_of fo p0 p1 u) := by
  refine ctH_of [(0, .ref p0), (1, .ref p1)] hl0 rfl (Nat.le_of_ble_eq_true rfl) rfl (fun K1 K2 p e s m args below meth c C => ?_)
  unfold hX8_of
  refine v_aload_n C.1 0 rfl rfl dX8_of_0 ?_
  refine v_chk (fun h1 => ?_)
  refine v_hget C (v := va_rf (hR u p0 0)) 7 0 (eq_of_beq h1) (by decide) rfl in_X8 (by decide) (Or.inl q1212) (fun _ h => h) (hF_r (ci := 7) (eq_of_beq h1) (by decide)) dX8_of_1 ?_
  refine v_deref (fun a2 e3 => ?_)
  refine v_iconst C.1 0 (by decide) dX8_of_4 ?_
  refine v_chk (fun h6 => ?_)
  refine v_callFH C [.int 0] [] (ctJ2_get t G l hl0 a2 0 u) (fun _ _ => cwJ2_getF C q551 (by have h9 := hrec.1; omega)) (eq_of_beq h6) (by decide) rfl rfl rfl (by exact Nat.le_of_ble_eq_true rfl) dX8_of_5 (fun r5 u4 => ?_)
  refine v_chk (fun h7 => ?_)
  refine v_hcastF C h7 q552 dX8_of_10 ?_
  refine v_aload_n C.1 1 rfl rfl dX8_of_13 ?_
  refine v_chk (fun h10 => ?_)
  refine v_callForm C [] hrec q554 h10 (by omega) rfl (by exact Nat.le_of_ble_eq_true rfl) dX8_of_14 (fun r9 u8 => ?_)
  refine v_istore_n C.1 [(2, .int r9), (0, .ref p0), (1, .ref p1)] rfl (by decide) rfl dX8_of_19 ?_
  refine v_iconst C.1 1 (by decide) dX8_of_20 ?_
  refine v_istore_n C.1 [(3, .int 1), (2, .int r9), (0, .ref p0), (1, .ref p1)] rfl (by decide) rfl dX8_of_21 ?_
  refine v_sub [2, 3, 1, 0] rfl ?_
  exact whX8_of_22 hl0 C fo hrec p0 p1 FUEL r9 1 u8
/-- a form's worth, by its depth -/
def hForm : Nat → Nat → Nat → HS → Option (OH Int32)
  | 0, _, _, _ => none
  | d + 1, b, x, u => if hC u b = 8 then hX8_of (hForm d) b x u else if hC u b = 9 then hX9_of b x u else if hC u b = 10 then hX10_of b x u else if hC u b = 11 then hX11_of (hForm d) b x u else none
theorem formC (t : TT) (G : GH) (l : Launch) (hl0 : l.stackTraces = false) : ∀ d, FormC (hForm d) t G l (30 + d)
  | 0 => ⟨Nat.le_refl _, fun b x u _ w hw => (by unfold hForm at hw; cases hw), fun b x u _ w hw => (by unfold hForm at hw; cases hw), fun b x u _ w hw => (by unfold hForm at hw; cases hw), fun b x u _ w hw => (by unfold hForm at hw; cases hw)⟩
  | d + 1 => by
    have ih := formC t G l hl0 d
    refine ⟨by omega, fun b x u h => ?_, fun b x u h => ?_, fun b x u h => ?_, fun b x u h => ?_⟩
    · unfold hForm; rw [if_pos h]; exact ctX8_of t G l hl0 (hForm d) ih b x u
    · unfold hForm; rw [if_neg (by omega), if_pos h]; exact ctX9_of t G l hl0 b x u
    · unfold hForm; rw [if_neg (by omega), if_neg (by omega), if_pos h]; exact ctX10_of t G l hl0 b x u
    · unfold hForm; rw [if_neg (by omega), if_neg (by omega), if_neg (by omega), if_pos h]; exact ctX11_of t G l hl0 (hForm d) ih b x u
def hX3_grudge (p0 : Nat) (p1 : Int32) (p2 : Int32) (u : HS) : Option (OH Int32) :=
  mchk (hC u p0 == 3) <|
  mderef (hR u p0 11) fun a2 =>
  mchk (hC u a2 == 1) <|
  mderef (hR u a2 2) fun a5 =>
  mchk (hC u a5 == 2) <|
  mnull (hR u a5 8) (
      mchk (hC u p0 == 3) <|
      mderef (hR u p0 11) fun a11 =>
      mchk (hC u a11 == 1) <|
      mderef (hR u a11 2) fun a14 =>
      mchk (hC u a14 == 2) <|
      mderef (hR u a14 1) fun a17 =>
      mchk (hC u a17 == 12) <|
      hb (hJ2_get a17 p2 u) fun r20 u19 =>
      mchk (hC u19 r20 == 31) <|
      mchk (hC u19 r20 == 31) <|
      hb (hJ16_intValue r20 u19) fun r24 u23 =>
      hret r24 u23
    ) fun a8 =>
    mchk (hC u p0 == 3) <|
    hb (hX3_list p0 u) fun r11 u10 =>
    mchk (hC u10 p0 == 3) <|
    mderef (hR u10 p0 11) fun a14 =>
    mchk (hC u10 a14 == 1) <|
    mderef (hR u10 a14 0) fun a17 =>
    mchk (hC u10 p0 == 3) <|
    mderef (hR u10 p0 11) fun a20 =>
    mchk (hC u10 a20 == 1) <|
    mderef (hR u10 a20 2) fun a23 =>
    mchk (hC u10 a23 == 2) <|
    mderef (hR u10 a23 1) fun a26 =>
    mchk (hC u10 a26 == 12) <|
    hb (hJ2_get a26 p2 u10) fun r29 u28 =>
    mchk (hC u28 r29 == 31) <|
    mchk (hC u28 r29 == 31) <|
    hb (hJ16_intValue r29 u28) fun r33 u32 =>
    mchk (inA u32 0 a17 21) <|
    mlet (uA u32 a17 (0 : Int32).toNatClampNeg r33) fun u35 =>
    mchk (hC u35 p0 == 3) <|
    mderef (hR u35 p0 11) fun a38 =>
    mchk (hC u35 a38 == 1) <|
    mderef (hR u35 a38 0) fun a41 =>
    mchk (hC u35 p0 == 3) <|
    mderef (hR u35 p0 3) fun a44 =>
    mchk (inA u35 p1 a44 21) <|
    mchk (inA u35 1 a41 21) <|
    mlet (uA u35 a41 (1 : Int32).toNatClampNeg (hA u35 a44 p1.toNatClampNeg)) fun u47 =>
    mchk (hC u47 p0 == 3) <|
    mderef (hR u47 p0 11) fun a50 =>
    mchk (hC u47 a50 == 1) <|
    mderef (hR u47 a50 0) fun a53 =>
    mchk (hC u47 p0 == 3) <|
    mderef (hR u47 p0 11) fun a56 =>
    mchk (hC u47 a56 == 1) <|
    mderef (hR u47 a56 2) fun a59 =>
    mchk (hC u47 a59 == 2) <|
    mderef (hR u47 a59 5) fun a62 =>
    mchk (inA u47 p1 a62 21) <|
    mchk (inA u47 2 a53 21) <|
    mlet (uA u47 a53 (2 : Int32).toNatClampNeg (((hA u47 a62 p1.toNatClampNeg) >>> (p2 &&& 31)) &&& 1)) fun u65 =>
    mchk (hC u65 p0 == 3) <|
    mderef (hR u65 p0 11) fun a68 =>
    mchk (hC u65 a68 == 1) <|
    mderef (hR u65 a68 0) fun a71 =>
    mchk (hC u65 p0 == 3) <|
    mderef (hR u65 p0 11) fun a74 =>
    mchk (hC u65 a74 == 1) <|
    mderef (hR u65 a74 2) fun a77 =>
    mchk (hC u65 a77 == 2) <|
    mderef (hR u65 a77 4) fun a80 =>
    mchk (inA u65 p1 a80 21) <|
    mchk (inA u65 3 a71 21) <|
    mlet (uA u65 a71 (3 : Int32).toNatClampNeg (((hA u65 a80 p1.toNatClampNeg) >>> (p2 &&& 31)) &&& 1)) fun u83 =>
    mchk (hC u83 p0 == 3) <|
    mderef (hR u83 p0 11) fun a86 =>
    mchk (hC u83 a86 == 1) <|
    mderef (hR u83 a86 0) fun a89 =>
    mchk (hC u83 p0 == 3) <|
    mderef (hR u83 p0 11) fun a92 =>
    mchk (hC u83 a92 == 1) <|
    mderef (hR u83 a92 2) fun a95 =>
    mchk (hC u83 a95 == 2) <|
    mderef (hR u83 a95 3) fun a98 =>
    mchk (inA u83 p2 a98 21) <|
    hb (hJ16_bitCount ((hA u83 a98 p2.toNatClampNeg) &&& r11) u83) fun r102 u101 =>
    mchk (inA u101 4 a89 21) <|
    mlet (uA u101 a89 (4 : Int32).toNatClampNeg r102) fun u103 =>
    mchk (hC u103 p0 == 3) <|
    mderef (hR u103 p0 11) fun a106 =>
    mchk (hC u103 a106 == 1) <|
    mderef (hR u103 a106 0) fun a109 =>
    hb (hJ16_bitCount r11 u103) fun r112 u111 =>
    mchk (inA u111 5 a109 21) <|
    mlet (uA u111 a109 (5 : Int32).toNatClampNeg r112) fun u113 =>
    mchk (hC u113 p0 == 3) <|
    mderef (hR u113 p0 11) fun a116 =>
    mchk (hC u113 a116 == 1) <|
    mderef (hR u113 a116 0) fun a119 =>
    mchk (hC u113 p0 == 3) <|
    mchk (inA u113 6 a119 21) <|
    mlet (uA u113 a119 (6 : Int32).toNatClampNeg (hI u113 p0 6)) fun u122 =>
    mchk (hC u122 p0 == 3) <|
    mderef (hR u122 p0 11) fun a125 =>
    mchk (hC u122 a125 == 1) <|
    mderef (hR u122 a125 0) fun a128 =>
    mchk (hC u122 p0 == 3) <|
    mchk (inA u122 7 a128 21) <|
    mlet (uA u122 a128 (7 : Int32).toNatClampNeg (hI u122 p0 8)) fun u131 =>
    mchk (hC u131 p0 == 3) <|
    mderef (hR u131 p0 11) fun a134 =>
    mchk (hC u131 a134 == 1) <|
    mderef (hR u131 a134 2) fun a137 =>
    mchk (hC u131 a137 == 2) <|
    mderef (hR u131 a137 8) fun a140 =>
    mchk (hC u131 p0 == 3) <|
    mderef (hR u131 p0 11) fun a143 =>
    mchk (hC u131 a143 == 1) <|
    mderef (hR u131 a143 0) fun a146 =>
    mchk (isForm (hC u131 a140)) <|
    hb (hForm 100 a140 a146 u131) fun r149 u148 =>
    hret r149 u148
theorem ctX3_grudge (t : TT) (G : GH) (l : Launch) (hl0 : l.stackTraces = false) (p0 : Nat) (p1 : Int32) (p2 : Int32) (u : HS) : CtH mkI t G l yX3_grudge cX3_grudge 4 (some .int) 420 [.ref p0, .int p1, .int p2] u (hX3_grudge p0 p1 p2 u) := by
  refine ctH_of [(0, .ref p0), (1, .int p1), (2, .int p2)] hl0 rfl (Nat.le_of_ble_eq_true rfl) rfl (fun K1 K2 p e s m args below meth c C => ?_)
  unfold hX3_grudge
  refine v_aload_n C.1 0 rfl rfl dX3_grudge_0 ?_
  refine v_chk (fun h1 => ?_)
  refine v_hget C (v := va_rf (hR u p0 11)) 2 11 (eq_of_beq h1) (by decide) rfl in_X3 (by decide) (Or.inl q278) (fun _ h => h) (hF_r (ci := 2) (eq_of_beq h1) (by decide)) dX3_grudge_1 ?_
  refine v_deref (fun a2 e3 => ?_)
  refine v_chk (fun h4 => ?_)
  refine v_hget C (v := va_rf (hR u a2 2)) 0 2 (eq_of_beq h4) (by decide) rfl in_X1 (by decide) (Or.inr ⟨_, q310⟩) (fun _ h => h) (hF_r (ci := 0) (eq_of_beq h4) (by decide)) dX3_grudge_4 ?_
  refine v_deref (fun a5 e6 => ?_)
  refine v_chk (fun h7 => ?_)
  refine v_hget C (v := va_rf (hR u a5 8)) 1 8 (eq_of_beq h7) (by decide) rfl in_X2 (by decide) (Or.inr ⟨_, q225⟩) (fun _ h => h) (hF_r (ci := 1) (eq_of_beq h7) (by decide)) dX3_grudge_7 ?_
  refine v_ifnonnull C 36 (by decide) dX3_grudge_10 (fun e9 => ?_) (fun a8 e9 => ?_)
  · refine v_aload_n C.1 0 rfl rfl dX3_grudge_13 ?_
    refine v_chk (fun h10 => ?_)
    refine v_hget C (v := va_rf (hR u p0 11)) 2 11 (eq_of_beq h10) (by decide) rfl in_X3 (by decide) (Or.inl q278) (fun _ h => h) (hF_r (ci := 2) (eq_of_beq h10) (by decide)) dX3_grudge_14 ?_
    refine v_deref (fun a11 e12 => ?_)
    refine v_chk (fun h13 => ?_)
    refine v_hget C (v := va_rf (hR u a11 2)) 0 2 (eq_of_beq h13) (by decide) rfl in_X1 (by decide) (Or.inr ⟨_, q310⟩) (fun _ h => h) (hF_r (ci := 0) (eq_of_beq h13) (by decide)) dX3_grudge_17 ?_
    refine v_deref (fun a14 e15 => ?_)
    refine v_chk (fun h16 => ?_)
    refine v_hget C (v := va_rf (hR u a14 1)) 1 1 (eq_of_beq h16) (by decide) rfl in_X2 (by decide) (Or.inr ⟨_, q201⟩) (fun _ h => h) (hF_r (ci := 1) (eq_of_beq h16) (by decide)) dX3_grudge_20 ?_
    refine v_deref (fun a17 e18 => ?_)
    refine v_iload_n C.1 2 rfl rfl dX3_grudge_23 ?_
    refine v_chk (fun h21 => ?_)
    refine v_callFH C [.int p2] [] (ctJ2_get t G l hl0 a17 p2 u) (fun _ _ => cwJ2_getF C q513 (by decide)) (eq_of_beq h21) (by decide) rfl rfl rfl (by exact Nat.le_of_ble_eq_true rfl) dX3_grudge_24 (fun r20 u19 => ?_)
    refine v_chk (fun h22 => ?_)
    refine v_hcastB C (eq_of_beq h22) q525 dX3_grudge_29 ?_
    refine v_chk (fun h25 => ?_)
    refine v_callVH C [] [] (ctJ16_intValue t G l hl0 r20 u19) (fun _ _ => cwJ16_intValue C q526 (by decide)) (recB C (eq_of_beq h25)) rfl rfl (by exact Nat.le_of_ble_eq_true rfl) dX3_grudge_32 (fun r24 u23 => ?_)
    exact v_hiret C dX3_grudge_35
  · refine v_aload_n C.1 0 rfl rfl dX3_grudge_36 ?_
    refine v_chk (fun h12 => ?_)
    refine v_callVH C [] [] (ctX3_list t G l hl0 p0 u) (fun _ _ => cwX3_list C q530 (by decide)) (recO C (ci := 2) (eq_of_beq h12) (by decide) rfl) rfl rfl (by exact Nat.le_of_ble_eq_true rfl) dX3_grudge_37 (fun r11 u10 => ?_)
    refine v_istore_n C.1 [(3, .int r11), (0, .ref p0), (1, .int p1), (2, .int p2)] rfl (by decide) rfl dX3_grudge_40 ?_
    refine v_aload_n C.1 1 rfl rfl dX3_grudge_41 ?_
    refine v_chk (fun h13 => ?_)
    refine v_hget C (v := va_rf (hR u10 p0 11)) 2 11 (eq_of_beq h13) (by decide) rfl in_X3 (by decide) (Or.inl q278) (fun _ h => h) (hF_r (ci := 2) (eq_of_beq h13) (by decide)) dX3_grudge_42 ?_
    refine v_deref (fun a14 e15 => ?_)
    refine v_chk (fun h16 => ?_)
    refine v_hget C (v := va_rf (hR u10 a14 0)) 0 0 (eq_of_beq h16) (by decide) rfl in_X1 (by decide) (Or.inr ⟨_, q307⟩) (fun _ h => h) (hF_r (ci := 0) (eq_of_beq h16) (by decide)) dX3_grudge_45 ?_
    refine v_deref (fun a17 e18 => ?_)
    refine v_iconst C.1 0 (by decide) dX3_grudge_48 ?_
    refine v_aload_n C.1 1 rfl rfl dX3_grudge_49 ?_
    refine v_chk (fun h19 => ?_)
    refine v_hget C (v := va_rf (hR u10 p0 11)) 2 11 (eq_of_beq h19) (by decide) rfl in_X3 (by decide) (Or.inl q278) (fun _ h => h) (hF_r (ci := 2) (eq_of_beq h19) (by decide)) dX3_grudge_50 ?_
    refine v_deref (fun a20 e21 => ?_)
    refine v_chk (fun h22 => ?_)
    refine v_hget C (v := va_rf (hR u10 a20 2)) 0 2 (eq_of_beq h22) (by decide) rfl in_X1 (by decide) (Or.inr ⟨_, q310⟩) (fun _ h => h) (hF_r (ci := 0) (eq_of_beq h22) (by decide)) dX3_grudge_53 ?_
    refine v_deref (fun a23 e24 => ?_)
    refine v_chk (fun h25 => ?_)
    refine v_hget C (v := va_rf (hR u10 a23 1)) 1 1 (eq_of_beq h25) (by decide) rfl in_X2 (by decide) (Or.inr ⟨_, q201⟩) (fun _ h => h) (hF_r (ci := 1) (eq_of_beq h25) (by decide)) dX3_grudge_56 ?_
    refine v_deref (fun a26 e27 => ?_)
    refine v_iload_n C.1 3 rfl rfl dX3_grudge_59 ?_
    refine v_chk (fun h30 => ?_)
    refine v_callFH C [.int p2] [.int 0, .ref a17] (ctJ2_get t G l hl0 a26 p2 u10) (fun _ _ => cwJ2_getF C q513 (by decide)) (eq_of_beq h30) (by decide) rfl rfl rfl (by exact Nat.le_of_ble_eq_true rfl) dX3_grudge_60 (fun r29 u28 => ?_)
    refine v_chk (fun h31 => ?_)
    refine v_hcastB C (eq_of_beq h31) q525 dX3_grudge_65 ?_
    refine v_chk (fun h34 => ?_)
    refine v_callVH C [] [.int 0, .ref a17] (ctJ16_intValue t G l hl0 r29 u28) (fun _ _ => cwJ16_intValue C q526 (by decide)) (recB C (eq_of_beq h34)) rfl rfl (by exact Nat.le_of_ble_eq_true rfl) dX3_grudge_68 (fun r33 u32 => ?_)
    refine v_chk (fun h36 => ?_)
    refine v_haiast C h36 dX3_grudge_71 (fun u35 => ?_)
    refine v_aload_n C.1 1 rfl rfl dX3_grudge_72 ?_
    refine v_chk (fun h37 => ?_)
    refine v_hget C (v := va_rf (hR u35 p0 11)) 2 11 (eq_of_beq h37) (by decide) rfl in_X3 (by decide) (Or.inl q278) (fun _ h => h) (hF_r (ci := 2) (eq_of_beq h37) (by decide)) dX3_grudge_73 ?_
    refine v_deref (fun a38 e39 => ?_)
    refine v_chk (fun h40 => ?_)
    refine v_hget C (v := va_rf (hR u35 a38 0)) 0 0 (eq_of_beq h40) (by decide) rfl in_X1 (by decide) (Or.inr ⟨_, q307⟩) (fun _ h => h) (hF_r (ci := 0) (eq_of_beq h40) (by decide)) dX3_grudge_76 ?_
    refine v_deref (fun a41 e42 => ?_)
    refine v_iconst C.1 1 (by decide) dX3_grudge_79 ?_
    refine v_aload_n C.1 1 rfl rfl dX3_grudge_80 ?_
    refine v_chk (fun h43 => ?_)
    refine v_hget C (v := va_rf (hR u35 p0 3)) 2 3 (eq_of_beq h43) (by decide) rfl in_X3 (by decide) (Or.inl q261) (fun _ h => h) (hF_r (ci := 2) (eq_of_beq h43) (by decide)) dX3_grudge_81 ?_
    refine v_deref (fun a44 e45 => ?_)
    refine v_iload_n C.1 2 rfl rfl dX3_grudge_84 ?_
    refine v_chk (fun h46 => ?_)
    refine v_haiald C h46 dX3_grudge_85 ?_
    refine v_chk (fun h48 => ?_)
    refine v_haiast C h48 dX3_grudge_86 (fun u47 => ?_)
    refine v_aload_n C.1 1 rfl rfl dX3_grudge_87 ?_
    refine v_chk (fun h49 => ?_)
    refine v_hget C (v := va_rf (hR u47 p0 11)) 2 11 (eq_of_beq h49) (by decide) rfl in_X3 (by decide) (Or.inl q278) (fun _ h => h) (hF_r (ci := 2) (eq_of_beq h49) (by decide)) dX3_grudge_88 ?_
    refine v_deref (fun a50 e51 => ?_)
    refine v_chk (fun h52 => ?_)
    refine v_hget C (v := va_rf (hR u47 a50 0)) 0 0 (eq_of_beq h52) (by decide) rfl in_X1 (by decide) (Or.inr ⟨_, q307⟩) (fun _ h => h) (hF_r (ci := 0) (eq_of_beq h52) (by decide)) dX3_grudge_91 ?_
    refine v_deref (fun a53 e54 => ?_)
    refine v_iconst C.1 2 (by decide) dX3_grudge_94 ?_
    refine v_aload_n C.1 1 rfl rfl dX3_grudge_95 ?_
    refine v_chk (fun h55 => ?_)
    refine v_hget C (v := va_rf (hR u47 p0 11)) 2 11 (eq_of_beq h55) (by decide) rfl in_X3 (by decide) (Or.inl q278) (fun _ h => h) (hF_r (ci := 2) (eq_of_beq h55) (by decide)) dX3_grudge_96 ?_
    refine v_deref (fun a56 e57 => ?_)
    refine v_chk (fun h58 => ?_)
    refine v_hget C (v := va_rf (hR u47 a56 2)) 0 2 (eq_of_beq h58) (by decide) rfl in_X1 (by decide) (Or.inr ⟨_, q310⟩) (fun _ h => h) (hF_r (ci := 0) (eq_of_beq h58) (by decide)) dX3_grudge_99 ?_
    refine v_deref (fun a59 e60 => ?_)
    refine v_chk (fun h61 => ?_)
    refine v_hget C (v := va_rf (hR u47 a59 5)) 1 5 (eq_of_beq h61) (by decide) rfl in_X2 (by decide) (Or.inr ⟨_, q216⟩) (fun _ h => h) (hF_r (ci := 1) (eq_of_beq h61) (by decide)) dX3_grudge_102 ?_
    refine v_deref (fun a62 e63 => ?_)
    refine v_iload_n C.1 2 rfl rfl dX3_grudge_105 ?_
    refine v_chk (fun h64 => ?_)
    refine v_haiald C h64 dX3_grudge_106 ?_
    refine v_iload_n C.1 3 rfl rfl dX3_grudge_107 ?_
    refine v_ishr C.1 dX3_grudge_108 ?_
    refine v_iconst C.1 1 (by decide) dX3_grudge_109 ?_
    refine v_iand C.1 dX3_grudge_110 ?_
    refine v_chk (fun h66 => ?_)
    refine v_haiast C h66 dX3_grudge_111 (fun u65 => ?_)
    refine v_aload_n C.1 1 rfl rfl dX3_grudge_112 ?_
    refine v_chk (fun h67 => ?_)
    refine v_hget C (v := va_rf (hR u65 p0 11)) 2 11 (eq_of_beq h67) (by decide) rfl in_X3 (by decide) (Or.inl q278) (fun _ h => h) (hF_r (ci := 2) (eq_of_beq h67) (by decide)) dX3_grudge_113 ?_
    refine v_deref (fun a68 e69 => ?_)
    refine v_chk (fun h70 => ?_)
    refine v_hget C (v := va_rf (hR u65 a68 0)) 0 0 (eq_of_beq h70) (by decide) rfl in_X1 (by decide) (Or.inr ⟨_, q307⟩) (fun _ h => h) (hF_r (ci := 0) (eq_of_beq h70) (by decide)) dX3_grudge_116 ?_
    refine v_deref (fun a71 e72 => ?_)
    refine v_iconst C.1 3 (by decide) dX3_grudge_119 ?_
    refine v_aload_n C.1 1 rfl rfl dX3_grudge_120 ?_
    refine v_chk (fun h73 => ?_)
    refine v_hget C (v := va_rf (hR u65 p0 11)) 2 11 (eq_of_beq h73) (by decide) rfl in_X3 (by decide) (Or.inl q278) (fun _ h => h) (hF_r (ci := 2) (eq_of_beq h73) (by decide)) dX3_grudge_121 ?_
    refine v_deref (fun a74 e75 => ?_)
    refine v_chk (fun h76 => ?_)
    refine v_hget C (v := va_rf (hR u65 a74 2)) 0 2 (eq_of_beq h76) (by decide) rfl in_X1 (by decide) (Or.inr ⟨_, q310⟩) (fun _ h => h) (hF_r (ci := 0) (eq_of_beq h76) (by decide)) dX3_grudge_124 ?_
    refine v_deref (fun a77 e78 => ?_)
    refine v_chk (fun h79 => ?_)
    refine v_hget C (v := va_rf (hR u65 a77 4)) 1 4 (eq_of_beq h79) (by decide) rfl in_X2 (by decide) (Or.inr ⟨_, q212⟩) (fun _ h => h) (hF_r (ci := 1) (eq_of_beq h79) (by decide)) dX3_grudge_127 ?_
    refine v_deref (fun a80 e81 => ?_)
    refine v_iload_n C.1 2 rfl rfl dX3_grudge_130 ?_
    refine v_chk (fun h82 => ?_)
    refine v_haiald C h82 dX3_grudge_131 ?_
    refine v_iload_n C.1 3 rfl rfl dX3_grudge_132 ?_
    refine v_ishr C.1 dX3_grudge_133 ?_
    refine v_iconst C.1 1 (by decide) dX3_grudge_134 ?_
    refine v_iand C.1 dX3_grudge_135 ?_
    refine v_chk (fun h84 => ?_)
    refine v_haiast C h84 dX3_grudge_136 (fun u83 => ?_)
    refine v_aload_n C.1 1 rfl rfl dX3_grudge_137 ?_
    refine v_chk (fun h85 => ?_)
    refine v_hget C (v := va_rf (hR u83 p0 11)) 2 11 (eq_of_beq h85) (by decide) rfl in_X3 (by decide) (Or.inl q278) (fun _ h => h) (hF_r (ci := 2) (eq_of_beq h85) (by decide)) dX3_grudge_138 ?_
    refine v_deref (fun a86 e87 => ?_)
    refine v_chk (fun h88 => ?_)
    refine v_hget C (v := va_rf (hR u83 a86 0)) 0 0 (eq_of_beq h88) (by decide) rfl in_X1 (by decide) (Or.inr ⟨_, q307⟩) (fun _ h => h) (hF_r (ci := 0) (eq_of_beq h88) (by decide)) dX3_grudge_141 ?_
    refine v_deref (fun a89 e90 => ?_)
    refine v_iconst C.1 4 (by decide) dX3_grudge_144 ?_
    refine v_aload_n C.1 1 rfl rfl dX3_grudge_145 ?_
    refine v_chk (fun h91 => ?_)
    refine v_hget C (v := va_rf (hR u83 p0 11)) 2 11 (eq_of_beq h91) (by decide) rfl in_X3 (by decide) (Or.inl q278) (fun _ h => h) (hF_r (ci := 2) (eq_of_beq h91) (by decide)) dX3_grudge_146 ?_
    refine v_deref (fun a92 e93 => ?_)
    refine v_chk (fun h94 => ?_)
    refine v_hget C (v := va_rf (hR u83 a92 2)) 0 2 (eq_of_beq h94) (by decide) rfl in_X1 (by decide) (Or.inr ⟨_, q310⟩) (fun _ h => h) (hF_r (ci := 0) (eq_of_beq h94) (by decide)) dX3_grudge_149 ?_
    refine v_deref (fun a95 e96 => ?_)
    refine v_chk (fun h97 => ?_)
    refine v_hget C (v := va_rf (hR u83 a95 3)) 1 3 (eq_of_beq h97) (by decide) rfl in_X2 (by decide) (Or.inr ⟨_, q208⟩) (fun _ h => h) (hF_r (ci := 1) (eq_of_beq h97) (by decide)) dX3_grudge_152 ?_
    refine v_deref (fun a98 e99 => ?_)
    refine v_iload_n C.1 3 rfl rfl dX3_grudge_155 ?_
    refine v_chk (fun h100 => ?_)
    refine v_haiald C h100 dX3_grudge_156 ?_
    refine v_iload_n C.1 0 rfl rfl dX3_grudge_157 ?_
    refine v_iand C.1 dX3_grudge_158 ?_
    refine v_callSH C [.int ((hA u83 a98 p2.toNatClampNeg) &&& r11)] [.int 4, .ref a89] (ctJ16_bitCount t G l hl0 ((hA u83 a98 p2.toNatClampNeg) &&& r11) u83) (fun _ _ => cwJ16_bitCount C q534 (by decide)) rfl rfl (by exact Nat.le_of_ble_eq_true rfl) dX3_grudge_159 (fun r102 u101 => ?_)
    refine v_chk (fun h104 => ?_)
    refine v_haiast C h104 dX3_grudge_162 (fun u103 => ?_)
    refine v_aload_n C.1 1 rfl rfl dX3_grudge_163 ?_
    refine v_chk (fun h105 => ?_)
    refine v_hget C (v := va_rf (hR u103 p0 11)) 2 11 (eq_of_beq h105) (by decide) rfl in_X3 (by decide) (Or.inl q278) (fun _ h => h) (hF_r (ci := 2) (eq_of_beq h105) (by decide)) dX3_grudge_164 ?_
    refine v_deref (fun a106 e107 => ?_)
    refine v_chk (fun h108 => ?_)
    refine v_hget C (v := va_rf (hR u103 a106 0)) 0 0 (eq_of_beq h108) (by decide) rfl in_X1 (by decide) (Or.inr ⟨_, q307⟩) (fun _ h => h) (hF_r (ci := 0) (eq_of_beq h108) (by decide)) dX3_grudge_167 ?_
    refine v_deref (fun a109 e110 => ?_)
    refine v_iconst C.1 5 (by decide) dX3_grudge_170 ?_
    refine v_iload_n C.1 0 rfl rfl dX3_grudge_171 ?_
    refine v_callSH C [.int r11] [.int 5, .ref a109] (ctJ16_bitCount t G l hl0 r11 u103) (fun _ _ => cwJ16_bitCount C q534 (by decide)) rfl rfl (by exact Nat.le_of_ble_eq_true rfl) dX3_grudge_172 (fun r112 u111 => ?_)
    refine v_chk (fun h114 => ?_)
    refine v_haiast C h114 dX3_grudge_175 (fun u113 => ?_)
    refine v_aload_n C.1 1 rfl rfl dX3_grudge_176 ?_
    refine v_chk (fun h115 => ?_)
    refine v_hget C (v := va_rf (hR u113 p0 11)) 2 11 (eq_of_beq h115) (by decide) rfl in_X3 (by decide) (Or.inl q278) (fun _ h => h) (hF_r (ci := 2) (eq_of_beq h115) (by decide)) dX3_grudge_177 ?_
    refine v_deref (fun a116 e117 => ?_)
    refine v_chk (fun h118 => ?_)
    refine v_hget C (v := va_rf (hR u113 a116 0)) 0 0 (eq_of_beq h118) (by decide) rfl in_X1 (by decide) (Or.inr ⟨_, q307⟩) (fun _ h => h) (hF_r (ci := 0) (eq_of_beq h118) (by decide)) dX3_grudge_180 ?_
    refine v_deref (fun a119 e120 => ?_)
    refine v_bipush C.1 6 (by decide) dX3_grudge_183 ?_
    refine v_aload_n C.1 1 rfl rfl dX3_grudge_185 ?_
    refine v_chk (fun h121 => ?_)
    refine v_hget C (v := .int (hI u113 p0 6)) 2 6 (eq_of_beq h121) (by decide) rfl in_X3 (by decide) (Or.inl q268) (fun _ h => h) (hF_i (ci := 2) (eq_of_beq h121) (by decide)) dX3_grudge_186 ?_
    refine v_chk (fun h123 => ?_)
    refine v_haiast C h123 dX3_grudge_189 (fun u122 => ?_)
    refine v_aload_n C.1 1 rfl rfl dX3_grudge_190 ?_
    refine v_chk (fun h124 => ?_)
    refine v_hget C (v := va_rf (hR u122 p0 11)) 2 11 (eq_of_beq h124) (by decide) rfl in_X3 (by decide) (Or.inl q278) (fun _ h => h) (hF_r (ci := 2) (eq_of_beq h124) (by decide)) dX3_grudge_191 ?_
    refine v_deref (fun a125 e126 => ?_)
    refine v_chk (fun h127 => ?_)
    refine v_hget C (v := va_rf (hR u122 a125 0)) 0 0 (eq_of_beq h127) (by decide) rfl in_X1 (by decide) (Or.inr ⟨_, q307⟩) (fun _ h => h) (hF_r (ci := 0) (eq_of_beq h127) (by decide)) dX3_grudge_194 ?_
    refine v_deref (fun a128 e129 => ?_)
    refine v_bipush C.1 7 (by decide) dX3_grudge_197 ?_
    refine v_aload_n C.1 1 rfl rfl dX3_grudge_199 ?_
    refine v_chk (fun h130 => ?_)
    refine v_hget C (v := .int (hI u122 p0 8)) 2 8 (eq_of_beq h130) (by decide) rfl in_X3 (by decide) (Or.inl q272) (fun _ h => h) (hF_i (ci := 2) (eq_of_beq h130) (by decide)) dX3_grudge_200 ?_
    refine v_chk (fun h132 => ?_)
    refine v_haiast C h132 dX3_grudge_203 (fun u131 => ?_)
    refine v_aload_n C.1 1 rfl rfl dX3_grudge_204 ?_
    refine v_chk (fun h133 => ?_)
    refine v_hget C (v := va_rf (hR u131 p0 11)) 2 11 (eq_of_beq h133) (by decide) rfl in_X3 (by decide) (Or.inl q278) (fun _ h => h) (hF_r (ci := 2) (eq_of_beq h133) (by decide)) dX3_grudge_205 ?_
    refine v_deref (fun a134 e135 => ?_)
    refine v_chk (fun h136 => ?_)
    refine v_hget C (v := va_rf (hR u131 a134 2)) 0 2 (eq_of_beq h136) (by decide) rfl in_X1 (by decide) (Or.inr ⟨_, q310⟩) (fun _ h => h) (hF_r (ci := 0) (eq_of_beq h136) (by decide)) dX3_grudge_208 ?_
    refine v_deref (fun a137 e138 => ?_)
    refine v_chk (fun h139 => ?_)
    refine v_hget C (v := va_rf (hR u131 a137 8)) 1 8 (eq_of_beq h139) (by decide) rfl in_X2 (by decide) (Or.inr ⟨_, q225⟩) (fun _ h => h) (hF_r (ci := 1) (eq_of_beq h139) (by decide)) dX3_grudge_211 ?_
    refine v_deref (fun a140 e141 => ?_)
    refine v_aload_n C.1 1 rfl rfl dX3_grudge_214 ?_
    refine v_chk (fun h142 => ?_)
    refine v_hget C (v := va_rf (hR u131 p0 11)) 2 11 (eq_of_beq h142) (by decide) rfl in_X3 (by decide) (Or.inl q278) (fun _ h => h) (hF_r (ci := 2) (eq_of_beq h142) (by decide)) dX3_grudge_215 ?_
    refine v_deref (fun a143 e144 => ?_)
    refine v_chk (fun h145 => ?_)
    refine v_hget C (v := va_rf (hR u131 a143 0)) 0 0 (eq_of_beq h145) (by decide) rfl in_X1 (by decide) (Or.inr ⟨_, q307⟩) (fun _ h => h) (hF_r (ci := 0) (eq_of_beq h145) (by decide)) dX3_grudge_218 ?_
    refine v_deref (fun a146 e147 => ?_)
    refine v_chk (fun h150 => ?_)
    refine v_callForm C [] (formC t G l hl0 100) q541 h150 (by omega) rfl (by exact Nat.le_of_ble_eq_true rfl) dX3_grudge_221 (fun r149 u148 => ?_)
    exact v_hiret C dX3_grudge_226
theorem cwX3_grudge {t : TT} {G : GH} {l : Launch} {p : Program} {s : State} {m : MethodId} {args : Array Value} {meth : Method} {c : Code} {y0 : MethodName} {cc0 : ByteArray} {nL0 : Nat} {ret0 : Option FieldType} (C : CxH t G l p s m args meth c y0 cc0 nL0 ret0) {index lv mc ms K1 K2 : Nat} (hq : Cond.methodLink y0.cls index yX3_grudge ∈ lw_all) (hR : 420 + 1 ≤ lv) : CallW (rmH lv K1 K2) s args y0.cls RX3 index yX3_grudge cX3_grudge 4 (some .int) (ws_ yX3_grudge cX3_grudge 4 (some .int)) (rmH 420 mc ms) mc ms 2 :=
  cwV 2 C.1.2.2.2.2.1 (lw_V hq q509 q510 q126 q511) rfl rfl rfl (by decide +kernel) ⟨hR, by show 8 + (4 + 11) + 100 * 420 ≤ 100 * lv; omega⟩
end
