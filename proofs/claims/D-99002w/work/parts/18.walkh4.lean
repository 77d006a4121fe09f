/-! walks in mode H, printed by tools/genh.py -/
set_option maxRecDepth 100000
section
variable {t : TT} {G : GH} {l : Launch}
def hX1_restore (p0 : Nat) (u : HS) : Option (OH Int32) :=
  mchk (hC u p0 == 1) <|
  mnull (hR u p0 10) (
      hz id 0 u
    ) fun a2 =>
    mchk (hC u p0 == 1) <|
    mderef (hR u p0 10) fun a5 =>
    mchk (hC u a5 == 3) <|
    hb (hX3_copy a5 u) fun r8 u7 =>
    mchk (hC u7 p0 == 1) <|
    mlet (uR u7 p0 3 (some r8)) fun u11 =>
    mlet (hZ u11) fun a12 =>
    addc 1 (cN 11) <|
    mlet (nO u11 11) fun u14 =>
    mchk (hC u14 p0 == 1) <|
    mderef (hR u14 p0 11) fun a16 =>
    hb (hJ2_init_2 a12 a16 u14) fun _ u18 =>
    mchk (hC u18 p0 == 1) <|
    mlet (uR u18 p0 8 (some a12)) fun u20 =>
    mlet (hZ u20) fun a21 =>
    addc 1 (cN 11) <|
    mlet (nO u20 11) fun u23 =>
    mchk (hC u23 p0 == 1) <|
    mderef (hR u23 p0 12) fun a25 =>
    hb (hJ2_init_2 a21 a25 u23) fun _ u27 =>
    mchk (hC u27 p0 == 1) <|
    mlet (uR u27 p0 9 (some a21)) fun u29 =>
    hz id 1 u29
theorem ctX1_restore (t : TT) (G : GH) (l : Launch) (hl0 : l.stackTraces = false) (p0 : Nat) (u : HS) : CtH mkI t G l yX1_restore cX1_restore 1 (some .boolean) 7 [.ref p0] u (hX1_restore p0 u) := by
  refine ctH_of [(0, .ref p0)] hl0 rfl (Nat.le_of_ble_eq_true rfl) rfl (fun K1 K2 p e s m args below meth c C => ?_)
  unfold hX1_restore
  refine v_aload_n C.1 0 rfl rfl dX1_restore_0 ?_
  refine v_chk (fun h1 => ?_)
  refine v_hget C (v := va_rf (hR u p0 10)) 0 10 (eq_of_beq h1) (by decide) rfl in_X1 (by decide) (Or.inl q320) (fun _ h => h) (hF_r (ci := 0) (eq_of_beq h1) (by decide)) dX1_restore_1 ?_
  refine v_ifnonnull C 9 (by decide) dX1_restore_4 (fun e3 => ?_) (fun a2 e3 => ?_)
  · refine v_iconst C.1 0 (by decide) dX1_restore_7 ?_
    exact v_hzret C dX1_restore_8
  · refine v_aload_n C.1 0 rfl rfl dX1_restore_9 ?_
    refine v_aload_n C.1 0 rfl rfl dX1_restore_10 ?_
    refine v_chk (fun h4 => ?_)
    refine v_hget C (v := va_rf (hR u p0 10)) 0 10 (eq_of_beq h4) (by decide) rfl in_X1 (by decide) (Or.inl q320) (fun _ h => h) (hF_r (ci := 0) (eq_of_beq h4) (by decide)) dX1_restore_11 ?_
    refine v_deref (fun a5 e6 => ?_)
    refine v_chk (fun h9 => ?_)
    refine v_callVH C [] [.ref p0] (ctX3_copy t G l hl0 a5 u) (fun _ _ => cwX3_copy C q377 (by decide)) (recO C (ci := 2) (eq_of_beq h9) (by decide) rfl) rfl rfl (by exact Nat.le_of_ble_eq_true rfl) dX1_restore_14 (fun r8 u7 => ?_)
    refine v_chk (fun h10 => ?_)
    refine v_hputR C (some r8) 0 3 (eq_of_beq h10) (by decide) rfl in_X1 tyX1 tyX1_ok nmX1 (by decide) (by decide) q312 (fun _ h => h) (Or.inl rfl) rfl rfl dX1_restore_17 (fun u11 => ?_)
    refine v_aload_n C.1 0 rfl rfl dX1_restore_20 ?_
    refine v_letE (fun a12 e13 => ?_)
    refine v_hnew C 11 e13 (by decide) rfl in_J2 tyJ2 tyJ2_ok df_J2 q304 q170 q125 dX1_restore_21 (fun u14 => ?_)
    refine v_dup C.1 rfl dX1_restore_24 ?_
    refine v_aload_n C.1 0 rfl rfl dX1_restore_25 ?_
    refine v_chk (fun h15 => ?_)
    refine v_hget C (v := va_rf (hR u14 p0 11)) 0 11 (eq_of_beq h15) (by decide) rfl in_X1 (by decide) (Or.inl q321) (fun _ h => h) (hF_r (ci := 0) (eq_of_beq h15) (by decide)) dX1_restore_26 ?_
    refine v_deref (fun a16 e17 => ?_)
    refine v_callIH C [.ref a16] [.ref a12, .ref p0] (ctJ2_init_2 t G l hl0 a12 a16 u14) (fun _ _ => cwJ2_init_2 C q723 (by decide)) rfl rfl (by exact Nat.le_of_ble_eq_true rfl) dX1_restore_29 (fun _ u18 => ?_)
    refine v_chk (fun h19 => ?_)
    refine v_hputR C (some a12) 0 8 (eq_of_beq h19) (by decide) rfl in_X1 tyX1 tyX1_ok nmX1 (by decide) (by decide) q318 (fun _ h => h) (Or.inl rfl) rfl rfl dX1_restore_32 (fun u20 => ?_)
    refine v_aload_n C.1 0 rfl rfl dX1_restore_35 ?_
    refine v_letE (fun a21 e22 => ?_)
    refine v_hnew C 11 e22 (by decide) rfl in_J2 tyJ2 tyJ2_ok df_J2 q304 q170 q125 dX1_restore_36 (fun u23 => ?_)
    refine v_dup C.1 rfl dX1_restore_39 ?_
    refine v_aload_n C.1 0 rfl rfl dX1_restore_40 ?_
    refine v_chk (fun h24 => ?_)
    refine v_hget C (v := va_rf (hR u23 p0 12)) 0 12 (eq_of_beq h24) (by decide) rfl in_X1 (by decide) (Or.inl q322) (fun _ h => h) (hF_r (ci := 0) (eq_of_beq h24) (by decide)) dX1_restore_41 ?_
    refine v_deref (fun a25 e26 => ?_)
    refine v_callIH C [.ref a25] [.ref a21, .ref p0] (ctJ2_init_2 t G l hl0 a21 a25 u23) (fun _ _ => cwJ2_init_2 C q723 (by decide)) rfl rfl (by exact Nat.le_of_ble_eq_true rfl) dX1_restore_44 (fun _ u27 => ?_)
    refine v_chk (fun h28 => ?_)
    refine v_hputR C (some a21) 0 9 (eq_of_beq h28) (by decide) rfl in_X1 tyX1 tyX1_ok nmX1 (by decide) (by decide) q319 (fun _ h => h) (Or.inl rfl) rfl rfl dX1_restore_47 (fun u29 => ?_)
    refine v_iconst C.1 1 (by decide) dX1_restore_50 ?_
    exact v_hzret C dX1_restore_51
theorem cwX1_restore {t : TT} {G : GH} {l : Launch} {p : Program} {s : State} {m : MethodId} {args : Array Value} {meth : Method} {c : Code} {y0 : MethodName} {cc0 : ByteArray} {nL0 : Nat} {ret0 : Option FieldType} (C : CxH t G l p s m args meth c y0 cc0 nL0 ret0) {index lv mc ms K1 K2 : Nat} (hq : Cond.methodLink y0.cls index yX1_restore ∈ lw_all) (hR : 7 + 1 ≤ lv) : CallW (rmH lv K1 K2) s args y0.cls RX1 index yX1_restore cX1_restore 1 (some .boolean) (ws_ yX1_restore cX1_restore 1 (some .boolean)) (rmH 7 mc ms) mc ms 0 :=
  cwV 0 C.1.2.2.2.2.1 (lw_V hq q748 q749 q121 q750) rfl rfl rfl (by decide +kernel) ⟨hR, by show 8 + (1 + 11) + 100 * 7 ≤ 100 * lv; omega⟩
def hX1_right (p0 : Int32) (u : HS) : Option (OH (PX Unit)) :=
  if p0 = 0 then
    hthrow 14 u
  else
    hret (.inl ()) u
theorem ctX1_right (t : TT) (G : GH) (l : Launch) (hl0 : l.stackTraces = false) (p0 : Int32) (u : HS) : CtX mkU t G l yX1_right cX1_right 1 none 8 [.int p0] u (hX1_right p0 u) := by
  refine ctX_of [(0, .int p0)] hl0 rfl (Nat.le_of_ble_eq_true rfl) rfl (fun K1 K2 p e s m args below meth c C => ?_)
  unfold hX1_right
  refine v_iload_n C.1.1 0 rfl rfl dX1_right_0 ?_
  refine v_if_ne C.1.1 12 (by decide) dX1_right_1 (fun _ => ?_) (fun _ => ?_)
  · exact v_xthrow C 14 rfl (by decide) q763 q131 xw_IAE (by decide +kernel) (by decide) (by exact Nat.le_of_ble_eq_true rfl) dX1_right_4 dX1_right_7 dX1_right_8 dX1_right_11
  · exact v_xvret C.1 dX1_right_12
theorem cwX1_right {t : TT} {G : GH} {l : Launch} {p : Program} {s : State} {m : MethodId} {args : Array Value} {meth : Method} {c : Code} {y0 : MethodName} {cc0 : ByteArray} {nL0 : Nat} {ret0 : Option FieldType} (C : CxH t G l p s m args meth c y0 cc0 nL0 ret0) {index lv mc ms K1 K2 : Nat} (hq : Cond.methodLink y0.cls index yX1_right ∈ lw_all) (hR : 8 + 1 ≤ lv) : CallB (rmH lv K1 K2) s args y0.cls index yX1_right cX1_right 1 none (ws_ yX1_right cX1_right 1 none) (rmH 8 mc ms) mc ms 1 ∧ (Cond.static yX1_right).before args s = true :=
  ⟨callB_of 1 C.1.2.2.2.2.1 (lw_meth q762) rfl rfl rfl (C.1.2.2.2.2.1 _ q121) (C.1.2.2.2.2.1 _ hq) (by decide +kernel) ⟨hR, by show 8 + (1 + 11) + 100 * 8 ≤ 100 * lv; omega⟩, C.1.2.2.2.2.1 _ q761⟩
def hX3_away_4 (p0 : Nat) (k : Int32 → Int32 → HS → Option (OH Int32)) (x1 : Int32) (x2 : Int32) (u : HS) : Option (OH Int32) :=
  mchk (hC u p0 == 3) <|
  mderef (hR u p0 11) fun a2 =>
  mchk (hC u a2 == 1) <|
  mderef (hR u a2 2) fun a5 =>
  mchk (hC u a5 == 2) <|
  hb (hX2_people a5 u) fun r8 u7 =>
  if r8 ≤ x2 then
    hret x1 u7
  else
    mchk (hC u7 p0 == 3) <|
    hb (hX3_isAway p0 x2 u7) fun r11 u10 =>
    if r11 = 0 then
      k x1 (x2 + 1) u10
    else
      mlet (x1 ||| ((1 : Int32) <<< (x2 &&& 31))) fun v13 =>
      k v13 (x2 + 1) u10
theorem whX3_away_4 {K1 K2 : Nat} {p : Program} {e : Env} {s : State} {m : MethodId} {args : Array Value} {below : List Frame} {meth : Method} {c : Code} (hl0 : l.stackTraces = false) (C : CxH t G l p s m args meth c yX3_away cX3_away 3 (some .int)) (p0 : Nat) (n : Nat) (x1 : Int32) (x2 : Int32) (u : HS) : VH mkI t G p l e 7 K1 K2 s m args below meth c 3 4 [(0, .ref p0), (1, .int x1), (2, .int x2)] [] u (ml2 (hX3_away_4 p0) n x1 x2 u) := by
  refine vl2 (L := fun x1 x2 => [(0, .ref p0), (1, .int x1), (2, .int x2)]) (fun k hk x1 x2 u => ?_) n x1 x2 u
  unfold hX3_away_4
  refine v_iload_n C.1 2 rfl rfl dX3_away_4 ?_
  refine v_aload_n C.1 0 rfl rfl dX3_away_5 ?_
  refine v_chk (fun h1 => ?_)
  refine v_hget C (v := va_rf (hR u p0 11)) 2 11 (eq_of_beq h1) (by decide) rfl in_X3 (by decide) (Or.inl q278) (fun _ h => h) (hF_r (ci := 2) (eq_of_beq h1) (by decide)) dX3_away_6 ?_
  refine v_deref (fun a2 e3 => ?_)
  refine v_chk (fun h4 => ?_)
  refine v_hget C (v := va_rf (hR u a2 2)) 0 2 (eq_of_beq h4) (by decide) rfl in_X1 (by decide) (Or.inr ⟨_, q310⟩) (fun _ h => h) (hF_r (ci := 0) (eq_of_beq h4) (by decide)) dX3_away_9 ?_
  refine v_deref (fun a5 e6 => ?_)
  refine v_chk (fun h9 => ?_)
  refine v_callVH C [] [.int x2] (ctX2_people t G l hl0 a5 u) (fun _ _ => cwX2_people C q498 (by decide)) (recO C (ci := 1) (eq_of_beq h9) (by decide) rfl) rfl rfl (by exact Nat.le_of_ble_eq_true rfl) dX3_away_12 (fun r8 u7 => ?_)
  refine v_icmp_ge C.1 38 (by decide) dX3_away_15 (fun _ => ?_) (fun _ => ?_)
  · refine v_iload_n C.1 1 rfl rfl dX3_away_38 ?_
    exact v_hiret C dX3_away_39
  · refine v_aload_n C.1 0 rfl rfl dX3_away_18 ?_
    refine v_iload_n C.1 2 rfl rfl dX3_away_19 ?_
    refine v_chk (fun h12 => ?_)
    refine v_callVH C [.int x2] [] (ctX3_isAway t G l hl0 p0 x2 u7) (fun _ _ => cwX3_isAway C q640 (by decide)) (recO C (ci := 2) (eq_of_beq h12) (by decide) rfl) rfl rfl (by exact Nat.le_of_ble_eq_true rfl) dX3_away_20 (fun r11 u10 => ?_)
    refine v_if_eq C.1 32 (by decide) dX3_away_23 (fun _ => ?_) (fun _ => ?_)
    · refine v_iinc C.1 1 [(2, .int (x2 + 1)), (0, .ref p0), (1, .int x1)] 2 rfl (by decide) (by decide) rfl dX3_away_32 ?_
      refine v_goto C.1 4 (by decide) dX3_away_35 ?_
      refine v_sub [1, 2, 0] rfl ?_
      exact hk x1 (x2 + 1) u10
    · refine v_iload_n C.1 1 rfl rfl dX3_away_26 ?_
      refine v_iconst C.1 1 (by decide) dX3_away_27 ?_
      refine v_iload_n C.1 2 rfl rfl dX3_away_28 ?_
      refine v_ishl C.1 dX3_away_29 ?_
      refine v_ior C.1 dX3_away_30 ?_
      refine v_topi (fun v13 => ?_)
      refine v_istore_n C.1 [(1, .int v13), (0, .ref p0), (2, .int x2)] rfl (by decide) rfl dX3_away_31 ?_
      refine v_iinc C.1 1 [(2, .int (x2 + 1)), (1, .int v13), (0, .ref p0)] 2 rfl (by decide) (by decide) rfl dX3_away_32 ?_
      refine v_goto C.1 4 (by decide) dX3_away_35 ?_
      refine v_sub [2, 1, 0] rfl ?_
      exact hk v13 (x2 + 1) u10
def hX3_away (p0 : Nat) (u : HS) : Option (OH Int32) :=
  ml2 (hX3_away_4 p0) FUEL 0 0 u
theorem ctX3_away (t : TT) (G : GH) (l : Launch) (hl0 : l.stackTraces = false) (p0 : Nat) (u : HS) : CtH mkI t G l yX3_away cX3_away 3 (some .int) 7 [.ref p0] u (hX3_away p0 u) := by
  refine ctH_of [(0, .ref p0)] hl0 rfl (Nat.le_of_ble_eq_true rfl) rfl (fun K1 K2 p e s m args below meth c C => ?_)
  unfold hX3_away
  refine v_iconst C.1 0 (by decide) dX3_away_0 ?_
  refine v_istore_n C.1 [(1, .int 0), (0, .ref p0)] rfl (by decide) rfl dX3_away_1 ?_
  refine v_iconst C.1 0 (by decide) dX3_away_2 ?_
  refine v_istore_n C.1 [(2, .int 0), (1, .int 0), (0, .ref p0)] rfl (by decide) rfl dX3_away_3 ?_
  refine v_sub [2, 1, 0] rfl ?_
  exact whX3_away_4 hl0 C p0 FUEL 0 0 u
theorem cwX3_away {t : TT} {G : GH} {l : Launch} {p : Program} {s : State} {m : MethodId} {args : Array Value} {meth : Method} {c : Code} {y0 : MethodName} {cc0 : ByteArray} {nL0 : Nat} {ret0 : Option FieldType} (C : CxH t G l p s m args meth c y0 cc0 nL0 ret0) {index lv mc ms K1 K2 : Nat} (hq : Cond.methodLink y0.cls index yX3_away ∈ lw_all) (hR : 7 + 1 ≤ lv) : CallW (rmH lv K1 K2) s args y0.cls RX3 index yX3_away cX3_away 3 (some .int) (ws_ yX3_away cX3_away 3 (some .int)) (rmH 7 mc ms) mc ms 0 :=
  cwV 0 C.1.2.2.2.2.1 (lw_V hq q1316 q1317 q126 q1318) rfl rfl rfl (by decide +kernel) ⟨hR, by show 8 + (3 + 11) + 100 * 7 ≤ 100 * lv; omega⟩
def hX1_barred_26 (p0 : Nat) (k12 : Int32 → Int32 → Int32 → HS → Option (OH Int32)) (k : Int32 → Int32 → Int32 → Int32 → HS → Option (OH Int32)) (x1 : Int32) (x2 : Int32) (x3 : Int32) (x4 : Int32) (u : HS) : Option (OH Int32) :=
  mchk (hC u p0 == 1) <|
  mderef (hR u p0 2) fun a2 =>
  mchk (hC u a2 == 2) <|
  hb (hX2_people a2 u) fun r5 u4 =>
  if r5 ≤ x4 then
    k12 x1 x2 (x3 + 1) u4
  else
    hb (hX1_isOf x2 x4 u4) fun r8 u7 =>
    if r8 = 0 then
      k x1 x2 x3 (x4 + 1) u7
    else
      mchk (hC u7 p0 == 1) <|
      mderef (hR u7 p0 2) fun a10 =>
      mchk (hC u7 a10 == 2) <|
      mderef (hR u7 a10 3) fun a13 =>
      mchk (inA u7 x4 a13 21) <|
      mlet (x2 ||| (hA u7 a13 x4.toNatClampNeg)) fun v16 =>
      k x1 v16 x3 (x4 + 1) u7
theorem whX1_barred_26 {K1 K2 : Nat} {p : Program} {e : Env} {s : State} {m : MethodId} {args : Array Value} {below : List Frame} {meth : Method} {c : Code} (hl0 : l.stackTraces = false) (C : CxH t G l p s m args meth c yX1_barred cX1_barred 5 (some .int)) (p0 : Nat) (k12 : Int32 → Int32 → Int32 → HS → Option (OH Int32)) (hk12 : ∀ (x1 : Int32) (x2 : Int32) (x3 : Int32) (u : HS), VH mkI t G p l e 5 K1 K2 s m args below meth c 5 12 [(0, .ref p0), (1, .int x1), (2, .int x2), (3, .int x3)] [] u (k12 x1 x2 x3 u)) (n : Nat) (x1 : Int32) (x2 : Int32) (x3 : Int32) (x4 : Int32) (u : HS) : VH mkI t G p l e 5 K1 K2 s m args below meth c 5 26 [(0, .ref p0), (1, .int x1), (2, .int x2), (3, .int x3), (4, .int x4)] [] u (ml4 (hX1_barred_26 p0 k12) n x1 x2 x3 x4 u) := by
  refine vl4 (L := fun x1 x2 x3 x4 => [(0, .ref p0), (1, .int x1), (2, .int x2), (3, .int x3), (4, .int x4)]) (fun k hk x1 x2 x3 x4 u => ?_) n x1 x2 x3 x4 u
  unfold hX1_barred_26
  refine v_iload C.1 4 rfl dX1_barred_26 ?_
  refine v_aload_n C.1 0 rfl rfl dX1_barred_28 ?_
  refine v_chk (fun h1 => ?_)
  refine v_hget C (v := va_rf (hR u p0 2)) 0 2 (eq_of_beq h1) (by decide) rfl in_X1 (by decide) (Or.inl q311) (fun _ h => h) (hF_r (ci := 0) (eq_of_beq h1) (by decide)) dX1_barred_29 ?_
  refine v_deref (fun a2 e3 => ?_)
  refine v_chk (fun h6 => ?_)
  refine v_callVH C [] [.int x4] (ctX2_people t G l hl0 a2 u) (fun _ _ => cwX2_people C q717 (by decide)) (recO C (ci := 1) (eq_of_beq h6) (by decide) rfl) rfl rfl (by exact Nat.le_of_ble_eq_true rfl) dX1_barred_32 (fun r5 u4 => ?_)
  refine v_icmp_ge C.1 66 (by decide) dX1_barred_35 (fun _ => ?_) (fun _ => ?_)
  · refine v_iinc C.1 1 [(3, .int (x3 + 1)), (0, .ref p0), (1, .int x1), (2, .int x2), (4, .int x4)] 3 rfl (by decide) (by decide) rfl dX1_barred_66 ?_
    refine v_goto C.1 12 (by decide) dX1_barred_69 ?_
    refine v_sub [1, 2, 3, 0] rfl ?_
    exact hk12 x1 x2 (x3 + 1) u4
  · refine v_iload_n C.1 2 rfl rfl dX1_barred_38 ?_
    refine v_iload C.1 4 rfl dX1_barred_39 ?_
    refine v_callSH C [.int x2, .int x4] [] (ctX1_isOf t G l hl0 x2 x4 u4) (fun _ _ => cwX1_isOf C q1323 (by decide)) rfl rfl (by exact Nat.le_of_ble_eq_true rfl) dX1_barred_41 (fun r8 u7 => ?_)
    refine v_if_eq C.1 60 (by decide) dX1_barred_44 (fun _ => ?_) (fun _ => ?_)
    · refine v_iinc C.1 1 [(4, .int (x4 + 1)), (0, .ref p0), (1, .int x1), (2, .int x2), (3, .int x3)] 4 rfl (by decide) (by decide) rfl dX1_barred_60 ?_
      refine v_goto C.1 26 (by decide) dX1_barred_63 ?_
      refine v_sub [1, 2, 3, 4, 0] rfl ?_
      exact hk x1 x2 x3 (x4 + 1) u7
    · refine v_iload_n C.1 2 rfl rfl dX1_barred_47 ?_
      refine v_aload_n C.1 0 rfl rfl dX1_barred_48 ?_
      refine v_chk (fun h9 => ?_)
      refine v_hget C (v := va_rf (hR u7 p0 2)) 0 2 (eq_of_beq h9) (by decide) rfl in_X1 (by decide) (Or.inl q311) (fun _ h => h) (hF_r (ci := 0) (eq_of_beq h9) (by decide)) dX1_barred_49 ?_
      refine v_deref (fun a10 e11 => ?_)
      refine v_chk (fun h12 => ?_)
      refine v_hget C (v := va_rf (hR u7 a10 3)) 1 3 (eq_of_beq h12) (by decide) rfl in_X2 (by decide) (Or.inr ⟨_, q209⟩) (fun _ h => h) (hF_r (ci := 1) (eq_of_beq h12) (by decide)) dX1_barred_52 ?_
      refine v_deref (fun a13 e14 => ?_)
      refine v_iload C.1 4 rfl dX1_barred_55 ?_
      refine v_chk (fun h15 => ?_)
      refine v_haiald C h15 dX1_barred_57 ?_
      refine v_ior C.1 dX1_barred_58 ?_
      refine v_topi (fun v16 => ?_)
      refine v_istore_n C.1 [(2, .int v16), (0, .ref p0), (1, .int x1), (3, .int x3), (4, .int x4)] rfl (by decide) rfl dX1_barred_59 ?_
      refine v_iinc C.1 1 [(4, .int (x4 + 1)), (2, .int v16), (0, .ref p0), (1, .int x1), (3, .int x3)] 4 rfl (by decide) (by decide) rfl dX1_barred_60 ?_
      refine v_goto C.1 26 (by decide) dX1_barred_63 ?_
      refine v_sub [2, 3, 1, 4, 0] rfl ?_
      exact hk x1 v16 x3 (x4 + 1) u7
def hX1_barred_12 (p0 : Nat) (k : Int32 → Int32 → Int32 → HS → Option (OH Int32)) (x1 : Int32) (x2 : Int32) (x3 : Int32) (u : HS) : Option (OH Int32) :=
  mchk (hC u p0 == 1) <|
  mderef (hR u p0 2) fun a2 =>
  mchk (hC u a2 == 2) <|
  hb (hX2_people a2 u) fun r5 u4 =>
  if r5 ≤ x3 then
    hret (x2 &&& (x1 ^^^ (-1))) u4
  else
    ml4 (hX1_barred_26 p0 k) FUEL x1 x2 x3 0 u4
theorem whX1_barred_12 {K1 K2 : Nat} {p : Program} {e : Env} {s : State} {m : MethodId} {args : Array Value} {below : List Frame} {meth : Method} {c : Code} (hl0 : l.stackTraces = false) (C : CxH t G l p s m args meth c yX1_barred cX1_barred 5 (some .int)) (p0 : Nat) (n : Nat) (x1 : Int32) (x2 : Int32) (x3 : Int32) (u : HS) : VH mkI t G p l e 5 K1 K2 s m args below meth c 5 12 [(0, .ref p0), (1, .int x1), (2, .int x2), (3, .int x3)] [] u (ml3 (hX1_barred_12 p0) n x1 x2 x3 u) := by
  refine vl3 (L := fun x1 x2 x3 => [(0, .ref p0), (1, .int x1), (2, .int x2), (3, .int x3)]) (fun k hk x1 x2 x3 u => ?_) n x1 x2 x3 u
  unfold hX1_barred_12
  refine v_iload_n C.1 3 rfl rfl dX1_barred_12 ?_
  refine v_aload_n C.1 0 rfl rfl dX1_barred_13 ?_
  refine v_chk (fun h1 => ?_)
  refine v_hget C (v := va_rf (hR u p0 2)) 0 2 (eq_of_beq h1) (by decide) rfl in_X1 (by decide) (Or.inl q311) (fun _ h => h) (hF_r (ci := 0) (eq_of_beq h1) (by decide)) dX1_barred_14 ?_
  refine v_deref (fun a2 e3 => ?_)
  refine v_chk (fun h6 => ?_)
  refine v_callVH C [] [.int x3] (ctX2_people t G l hl0 a2 u) (fun _ _ => cwX2_people C q717 (by decide)) (recO C (ci := 1) (eq_of_beq h6) (by decide) rfl) rfl rfl (by exact Nat.le_of_ble_eq_true rfl) dX1_barred_17 (fun r5 u4 => ?_)
  refine v_icmp_ge C.1 72 (by decide) dX1_barred_20 (fun _ => ?_) (fun _ => ?_)
  · refine v_iload_n C.1 2 rfl rfl dX1_barred_72 ?_
    refine v_iload_n C.1 1 rfl rfl dX1_barred_73 ?_
    refine v_iconst C.1 (-1) (by decide) dX1_barred_74 ?_
    refine v_ixor C.1 dX1_barred_75 ?_
    refine v_iand C.1 dX1_barred_76 ?_
    exact v_hiret C dX1_barred_77
  · refine v_iconst C.1 0 (by decide) dX1_barred_23 ?_
    refine v_istore C.1 [(4, .int 0), (0, .ref p0), (1, .int x1), (2, .int x2), (3, .int x3)] (by decide) rfl dX1_barred_24 ?_
    refine v_sub [1, 2, 3, 4, 0] rfl ?_
    exact whX1_barred_26 hl0 C p0 k hk FUEL x1 x2 x3 0 u4
def hX1_barred (p0 : Nat) (u : HS) : Option (OH Int32) :=
  mchk (hC u p0 == 1) <|
  mderef (hR u p0 3) fun a2 =>
  mchk (hC u a2 == 3) <|
  hb (hX3_list a2 u) fun r5 u4 =>
  ml3 (hX1_barred_12 p0) FUEL r5 r5 0 u4
theorem ctX1_barred (t : TT) (G : GH) (l : Launch) (hl0 : l.stackTraces = false) (p0 : Nat) (u : HS) : CtH mkI t G l yX1_barred cX1_barred 5 (some .int) 5 [.ref p0] u (hX1_barred p0 u) := by
  refine ctH_of [(0, .ref p0)] hl0 rfl (Nat.le_of_ble_eq_true rfl) rfl (fun K1 K2 p e s m args below meth c C => ?_)
  unfold hX1_barred
  refine v_aload_n C.1 0 rfl rfl dX1_barred_0 ?_
  refine v_chk (fun h1 => ?_)
  refine v_hget C (v := va_rf (hR u p0 3)) 0 3 (eq_of_beq h1) (by decide) rfl in_X1 (by decide) (Or.inl q312) (fun _ h => h) (hF_r (ci := 0) (eq_of_beq h1) (by decide)) dX1_barred_1 ?_
  refine v_deref (fun a2 e3 => ?_)
  refine v_chk (fun h6 => ?_)
  refine v_callVH C [] [] (ctX3_list t G l hl0 a2 u) (fun _ _ => cwX3_list C q712 (by decide)) (recO C (ci := 2) (eq_of_beq h6) (by decide) rfl) rfl rfl (by exact Nat.le_of_ble_eq_true rfl) dX1_barred_4 (fun r5 u4 => ?_)
  refine v_istore_n C.1 [(1, .int r5), (0, .ref p0)] rfl (by decide) rfl dX1_barred_7 ?_
  refine v_iload_n C.1 0 rfl rfl dX1_barred_8 ?_
  refine v_istore_n C.1 [(2, .int r5), (1, .int r5), (0, .ref p0)] rfl (by decide) rfl dX1_barred_9 ?_
  refine v_iconst C.1 0 (by decide) dX1_barred_10 ?_
  refine v_istore_n C.1 [(3, .int 0), (2, .int r5), (1, .int r5), (0, .ref p0)] rfl (by decide) rfl dX1_barred_11 ?_
  refine v_sub [3, 2, 1, 0] rfl ?_
  exact whX1_barred_12 hl0 C p0 FUEL r5 r5 0 u4
theorem cwX1_barred {t : TT} {G : GH} {l : Launch} {p : Program} {s : State} {m : MethodId} {args : Array Value} {meth : Method} {c : Code} {y0 : MethodName} {cc0 : ByteArray} {nL0 : Nat} {ret0 : Option FieldType} (C : CxH t G l p s m args meth c y0 cc0 nL0 ret0) {index lv mc ms K1 K2 : Nat} (hq : Cond.methodLink y0.cls index yX1_barred ∈ lw_all) (hR : 5 + 1 ≤ lv) : CallW (rmH lv K1 K2) s args y0.cls RX1 index yX1_barred cX1_barred 5 (some .int) (ws_ yX1_barred cX1_barred 5 (some .int)) (rmH 5 mc ms) mc ms 0 :=
  cwV 0 C.1.2.2.2.2.1 (lw_V hq q1321 qs39 q121 q1322) rfl rfl rfl (by decide +kernel) ⟨hR, by show 8 + (5 + 11) + 100 * 5 ≤ 100 * lv; omega⟩
def hX1_found (p0 : Int32) (u : HS) : Option (OH (PX Unit)) :=
  if p0 = 0 then
    hthrow 15 u
  else
    hret (.inl ()) u
theorem ctX1_found (t : TT) (G : GH) (l : Launch) (hl0 : l.stackTraces = false) (p0 : Int32) (u : HS) : CtX mkU t G l yX1_found cX1_found 1 none 8 [.int p0] u (hX1_found p0 u) := by
  refine ctX_of [(0, .int p0)] hl0 rfl (Nat.le_of_ble_eq_true rfl) rfl (fun K1 K2 p e s m args below meth c C => ?_)
  unfold hX1_found
  refine v_iload_n C.1.1 0 rfl rfl dX1_found_0 ?_
  refine v_if_ne C.1.1 12 (by decide) dX1_found_1 (fun _ => ?_) (fun _ => ?_)
  · exact v_xthrow C 15 rfl (by decide) q1327 q154 xw_NSE (by decide +kernel) (by decide) (by exact Nat.le_of_ble_eq_true rfl) dX1_found_4 dX1_found_7 dX1_found_8 dX1_found_11
  · exact v_xvret C.1 dX1_found_12
theorem cwX1_found {t : TT} {G : GH} {l : Launch} {p : Program} {s : State} {m : MethodId} {args : Array Value} {meth : Method} {c : Code} {y0 : MethodName} {cc0 : ByteArray} {nL0 : Nat} {ret0 : Option FieldType} (C : CxH t G l p s m args meth c y0 cc0 nL0 ret0) {index lv mc ms K1 K2 : Nat} (hq : Cond.methodLink y0.cls index yX1_found ∈ lw_all) (hR : 8 + 1 ≤ lv) : CallB (rmH lv K1 K2) s args y0.cls index yX1_found cX1_found 1 none (ws_ yX1_found cX1_found 1 none) (rmH 8 mc ms) mc ms 1 ∧ (Cond.static yX1_found).before args s = true :=
  ⟨callB_of 1 C.1.2.2.2.2.1 (lw_meth q1326) rfl rfl rfl (C.1.2.2.2.2.1 _ q121) (C.1.2.2.2.2.1 _ hq) (by decide +kernel) ⟨hR, by show 8 + (1 + 11) + 100 * 8 ≤ 100 * lv; omega⟩, C.1.2.2.2.2.1 _ q1325⟩
def hX1_count (p0 : Nat) (p1 : Int32) (u : HS) : Option (OH (PX Int32)) :=
  if p1 = 0 then
    mchk (hC u p0 == 1) <|
    mderef (hR u p0 2) fun a3 =>
    mchk (hC u a3 == 2) <|
    hret (.inl (hI u a3 7)) u
  else
    if p1 = 1 then
      mchk (hC u p0 == 1) <|
      mderef (hR u p0 2) fun a4 =>
      mchk (hC u a4 == 2) <|
      mderef (hR u a4 0) fun a7 =>
      mchk (hC u a7 == 12) <|
      hb (hJ2_size a7 u) fun r10 u9 =>
      hret (.inl r10) u9
    else
      if p1 = 2 then
        mchk (hC u p0 == 1) <|
        mderef (hR u p0 2) fun a5 =>
        mchk (hC u a5 == 2) <|
        mderef (hR u a5 2) fun a8 =>
        mchk (hC u a8 == 12) <|
        hb (hJ2_size a8 u) fun r11 u10 =>
        hret (.inl r11) u10
      else
        if p1 = 3 then
          mchk (hC u p0 == 1) <|
          mderef (hR u p0 2) fun a6 =>
          mchk (hC u a6 == 2) <|
          hb (hX2_people a6 u) fun r9 u8 =>
          hret (.inl r9) u8
        else
          if p1 = 4 then
            mchk (hC u p0 == 1) <|
            mderef (hR u p0 3) fun a7 =>
            mchk (hC u a7 == 3) <|
            hret (.inl (hI u a7 6)) u
          else
            if p1 = 5 then
              mchk (hC u p0 == 1) <|
              mderef (hR u p0 3) fun a8 =>
              mchk (hC u a8 == 3) <|
              hb (hX3_list a8 u) fun r11 u10 =>
              hret (.inl r11) u10
            else
              if p1 = 6 then
                mchk (hC u p0 == 1) <|
                mderef (hR u p0 3) fun a9 =>
                mchk (hC u a9 == 3) <|
                hret (.inl (hI u a9 7)) u
              else
                if p1 = 7 then
                  mchk (hC u p0 == 1) <|
                  mderef (hR u p0 3) fun a10 =>
                  mchk (hC u a10 == 3) <|
                  hb (hX3_away a10 u) fun r13 u12 =>
                  hret (.inl r13) u12
                else
                  if p1 = 8 then
                    mchk (hC u p0 == 1) <|
                    mderef (hR u p0 3) fun a11 =>
                    mchk (hC u a11 == 3) <|
                    hret (.inl (hI u a11 8)) u
                  else
                    if p1 = 9 then
                      mchk (hC u p0 == 1) <|
                      mderef (hR u p0 3) fun a12 =>
                      mchk (hC u a12 == 3) <|
                      if (hI u a12 10) = 0 then
                        hret (.inl 0) u
                      else
                        hret (.inl 1) u
                    else
                      if p1 = 10 then
                        mchk (hC u p0 == 1) <|
                        hb (hX1_barred p0 u) fun r13 u12 =>
                        hret (.inl r13) u12
                      else
                        if p1 = 11 then
                          mchk (hC u p0 == 1) <|
                          mderef (hR u p0 8) fun a14 =>
                          mchk (hC u a14 == 12) <|
                          hb (hJ2_size a14 u) fun r17 u16 =>
                          hret (.inl r17) u16
                        else
                          if p1 = 12 then
                            mchk (hC u p0 == 1) <|
                            mderef (hR u p0 9) fun a15 =>
                            mchk (hC u a15 == 12) <|
                            hb (hJ2_size a15 u) fun r18 u17 =>
                            hret (.inl r18) u17
                          else
                            if p1 = 13 then
                              mchk (hC u p0 == 1) <|
                              hret (.inl (hI u p0 5)) u
                            else
                              hb (hX1_in p1 14 16 u) fun r16 u15 =>
                              hx (hX1_found r16 u15) fun _ u17 =>
                              mchk (hC u17 p0 == 1) <|
                              mderef (hR u17 p0 7) fun a19 =>
                              mchk (inA u17 (p1 - 14) a19 21) <|
                              hret (.inl (hA u17 a19 (p1 - 14).toNatClampNeg)) u17
theorem ctX1_count (t : TT) (G : GH) (l : Launch) (hl0 : l.stackTraces = false) (p0 : Nat) (p1 : Int32) (u : HS) : CtX mkI t G l yX1_count cX1_count 2 (some .int) 9 [.ref p0, .int p1] u (hX1_count p0 p1 u) := by
  refine ctX_of [(0, .ref p0), (1, .int p1)] hl0 rfl (Nat.le_of_ble_eq_true rfl) rfl (fun K1 K2 p e s m args below meth c C => ?_)
  unfold hX1_count
  refine v_iload_n C.1.1 1 rfl rfl dX1_count_0 ?_
  refine v_if (fun h1 => ?_) (fun h1 => ?_)
  · refine v_tableIn C.1.1 (71) 72 (by rw [h1]; decide) (by rw [h1]; decide) (by rw [h1]; rfl) (by decide) dX1_count_1 ?_
    refine v_aload_n C.1.1 0 rfl rfl dX1_count_72 ?_
    refine v_chk (fun h2 => ?_)
    refine v_hget C.1 (v := va_rf (hR u p0 2)) 0 2 (eq_of_beq h2) (by decide) rfl in_X1 (by decide) (Or.inl q311) (fun _ h => h) (hF_r (ci := 0) (eq_of_beq h2) (by decide)) dX1_count_73 ?_
    refine v_deref (fun a3 e4 => ?_)
    refine v_chk (fun h5 => ?_)
    refine v_hget C.1 (v := .int (hI u a3 7)) 1 7 (eq_of_beq h5) (by decide) rfl in_X2 (by decide) (Or.inr ⟨_, q222⟩) (fun _ h => h) (hF_i (ci := 1) (eq_of_beq h5) (by decide)) dX1_count_76 ?_
    exact v_xiret C.1 dX1_count_79
  · skip
    refine v_if (fun h2 => ?_) (fun h2 => ?_)
    · refine v_tableIn C.1.1 (79) 80 (by rw [h2]; decide) (by rw [h2]; decide) (by rw [h2]; rfl) (by decide) dX1_count_1 ?_
      refine v_aload_n C.1.1 0 rfl rfl dX1_count_80 ?_
      refine v_chk (fun h3 => ?_)
      refine v_hget C.1 (v := va_rf (hR u p0 2)) 0 2 (eq_of_beq h3) (by decide) rfl in_X1 (by decide) (Or.inl q311) (fun _ h => h) (hF_r (ci := 0) (eq_of_beq h3) (by decide)) dX1_count_81 ?_
      refine v_deref (fun a4 e5 => ?_)
      refine v_chk (fun h6 => ?_)
      refine v_hget C.1 (v := va_rf (hR u a4 0)) 1 0 (eq_of_beq h6) (by decide) rfl in_X2 (by decide) (Or.inr ⟨_, q197⟩) (fun _ h => h) (hF_r (ci := 1) (eq_of_beq h6) (by decide)) dX1_count_84 ?_
      refine v_deref (fun a7 e8 => ?_)
      refine v_chk (fun h11 => ?_)
      refine v_callFH C.1 [] [] (ctJ2_size t G l hl0 a7 u) (fun _ _ => cwJ2_sizeF C.1 q453 (by decide)) (eq_of_beq h11) (by decide) rfl rfl rfl (by exact Nat.le_of_ble_eq_true rfl) dX1_count_87 (fun r10 u9 => ?_)
      exact v_xiret C.1 dX1_count_92
    · skip
      refine v_if (fun h3 => ?_) (fun h3 => ?_)
      · refine v_tableIn C.1.1 (92) 93 (by rw [h3]; decide) (by rw [h3]; decide) (by rw [h3]; rfl) (by decide) dX1_count_1 ?_
        refine v_aload_n C.1.1 0 rfl rfl dX1_count_93 ?_
        refine v_chk (fun h4 => ?_)
        refine v_hget C.1 (v := va_rf (hR u p0 2)) 0 2 (eq_of_beq h4) (by decide) rfl in_X1 (by decide) (Or.inl q311) (fun _ h => h) (hF_r (ci := 0) (eq_of_beq h4) (by decide)) dX1_count_94 ?_
        refine v_deref (fun a5 e6 => ?_)
        refine v_chk (fun h7 => ?_)
        refine v_hget C.1 (v := va_rf (hR u a5 2)) 1 2 (eq_of_beq h7) (by decide) rfl in_X2 (by decide) (Or.inr ⟨_, q205⟩) (fun _ h => h) (hF_r (ci := 1) (eq_of_beq h7) (by decide)) dX1_count_97 ?_
        refine v_deref (fun a8 e9 => ?_)
        refine v_chk (fun h12 => ?_)
        refine v_callFH C.1 [] [] (ctJ2_size t G l hl0 a8 u) (fun _ _ => cwJ2_sizeF C.1 q453 (by decide)) (eq_of_beq h12) (by decide) rfl rfl rfl (by exact Nat.le_of_ble_eq_true rfl) dX1_count_100 (fun r11 u10 => ?_)
        exact v_xiret C.1 dX1_count_105
      · skip
        refine v_if (fun h4 => ?_) (fun h4 => ?_)
        · refine v_tableIn C.1.1 (105) 106 (by rw [h4]; decide) (by rw [h4]; decide) (by rw [h4]; rfl) (by decide) dX1_count_1 ?_
          refine v_aload_n C.1.1 0 rfl rfl dX1_count_106 ?_
          refine v_chk (fun h5 => ?_)
          refine v_hget C.1 (v := va_rf (hR u p0 2)) 0 2 (eq_of_beq h5) (by decide) rfl in_X1 (by decide) (Or.inl q311) (fun _ h => h) (hF_r (ci := 0) (eq_of_beq h5) (by decide)) dX1_count_107 ?_
          refine v_deref (fun a6 e7 => ?_)
          refine v_chk (fun h10 => ?_)
          refine v_callVH C.1 [] [] (ctX2_people t G l hl0 a6 u) (fun _ _ => cwX2_people C.1 q717 (by decide)) (recO C.1 (ci := 1) (eq_of_beq h10) (by decide) rfl) rfl rfl (by exact Nat.le_of_ble_eq_true rfl) dX1_count_110 (fun r9 u8 => ?_)
          exact v_xiret C.1 dX1_count_113
        · skip
          refine v_if (fun h5 => ?_) (fun h5 => ?_)
          · refine v_tableIn C.1.1 (113) 114 (by rw [h5]; decide) (by rw [h5]; decide) (by rw [h5]; rfl) (by decide) dX1_count_1 ?_
            refine v_aload_n C.1.1 0 rfl rfl dX1_count_114 ?_
            refine v_chk (fun h6 => ?_)
            refine v_hget C.1 (v := va_rf (hR u p0 3)) 0 3 (eq_of_beq h6) (by decide) rfl in_X1 (by decide) (Or.inl q312) (fun _ h => h) (hF_r (ci := 0) (eq_of_beq h6) (by decide)) dX1_count_115 ?_
            refine v_deref (fun a7 e8 => ?_)
            refine v_chk (fun h9 => ?_)
            refine v_hget C.1 (v := .int (hI u a7 6)) 2 6 (eq_of_beq h9) (by decide) rfl in_X3 (by decide) (Or.inr ⟨_, q269⟩) (fun _ h => h) (hF_i (ci := 2) (eq_of_beq h9) (by decide)) dX1_count_118 ?_
            exact v_xiret C.1 dX1_count_121
          · skip
            refine v_if (fun h6 => ?_) (fun h6 => ?_)
            · refine v_tableIn C.1.1 (121) 122 (by rw [h6]; decide) (by rw [h6]; decide) (by rw [h6]; rfl) (by decide) dX1_count_1 ?_
              refine v_aload_n C.1.1 0 rfl rfl dX1_count_122 ?_
              refine v_chk (fun h7 => ?_)
              refine v_hget C.1 (v := va_rf (hR u p0 3)) 0 3 (eq_of_beq h7) (by decide) rfl in_X1 (by decide) (Or.inl q312) (fun _ h => h) (hF_r (ci := 0) (eq_of_beq h7) (by decide)) dX1_count_123 ?_
              refine v_deref (fun a8 e9 => ?_)
              refine v_chk (fun h12 => ?_)
              refine v_callVH C.1 [] [] (ctX3_list t G l hl0 a8 u) (fun _ _ => cwX3_list C.1 q712 (by decide)) (recO C.1 (ci := 2) (eq_of_beq h12) (by decide) rfl) rfl rfl (by exact Nat.le_of_ble_eq_true rfl) dX1_count_126 (fun r11 u10 => ?_)
              exact v_xiret C.1 dX1_count_129
            · skip
              refine v_if (fun h7 => ?_) (fun h7 => ?_)
              · refine v_tableIn C.1.1 (129) 130 (by rw [h7]; decide) (by rw [h7]; decide) (by rw [h7]; rfl) (by decide) dX1_count_1 ?_
                refine v_aload_n C.1.1 0 rfl rfl dX1_count_130 ?_
                refine v_chk (fun h8 => ?_)
                refine v_hget C.1 (v := va_rf (hR u p0 3)) 0 3 (eq_of_beq h8) (by decide) rfl in_X1 (by decide) (Or.inl q312) (fun _ h => h) (hF_r (ci := 0) (eq_of_beq h8) (by decide)) dX1_count_131 ?_
                refine v_deref (fun a9 e10 => ?_)
                refine v_chk (fun h11 => ?_)
                refine v_hget C.1 (v := .int (hI u a9 7)) 2 7 (eq_of_beq h11) (by decide) rfl in_X3 (by decide) (Or.inr ⟨_, q271⟩) (fun _ h => h) (hF_i (ci := 2) (eq_of_beq h11) (by decide)) dX1_count_134 ?_
                exact v_xiret C.1 dX1_count_137
              · skip
                refine v_if (fun h8 => ?_) (fun h8 => ?_)
                · refine v_tableIn C.1.1 (137) 138 (by rw [h8]; decide) (by rw [h8]; decide) (by rw [h8]; rfl) (by decide) dX1_count_1 ?_
                  refine v_aload_n C.1.1 0 rfl rfl dX1_count_138 ?_
                  refine v_chk (fun h9 => ?_)
                  refine v_hget C.1 (v := va_rf (hR u p0 3)) 0 3 (eq_of_beq h9) (by decide) rfl in_X1 (by decide) (Or.inl q312) (fun _ h => h) (hF_r (ci := 0) (eq_of_beq h9) (by decide)) dX1_count_139 ?_
                  refine v_deref (fun a10 e11 => ?_)
                  refine v_chk (fun h14 => ?_)
                  refine v_callVH C.1 [] [] (ctX3_away t G l hl0 a10 u) (fun _ _ => cwX3_away C.1 q1315 (by decide)) (recO C.1 (ci := 2) (eq_of_beq h14) (by decide) rfl) rfl rfl (by exact Nat.le_of_ble_eq_true rfl) dX1_count_142 (fun r13 u12 => ?_)
                  exact v_xiret C.1 dX1_count_145
                · skip
                  refine v_if (fun h9 => ?_) (fun h9 => ?_)
                  · refine v_tableIn C.1.1 (145) 146 (by rw [h9]; decide) (by rw [h9]; decide) (by rw [h9]; rfl) (by decide) dX1_count_1 ?_
                    refine v_aload_n C.1.1 0 rfl rfl dX1_count_146 ?_
                    refine v_chk (fun h10 => ?_)
                    refine v_hget C.1 (v := va_rf (hR u p0 3)) 0 3 (eq_of_beq h10) (by decide) rfl in_X1 (by decide) (Or.inl q312) (fun _ h => h) (hF_r (ci := 0) (eq_of_beq h10) (by decide)) dX1_count_147 ?_
                    refine v_deref (fun a11 e12 => ?_)
                    refine v_chk (fun h13 => ?_)
                    refine v_hget C.1 (v := .int (hI u a11 8)) 2 8 (eq_of_beq h13) (by decide) rfl in_X3 (by decide) (Or.inr ⟨_, q273⟩) (fun _ h => h) (hF_i (ci := 2) (eq_of_beq h13) (by decide)) dX1_count_150 ?_
                    exact v_xiret C.1 dX1_count_153
                  · skip
                    refine v_if (fun h10 => ?_) (fun h10 => ?_)
                    · refine v_tableIn C.1.1 (153) 154 (by rw [h10]; decide) (by rw [h10]; decide) (by rw [h10]; rfl) (by decide) dX1_count_1 ?_
                      refine v_aload_n C.1.1 0 rfl rfl dX1_count_154 ?_
                      refine v_chk (fun h11 => ?_)
                      refine v_hget C.1 (v := va_rf (hR u p0 3)) 0 3 (eq_of_beq h11) (by decide) rfl in_X1 (by decide) (Or.inl q312) (fun _ h => h) (hF_r (ci := 0) (eq_of_beq h11) (by decide)) dX1_count_155 ?_
                      refine v_deref (fun a12 e13 => ?_)
                      refine v_chk (fun h14 => ?_)
                      refine v_hget C.1 (v := .int (hI u a12 10)) 2 10 (eq_of_beq h14) (by decide) rfl in_X3 (by decide) (Or.inr ⟨_, q277⟩) (fun _ h => h) (hF_i (ci := 2) (eq_of_beq h14) (by decide)) dX1_count_158 ?_
                      refine v_if_eq C.1.1 168 (by decide) dX1_count_161 (fun _ => ?_) (fun _ => ?_)
                      · refine v_iconst C.1.1 0 (by decide) dX1_count_168 ?_
                        exact v_xiret C.1 dX1_count_169
                      · refine v_iconst C.1.1 1 (by decide) dX1_count_164 ?_
                        refine v_goto C.1.1 169 (by decide) dX1_count_165 ?_
                        exact v_xiret C.1 dX1_count_169
                    · skip
                      refine v_if (fun h11 => ?_) (fun h11 => ?_)
                      · refine v_tableIn C.1.1 (169) 170 (by rw [h11]; decide) (by rw [h11]; decide) (by rw [h11]; rfl) (by decide) dX1_count_1 ?_
                        refine v_aload_n C.1.1 0 rfl rfl dX1_count_170 ?_
                        refine v_chk (fun h14 => ?_)
                        refine v_callVH C.1 [] [] (ctX1_barred t G l hl0 p0 u) (fun _ _ => cwX1_barred C.1 q1319 (by decide)) (recO C.1 (ci := 0) (eq_of_beq h14) (by decide) rfl) rfl rfl (by exact Nat.le_of_ble_eq_true rfl) dX1_count_171 (fun r13 u12 => ?_)
                        exact v_xiret C.1 dX1_count_174
                      · skip
                        refine v_if (fun h12 => ?_) (fun h12 => ?_)
                        · refine v_tableIn C.1.1 (174) 175 (by rw [h12]; decide) (by rw [h12]; decide) (by rw [h12]; rfl) (by decide) dX1_count_1 ?_
                          refine v_aload_n C.1.1 0 rfl rfl dX1_count_175 ?_
                          refine v_chk (fun h13 => ?_)
                          refine v_hget C.1 (v := va_rf (hR u p0 8)) 0 8 (eq_of_beq h13) (by decide) rfl in_X1 (by decide) (Or.inl q318) (fun _ h => h) (hF_r (ci := 0) (eq_of_beq h13) (by decide)) dX1_count_176 ?_
                          refine v_deref (fun a14 e15 => ?_)
                          refine v_chk (fun h18 => ?_)
                          refine v_callFH C.1 [] [] (ctJ2_size t G l hl0 a14 u) (fun _ _ => cwJ2_sizeF C.1 q453 (by decide)) (eq_of_beq h18) (by decide) rfl rfl rfl (by exact Nat.le_of_ble_eq_true rfl) dX1_count_179 (fun r17 u16 => ?_)
                          exact v_xiret C.1 dX1_count_184
                        · skip
                          refine v_if (fun h13 => ?_) (fun h13 => ?_)
                          · refine v_tableIn C.1.1 (184) 185 (by rw [h13]; decide) (by rw [h13]; decide) (by rw [h13]; rfl) (by decide) dX1_count_1 ?_
                            refine v_aload_n C.1.1 0 rfl rfl dX1_count_185 ?_
                            refine v_chk (fun h14 => ?_)
                            refine v_hget C.1 (v := va_rf (hR u p0 9)) 0 9 (eq_of_beq h14) (by decide) rfl in_X1 (by decide) (Or.inl q319) (fun _ h => h) (hF_r (ci := 0) (eq_of_beq h14) (by decide)) dX1_count_186 ?_
                            refine v_deref (fun a15 e16 => ?_)
                            refine v_chk (fun h19 => ?_)
                            refine v_callFH C.1 [] [] (ctJ2_size t G l hl0 a15 u) (fun _ _ => cwJ2_sizeF C.1 q453 (by decide)) (eq_of_beq h19) (by decide) rfl rfl rfl (by exact Nat.le_of_ble_eq_true rfl) dX1_count_189 (fun r18 u17 => ?_)
                            exact v_xiret C.1 dX1_count_194
                          · skip
                            refine v_if (fun h14 => ?_) (fun h14 => ?_)
                            · refine v_tableIn C.1.1 (194) 195 (by rw [h14]; decide) (by rw [h14]; decide) (by rw [h14]; rfl) (by decide) dX1_count_1 ?_
                              refine v_aload_n C.1.1 0 rfl rfl dX1_count_195 ?_
                              refine v_chk (fun h15 => ?_)
                              refine v_hget C.1 (v := .int (hI u p0 5)) 0 5 (eq_of_beq h15) (by decide) rfl in_X1 (by decide) (Or.inl q315) (fun _ h => h) (hF_i (ci := 0) (eq_of_beq h15) (by decide)) dX1_count_196 ?_
                              exact v_xiret C.1 dX1_count_199
                            · skip
                              refine v_tableOut C.1.1 200 (by have := lv_neT (a := 0) h1 (by decide); have := lv_neT (a := 1) h2 (by decide); have := lv_neT (a := 2) h3 (by decide); have := lv_neT (a := 3) h4 (by decide); have := lv_neT (a := 4) h5 (by decide); have := lv_neT (a := 5) h6 (by decide); have := lv_neT (a := 6) h7 (by decide); have := lv_neT (a := 7) h8 (by decide); have := lv_neT (a := 8) h9 (by decide); have := lv_neT (a := 9) h10 (by decide); have := lv_neT (a := 10) h11 (by decide); have := lv_neT (a := 11) h12 (by decide); have := lv_neT (a := 12) h13 (by decide); have := lv_neT (a := 13) h14 (by decide); omega) (by decide) dX1_count_1 ?_
                              refine v_iload_n C.1.1 1 rfl rfl dX1_count_200 ?_
                              refine v_bipush C.1.1 14 (by decide) dX1_count_201 ?_
                              refine v_bipush C.1.1 16 (by decide) dX1_count_203 ?_
                              refine v_callSH C.1 [.int p1, .int 14, .int 16] [] (ctX1_in t G l hl0 p1 14 16 u) (fun _ _ => cwX1_in C.1 q366 (by decide)) rfl rfl (by exact Nat.le_of_ble_eq_true rfl) dX1_count_205 (fun r16 u15 => ?_)
                              refine v_callSX C [.int r16] [] (ctX1_found t G l hl0 r16 u15) (fun _ _ => cwX1_found C.1 q1324 (by decide)) rfl rfl (by exact Nat.le_of_ble_eq_true rfl) dX1_count_208 (fun _ u17 => ?_)
                              refine v_aload_n C.1.1 0 rfl rfl dX1_count_211 ?_
                              refine v_chk (fun h18 => ?_)
                              refine v_hget C.1 (v := va_rf (hR u17 p0 7)) 0 7 (eq_of_beq h18) (by decide) rfl in_X1 (by decide) (Or.inl q317) (fun _ h => h) (hF_r (ci := 0) (eq_of_beq h18) (by decide)) dX1_count_212 ?_
                              refine v_deref (fun a19 e20 => ?_)
                              refine v_iload_n C.1.1 1 rfl rfl dX1_count_215 ?_
                              refine v_bipush C.1.1 14 (by decide) dX1_count_216 ?_
                              refine v_isub C.1.1 dX1_count_218 ?_
                              refine v_chk (fun h21 => ?_)
                              refine v_haiald C.1 h21 dX1_count_219 ?_
                              exact v_xiret C.1 dX1_count_220
theorem cwX1_count {t : TT} {G : GH} {l : Launch} {p : Program} {s : State} {m : MethodId} {args : Array Value} {meth : Method} {c : Code} {y0 : MethodName} {cc0 : ByteArray} {nL0 : Nat} {ret0 : Option FieldType} (C : CxH t G l p s m args meth c y0 cc0 nL0 ret0) {index lv mc ms K1 K2 : Nat} (hq : Cond.methodLink y0.cls index yX1_count ∈ lw_all) (hR : 9 + 1 ≤ lv) : CallW (rmH lv K1 K2) s args y0.cls RX1 index yX1_count cX1_count 2 (some .int) (ws_ yX1_count cX1_count 2 (some .int)) (rmH 9 mc ms) mc ms 1 :=
  cwV 1 C.1.2.2.2.2.1 (lw_V hq q1312 q1313 q121 q1314) rfl rfl rfl (by decide +kernel) ⟨hR, by show 8 + (2 + 11) + 100 * 9 ≤ 100 * lv; omega⟩
def hX1_aMaster (p0 : Nat) (p1 : Int32) (u : HS) : Option (OH (PX Unit)) :=
  mchk (hC u p0 == 1) <|
  mderef (hR u p0 2) fun a2 =>
  mchk (hC u a2 == 2) <|
  hb (hX1_in p1 0 ((hI u a2 7) - 1) u) fun r6 u5 =>
  hx (hX1_found r6 u5) fun _ u7 =>
  hret (.inl ()) u7
theorem ctX1_aMaster (t : TT) (G : GH) (l : Launch) (hl0 : l.stackTraces = false) (p0 : Nat) (p1 : Int32) (u : HS) : CtX mkU t G l yX1_aMaster cX1_aMaster 2 none 9 [.ref p0, .int p1] u (hX1_aMaster p0 p1 u) := by
  refine ctX_of [(0, .ref p0), (1, .int p1)] hl0 rfl (Nat.le_of_ble_eq_true rfl) rfl (fun K1 K2 p e s m args below meth c C => ?_)
  unfold hX1_aMaster
  refine v_iload_n C.1.1 1 rfl rfl dX1_aMaster_0 ?_
  refine v_iconst C.1.1 0 (by decide) dX1_aMaster_1 ?_
  refine v_aload_n C.1.1 0 rfl rfl dX1_aMaster_2 ?_
  refine v_chk (fun h1 => ?_)
  refine v_hget C.1 (v := va_rf (hR u p0 2)) 0 2 (eq_of_beq h1) (by decide) rfl in_X1 (by decide) (Or.inl q311) (fun _ h => h) (hF_r (ci := 0) (eq_of_beq h1) (by decide)) dX1_aMaster_3 ?_
  refine v_deref (fun a2 e3 => ?_)
  refine v_chk (fun h4 => ?_)
  refine v_hget C.1 (v := .int (hI u a2 7)) 1 7 (eq_of_beq h4) (by decide) rfl in_X2 (by decide) (Or.inr ⟨_, q222⟩) (fun _ h => h) (hF_i (ci := 1) (eq_of_beq h4) (by decide)) dX1_aMaster_6 ?_
  refine v_iconst C.1.1 1 (by decide) dX1_aMaster_9 ?_
  refine v_isub C.1.1 dX1_aMaster_10 ?_
  refine v_callSH C.1 [.int p1, .int 0, .int ((hI u a2 7) - 1)] [] (ctX1_in t G l hl0 p1 0 ((hI u a2 7) - 1) u) (fun _ _ => cwX1_in C.1 q366 (by decide)) rfl rfl (by exact Nat.le_of_ble_eq_true rfl) dX1_aMaster_11 (fun r6 u5 => ?_)
  refine v_callSX C [.int r6] [] (ctX1_found t G l hl0 r6 u5) (fun _ _ => cwX1_found C.1 q1324 (by decide)) rfl rfl (by exact Nat.le_of_ble_eq_true rfl) dX1_aMaster_14 (fun _ u7 => ?_)
  exact v_xvret C.1 dX1_aMaster_17
theorem cwX1_aMaster {t : TT} {G : GH} {l : Launch} {p : Program} {s : State} {m : MethodId} {args : Array Value} {meth : Method} {c : Code} {y0 : MethodName} {cc0 : ByteArray} {nL0 : Nat} {ret0 : Option FieldType} (C : CxH t G l p s m args meth c y0 cc0 nL0 ret0) {index lv mc ms K1 K2 : Nat} (hq : Cond.methodLink y0.cls index yX1_aMaster ∈ lw_all) (hR : 9 + 1 ≤ lv) : CallW (rmH lv K1 K2) s args y0.cls RX1 index yX1_aMaster cX1_aMaster 2 none (ws_ yX1_aMaster cX1_aMaster 2 none) (rmH 9 mc ms) mc ms 1 :=
  cwV 1 C.1.2.2.2.2.1 (lw_V hq q1351 qs40 q121 q1352) rfl rfl rfl (by decide +kernel) ⟨hR, by show 8 + (2 + 11) + 100 * 9 ≤ 100 * lv; omega⟩
def hX1_oneOf (p0 : Int32) (p1 : Int32) (u : HS) : Option (OH (PX Unit)) :=
  hb (hX1_in p0 0 p1 u) fun r2 u1 =>
  hx (hX1_found r2 u1) fun _ u3 =>
  hret (.inl ()) u3
theorem ctX1_oneOf (t : TT) (G : GH) (l : Launch) (hl0 : l.stackTraces = false) (p0 : Int32) (p1 : Int32) (u : HS) : CtX mkU t G l yX1_oneOf cX1_oneOf 2 none 9 [.int p0, .int p1] u (hX1_oneOf p0 p1 u) := by
  refine ctX_of [(0, .int p0), (1, .int p1)] hl0 rfl (Nat.le_of_ble_eq_true rfl) rfl (fun K1 K2 p e s m args below meth c C => ?_)
  unfold hX1_oneOf
  refine v_iload_n C.1.1 0 rfl rfl dX1_oneOf_0 ?_
  refine v_iconst C.1.1 0 (by decide) dX1_oneOf_1 ?_
  refine v_iload_n C.1.1 1 rfl rfl dX1_oneOf_2 ?_
  refine v_callSH C.1 [.int p0, .int 0, .int p1] [] (ctX1_in t G l hl0 p0 0 p1 u) (fun _ _ => cwX1_in C.1 q366 (by decide)) rfl rfl (by exact Nat.le_of_ble_eq_true rfl) dX1_oneOf_3 (fun r2 u1 => ?_)
  refine v_callSX C [.int r2] [] (ctX1_found t G l hl0 r2 u1) (fun _ _ => cwX1_found C.1 q1324 (by decide)) rfl rfl (by exact Nat.le_of_ble_eq_true rfl) dX1_oneOf_6 (fun _ u3 => ?_)
  exact v_xvret C.1 dX1_oneOf_9
theorem cwX1_oneOf {t : TT} {G : GH} {l : Launch} {p : Program} {s : State} {m : MethodId} {args : Array Value} {meth : Method} {c : Code} {y0 : MethodName} {cc0 : ByteArray} {nL0 : Nat} {ret0 : Option FieldType} (C : CxH t G l p s m args meth c y0 cc0 nL0 ret0) {index lv mc ms K1 K2 : Nat} (hq : Cond.methodLink y0.cls index yX1_oneOf ∈ lw_all) (hR : 9 + 1 ≤ lv) : CallB (rmH lv K1 K2) s args y0.cls index yX1_oneOf cX1_oneOf 2 none (ws_ yX1_oneOf cX1_oneOf 2 none) (rmH 9 mc ms) mc ms 2 ∧ (Cond.static yX1_oneOf).before args s = true :=
  ⟨callB_of 2 C.1.2.2.2.2.1 (lw_meth q1355) rfl rfl rfl (C.1.2.2.2.2.1 _ q121) (C.1.2.2.2.2.1 _ hq) (by decide +kernel) ⟨hR, by show 8 + (2 + 11) + 100 * 9 ≤ 100 * lv; omega⟩, C.1.2.2.2.2.1 _ q1354⟩
def hX1_master_61 (p0 : Nat) (p1 : Int32) (p2 : Int32) (k : Int32 → Int32 → HS → Option (OH (PX Int32))) (x3 : Int32) (x4 : Int32) (u : HS) : Option (OH (PX Int32)) :=
  mchk (hC u p0 == 1) <|
  mderef (hR u p0 2) fun a2 =>
  mchk (hC u a2 == 2) <|
  hb (hX2_people a2 u) fun r5 u4 =>
  if r5 ≤ x4 then
    hret (.inl x3) u4
  else
    mchk (hC u4 p0 == 1) <|
    mderef (hR u4 p0 3) fun a8 =>
    mchk (hC u4 a8 == 3) <|
    mderef (hR u4 a8 1) fun a11 =>
    mchk (inA u4 x4 a11 21) <|
    if (hA u4 a11 x4.toNatClampNeg) = p1 then
      mlet (x3 ||| ((1 : Int32) <<< (x4 &&& 31))) fun v14 =>
      k v14 (x4 + 1) u4
    else
      k x3 (x4 + 1) u4
theorem whX1_master_61 {K1 K2 : Nat} {p : Program} {e : Env} {s : State} {m : MethodId} {args : Array Value} {below : List Frame} {meth : Method} {c : Code} (hl0 : l.stackTraces = false) (C : CxX t G l p s m args meth c yX1_master cX1_master 5 (some .int)) (p0 : Nat) (p1 : Int32) (p2 : Int32) (n : Nat) (x3 : Int32) (x4 : Int32) (u : HS) : VX mkI t G p l e 10 K1 K2 s m args below meth c 5 61 [(0, .ref p0), (1, .int p1), (3, .int x3), (4, .int x4)] [] u (ml2 (hX1_master_61 p0 p1 p2) n x3 x4 u) := by
  refine vl2 (L := fun x3 x4 => [(0, .ref p0), (1, .int p1), (3, .int x3), (4, .int x4)]) (fun k hk x3 x4 u => ?_) n x3 x4 u
  unfold hX1_master_61
  refine v_iload C.1.1 3 rfl dX1_master_61 ?_
  refine v_aload_n C.1.1 0 rfl rfl dX1_master_63 ?_
  refine v_chk (fun h1 => ?_)
  refine v_hget C.1 (v := va_rf (hR u p0 2)) 0 2 (eq_of_beq h1) (by decide) rfl in_X1 (by decide) (Or.inl q311) (fun _ h => h) (hF_r (ci := 0) (eq_of_beq h1) (by decide)) dX1_master_64 ?_
  refine v_deref (fun a2 e3 => ?_)
  refine v_chk (fun h6 => ?_)
  refine v_callVH C.1 [] [.int x4] (ctX2_people t G l hl0 a2 u) (fun _ _ => cwX2_people C.1 q717 (by decide)) (recO C.1 (ci := 1) (eq_of_beq h6) (by decide) rfl) rfl rfl (by exact Nat.le_of_ble_eq_true rfl) dX1_master_67 (fun r5 u4 => ?_)
  refine v_icmp_ge C.1.1 100 (by decide) dX1_master_70 (fun _ => ?_) (fun _ => ?_)
  · refine v_iload_n C.1.1 2 rfl rfl dX1_master_100 ?_
    exact v_xiret C.1 dX1_master_101
  · refine v_aload_n C.1.1 0 rfl rfl dX1_master_73 ?_
    refine v_chk (fun h7 => ?_)
    refine v_hget C.1 (v := va_rf (hR u4 p0 3)) 0 3 (eq_of_beq h7) (by decide) rfl in_X1 (by decide) (Or.inl q312) (fun _ h => h) (hF_r (ci := 0) (eq_of_beq h7) (by decide)) dX1_master_74 ?_
    refine v_deref (fun a8 e9 => ?_)
    refine v_chk (fun h10 => ?_)
    refine v_hget C.1 (v := va_rf (hR u4 a8 1)) 2 1 (eq_of_beq h10) (by decide) rfl in_X3 (by decide) (Or.inr ⟨_, q257⟩) (fun _ h => h) (hF_r (ci := 2) (eq_of_beq h10) (by decide)) dX1_master_77 ?_
    refine v_deref (fun a11 e12 => ?_)
    refine v_iload C.1.1 3 rfl dX1_master_80 ?_
    refine v_chk (fun h13 => ?_)
    refine v_haiald C.1 h13 dX1_master_82 ?_
    refine v_iload_n C.1.1 1 rfl rfl dX1_master_83 ?_
    refine v_icmp_ne C.1.1 94 (by decide) dX1_master_84 (fun _ => ?_) (fun _ => ?_)
    · refine v_iload_n C.1.1 2 rfl rfl dX1_master_87 ?_
      refine v_iconst C.1.1 1 (by decide) dX1_master_88 ?_
      refine v_iload C.1.1 3 rfl dX1_master_89 ?_
      refine v_ishl C.1.1 dX1_master_91 ?_
      refine v_ior C.1.1 dX1_master_92 ?_
      refine v_topi (fun v14 => ?_)
      refine v_istore_n C.1.1 [(3, .int v14), (0, .ref p0), (1, .int p1), (4, .int x4)] rfl (by decide) rfl dX1_master_93 ?_
      refine v_iinc C.1.1 1 [(4, .int (x4 + 1)), (3, .int v14), (0, .ref p0), (1, .int p1)] 3 rfl (by decide) (by decide) rfl dX1_master_94 ?_
      refine v_goto C.1.1 61 (by decide) dX1_master_97 ?_
      refine v_sub [2, 3, 1, 0] rfl ?_
      exact hk v14 (x4 + 1) u4
    · refine v_iinc C.1.1 1 [(4, .int (x4 + 1)), (0, .ref p0), (1, .int p1), (3, .int x3)] 3 rfl (by decide) (by decide) rfl dX1_master_94 ?_
      refine v_goto C.1.1 61 (by decide) dX1_master_97 ?_
      refine v_sub [1, 2, 3, 0] rfl ?_
      exact hk x3 (x4 + 1) u4
def hX1_master (p0 : Nat) (p1 : Int32) (p2 : Int32) (u : HS) : Option (OH (PX Int32)) :=
  mchk (hC u p0 == 1) <|
  hx (hX1_aMaster p0 p1 u) fun _ u1 =>
  hx (hX1_oneOf p2 3 u1) fun _ u3 =>
  if p2 = 0 then
    mchk (hC u3 p0 == 1) <|
    mderef (hR u3 p0 3) fun a5 =>
    mchk (hC u3 a5 == 3) <|
    mderef (hR u3 a5 3) fun a8 =>
    mchk (inA u3 p1 a8 21) <|
    hret (.inl (hA u3 a8 p1.toNatClampNeg)) u3
  else
    if 3 ≤ p2 then
      ml2 (hX1_master_61 p0 p1 p2) FUEL 0 0 u3
    else
      if p2 = 1 then
        mchk (hC u3 p0 == 1) <|
        mderef (hR u3 p0 2) fun a5 =>
        mchk (hC u3 a5 == 2) <|
        mderef (hR u3 a5 4) fun a8 =>
        mchk (inA u3 p1 a8 21) <|
        hret (.inl (hA u3 a8 p1.toNatClampNeg)) u3
      else
        mchk (hC u3 p0 == 1) <|
        mderef (hR u3 p0 2) fun a5 =>
        mchk (hC u3 a5 == 2) <|
        mderef (hR u3 a5 5) fun a8 =>
        mchk (inA u3 p1 a8 21) <|
        hret (.inl (hA u3 a8 p1.toNatClampNeg)) u3
theorem ctX1_master (t : TT) (G : GH) (l : Launch) (hl0 : l.stackTraces = false) (p0 : Nat) (p1 : Int32) (p2 : Int32) (u : HS) : CtX mkI t G l yX1_master cX1_master 5 (some .int) 10 [.ref p0, .int p1, .int p2] u (hX1_master p0 p1 p2 u) := by
  refine ctX_of [(0, .ref p0), (1, .int p1), (2, .int p2)] hl0 rfl (Nat.le_of_ble_eq_true rfl) rfl (fun K1 K2 p e s m args below meth c C => ?_)
  unfold hX1_master
  refine v_aload_n C.1.1 0 rfl rfl dX1_master_0 ?_
  refine v_iload_n C.1.1 1 rfl rfl dX1_master_1 ?_
  refine v_chk (fun h2 => ?_)
  refine v_callVX C [.int p1] [] (ctX1_aMaster t G l hl0 p0 p1 u) (fun _ _ => cwX1_aMaster C.1 q1349 (by decide)) (recO C.1 (ci := 0) (eq_of_beq h2) (by decide) rfl) rfl rfl (by exact Nat.le_of_ble_eq_true rfl) dX1_master_2 (fun _ u1 => ?_)
  refine v_iload_n C.1.1 2 rfl rfl dX1_master_5 ?_
  refine v_iconst C.1.1 3 (by decide) dX1_master_6 ?_
  refine v_callSX C [.int p2, .int 3] [] (ctX1_oneOf t G l hl0 p2 3 u1) (fun _ _ => cwX1_oneOf C.1 q1353 (by decide)) rfl rfl (by exact Nat.le_of_ble_eq_true rfl) dX1_master_7 (fun _ u3 => ?_)
  refine v_iload_n C.1.1 2 rfl rfl dX1_master_10 ?_
  refine v_if_ne C.1.1 24 (by decide) dX1_master_11 (fun _ => ?_) (fun _ => ?_)
  · refine v_aload_n C.1.1 0 rfl rfl dX1_master_14 ?_
    refine v_chk (fun h4 => ?_)
    refine v_hget C.1 (v := va_rf (hR u3 p0 3)) 0 3 (eq_of_beq h4) (by decide) rfl in_X1 (by decide) (Or.inl q312) (fun _ h => h) (hF_r (ci := 0) (eq_of_beq h4) (by decide)) dX1_master_15 ?_
    refine v_deref (fun a5 e6 => ?_)
    refine v_chk (fun h7 => ?_)
    refine v_hget C.1 (v := va_rf (hR u3 a5 3)) 2 3 (eq_of_beq h7) (by decide) rfl in_X3 (by decide) (Or.inr ⟨_, q262⟩) (fun _ h => h) (hF_r (ci := 2) (eq_of_beq h7) (by decide)) dX1_master_18 ?_
    refine v_deref (fun a8 e9 => ?_)
    refine v_iload_n C.1.1 1 rfl rfl dX1_master_21 ?_
    refine v_chk (fun h10 => ?_)
    refine v_haiald C.1 h10 dX1_master_22 ?_
    exact v_xiret C.1 dX1_master_23
  · refine v_iload_n C.1.1 2 rfl rfl dX1_master_24 ?_
    refine v_iconst C.1.1 3 (by decide) dX1_master_25 ?_
    refine v_icmp_ge C.1.1 56 (by decide) dX1_master_26 (fun _ => ?_) (fun _ => ?_)
    · refine v_iconst C.1.1 0 (by decide) dX1_master_56 ?_
      refine v_istore_n C.1.1 [(3, .int 0), (0, .ref p0), (1, .int p1), (2, .int p2)] rfl (by decide) rfl dX1_master_57 ?_
      refine v_iconst C.1.1 0 (by decide) dX1_master_58 ?_
      refine v_istore C.1.1 [(4, .int 0), (3, .int 0), (0, .ref p0), (1, .int p1), (2, .int p2)] (by decide) rfl dX1_master_59 ?_
      refine v_sub [2, 3, 1, 0] rfl ?_
      exact whX1_master_61 hl0 C p0 p1 p2 FUEL 0 0 u3
    · refine v_iload_n C.1.1 2 rfl rfl dX1_master_29 ?_
      refine v_iconst C.1.1 1 (by decide) dX1_master_30 ?_
      refine v_icmp_ne C.1.1 46 (by decide) dX1_master_31 (fun _ => ?_) (fun _ => ?_)
      · refine v_aload_n C.1.1 0 rfl rfl dX1_master_34 ?_
        refine v_chk (fun h4 => ?_)
        refine v_hget C.1 (v := va_rf (hR u3 p0 2)) 0 2 (eq_of_beq h4) (by decide) rfl in_X1 (by decide) (Or.inl q311) (fun _ h => h) (hF_r (ci := 0) (eq_of_beq h4) (by decide)) dX1_master_35 ?_
        refine v_deref (fun a5 e6 => ?_)
        refine v_chk (fun h7 => ?_)
        refine v_hget C.1 (v := va_rf (hR u3 a5 4)) 1 4 (eq_of_beq h7) (by decide) rfl in_X2 (by decide) (Or.inr ⟨_, q213⟩) (fun _ h => h) (hF_r (ci := 1) (eq_of_beq h7) (by decide)) dX1_master_38 ?_
        refine v_deref (fun a8 e9 => ?_)
        refine v_iload_n C.1.1 1 rfl rfl dX1_master_41 ?_
        refine v_chk (fun h10 => ?_)
        refine v_haiald C.1 h10 dX1_master_42 ?_
        refine v_goto C.1.1 55 (by decide) dX1_master_43 ?_
        exact v_xiret C.1 dX1_master_55
      · refine v_aload_n C.1.1 0 rfl rfl dX1_master_46 ?_
        refine v_chk (fun h4 => ?_)
        refine v_hget C.1 (v := va_rf (hR u3 p0 2)) 0 2 (eq_of_beq h4) (by decide) rfl in_X1 (by decide) (Or.inl q311) (fun _ h => h) (hF_r (ci := 0) (eq_of_beq h4) (by decide)) dX1_master_47 ?_
        refine v_deref (fun a5 e6 => ?_)
        refine v_chk (fun h7 => ?_)
        refine v_hget C.1 (v := va_rf (hR u3 a5 5)) 1 5 (eq_of_beq h7) (by decide) rfl in_X2 (by decide) (Or.inr ⟨_, q217⟩) (fun _ h => h) (hF_r (ci := 1) (eq_of_beq h7) (by decide)) dX1_master_50 ?_
        refine v_deref (fun a8 e9 => ?_)
        refine v_iload_n C.1.1 1 rfl rfl dX1_master_53 ?_
        refine v_chk (fun h10 => ?_)
        refine v_haiald C.1 h10 dX1_master_54 ?_
        exact v_xiret C.1 dX1_master_55
theorem cwX1_master {t : TT} {G : GH} {l : Launch} {p : Program} {s : State} {m : MethodId} {args : Array Value} {meth : Method} {c : Code} {y0 : MethodName} {cc0 : ByteArray} {nL0 : Nat} {ret0 : Option FieldType} (C : CxH t G l p s m args meth c y0 cc0 nL0 ret0) {index lv mc ms K1 K2 : Nat} (hq : Cond.methodLink y0.cls index yX1_master ∈ lw_all) (hR : 10 + 1 ≤ lv) : CallW (rmH lv K1 K2) s args y0.cls RX1 index yX1_master cX1_master 5 (some .int) (ws_ yX1_master cX1_master 5 (some .int)) (rmH 10 mc ms) mc ms 2 :=
  cwV 2 C.1.2.2.2.2.1 (lw_V hq q1346 q1347 q121 q1348) rfl rfl rfl (by decide +kernel) ⟨hR, by show 8 + (5 + 11) + 100 * 10 ≤ 100 * lv; omega⟩
def hX1_aPlace (p0 : Nat) (p1 : Int32) (u : HS) : Option (OH (PX Unit)) :=
  mchk (hC u p0 == 1) <|
  mderef (hR u p0 2) fun a2 =>
  mchk (hC u a2 == 2) <|
  mderef (hR u a2 0) fun a5 =>
  mchk (hC u a5 == 12) <|
  hb (hJ2_size a5 u) fun r8 u7 =>
  hb (hX1_in p1 0 (r8 - 1) u7) fun r11 u10 =>
  hx (hX1_found r11 u10) fun _ u12 =>
  hret (.inl ()) u12
theorem ctX1_aPlace (t : TT) (G : GH) (l : Launch) (hl0 : l.stackTraces = false) (p0 : Nat) (p1 : Int32) (u : HS) : CtX mkU t G l yX1_aPlace cX1_aPlace 2 none 9 [.ref p0, .int p1] u (hX1_aPlace p0 p1 u) := by
  refine ctX_of [(0, .ref p0), (1, .int p1)] hl0 rfl (Nat.le_of_ble_eq_true rfl) rfl (fun K1 K2 p e s m args below meth c C => ?_)
  unfold hX1_aPlace
  refine v_iload_n C.1.1 1 rfl rfl dX1_aPlace_0 ?_
  refine v_iconst C.1.1 0 (by decide) dX1_aPlace_1 ?_
  refine v_aload_n C.1.1 0 rfl rfl dX1_aPlace_2 ?_
  refine v_chk (fun h1 => ?_)
  refine v_hget C.1 (v := va_rf (hR u p0 2)) 0 2 (eq_of_beq h1) (by decide) rfl in_X1 (by decide) (Or.inl q311) (fun _ h => h) (hF_r (ci := 0) (eq_of_beq h1) (by decide)) dX1_aPlace_3 ?_
  refine v_deref (fun a2 e3 => ?_)
  refine v_chk (fun h4 => ?_)
  refine v_hget C.1 (v := va_rf (hR u a2 0)) 1 0 (eq_of_beq h4) (by decide) rfl in_X2 (by decide) (Or.inr ⟨_, q197⟩) (fun _ h => h) (hF_r (ci := 1) (eq_of_beq h4) (by decide)) dX1_aPlace_6 ?_
  refine v_deref (fun a5 e6 => ?_)
  refine v_chk (fun h9 => ?_)
  refine v_callFH C.1 [] [.int 0, .int p1] (ctJ2_size t G l hl0 a5 u) (fun _ _ => cwJ2_sizeF C.1 q453 (by decide)) (eq_of_beq h9) (by decide) rfl rfl rfl (by exact Nat.le_of_ble_eq_true rfl) dX1_aPlace_9 (fun r8 u7 => ?_)
  refine v_iconst C.1.1 1 (by decide) dX1_aPlace_14 ?_
  refine v_isub C.1.1 dX1_aPlace_15 ?_
  refine v_callSH C.1 [.int p1, .int 0, .int (r8 - 1)] [] (ctX1_in t G l hl0 p1 0 (r8 - 1) u7) (fun _ _ => cwX1_in C.1 q366 (by decide)) rfl rfl (by exact Nat.le_of_ble_eq_true rfl) dX1_aPlace_16 (fun r11 u10 => ?_)
  refine v_callSX C [.int r11] [] (ctX1_found t G l hl0 r11 u10) (fun _ _ => cwX1_found C.1 q1324 (by decide)) rfl rfl (by exact Nat.le_of_ble_eq_true rfl) dX1_aPlace_19 (fun _ u12 => ?_)
  exact v_xvret C.1 dX1_aPlace_22
theorem cwX1_aPlace {t : TT} {G : GH} {l : Launch} {p : Program} {s : State} {m : MethodId} {args : Array Value} {meth : Method} {c : Code} {y0 : MethodName} {cc0 : ByteArray} {nL0 : Nat} {ret0 : Option FieldType} (C : CxH t G l p s m args meth c y0 cc0 nL0 ret0) {index lv mc ms K1 K2 : Nat} (hq : Cond.methodLink y0.cls index yX1_aPlace ∈ lw_all) (hR : 9 + 1 ≤ lv) : CallW (rmH lv K1 K2) s args y0.cls RX1 index yX1_aPlace cX1_aPlace 2 none (ws_ yX1_aPlace cX1_aPlace 2 none) (rmH 9 mc ms) mc ms 1 :=
  cwV 1 C.1.2.2.2.2.1 (lw_V hq q1365 qs41 q121 q1366) rfl rfl rfl (by decide +kernel) ⟨hR, by show 8 + (2 + 11) + 100 * 9 ≤ 100 * lv; omega⟩
def hX7_from (p0 : Nat) (p1 : Int32) (u : HS) : Option (OH Int32) :=
  mchk (hC u p0 == 7) <|
  if p1 = (hI u p0 0) then
    mchk (hC u p0 == 7) <|
    hret (hI u p0 1) u
  else
    mchk (hC u p0 == 7) <|
    if p1 = (hI u p0 1) then
      mchk (hC u p0 == 7) <|
      hret (hI u p0 0) u
    else
      hret (-1) u
theorem ctX7_from (t : TT) (G : GH) (l : Launch) (hl0 : l.stackTraces = false) (p0 : Nat) (p1 : Int32) (u : HS) : CtH mkI t G l yX7_from cX7_from 2 (some .int) 2 [.ref p0, .int p1] u (hX7_from p0 p1 u) := by
  refine ctH_of [(0, .ref p0), (1, .int p1)] hl0 rfl (Nat.le_of_ble_eq_true rfl) rfl (fun K1 K2 p e s m args below meth c C => ?_)
  unfold hX7_from
  refine v_iload_n C.1 1 rfl rfl dX7_from_0 ?_
  refine v_aload_n C.1 0 rfl rfl dX7_from_1 ?_
  refine v_chk (fun h1 => ?_)
  refine v_hget C (v := .int (hI u p0 0)) 6 0 (eq_of_beq h1) (by decide) rfl in_X7 (by decide) (Or.inl q1089) (fun _ h => h) (hF_i (ci := 6) (eq_of_beq h1) (by decide)) dX7_from_2 ?_
  refine v_icmp_ne C.1 15 (by decide) dX7_from_5 (fun _ => ?_) (fun _ => ?_)
  · refine v_aload_n C.1 0 rfl rfl dX7_from_8 ?_
    refine v_chk (fun h2 => ?_)
    refine v_hget C (v := .int (hI u p0 1)) 6 1 (eq_of_beq h2) (by decide) rfl in_X7 (by decide) (Or.inl q1091) (fun _ h => h) (hF_i (ci := 6) (eq_of_beq h2) (by decide)) dX7_from_9 ?_
    refine v_goto C.1 31 (by decide) dX7_from_12 ?_
    exact v_hiret C dX7_from_31
  · refine v_iload_n C.1 1 rfl rfl dX7_from_15 ?_
    refine v_aload_n C.1 0 rfl rfl dX7_from_16 ?_
    refine v_chk (fun h2 => ?_)
    refine v_hget C (v := .int (hI u p0 1)) 6 1 (eq_of_beq h2) (by decide) rfl in_X7 (by decide) (Or.inl q1091) (fun _ h => h) (hF_i (ci := 6) (eq_of_beq h2) (by decide)) dX7_from_17 ?_
    refine v_icmp_ne C.1 30 (by decide) dX7_from_20 (fun _ => ?_) (fun _ => ?_)
    · refine v_aload_n C.1 0 rfl rfl dX7_from_23 ?_
      refine v_chk (fun h3 => ?_)
      refine v_hget C (v := .int (hI u p0 0)) 6 0 (eq_of_beq h3) (by decide) rfl in_X7 (by decide) (Or.inl q1089) (fun _ h => h) (hF_i (ci := 6) (eq_of_beq h3) (by decide)) dX7_from_24 ?_
      refine v_goto C.1 31 (by decide) dX7_from_27 ?_
      exact v_hiret C dX7_from_31
    · refine v_iconst C.1 (-1) (by decide) dX7_from_30 ?_
      exact v_hiret C dX7_from_31
theorem cwX7_from {t : TT} {G : GH} {l : Launch} {p : Program} {s : State} {m : MethodId} {args : Array Value} {meth : Method} {c : Code} {y0 : MethodName} {cc0 : ByteArray} {nL0 : Nat} {ret0 : Option FieldType} (C : CxH t G l p s m args meth c y0 cc0 nL0 ret0) {index lv mc ms K1 K2 : Nat} (hq : Cond.methodLink y0.cls index yX7_from ∈ lw_all) (hR : 2 + 1 ≤ lv) : CallW (rmH lv K1 K2) s args y0.cls RX7 index yX7_from cX7_from 2 (some .int) (ws_ yX7_from cX7_from 2 (some .int)) (rmH 2 mc ms) mc ms 1 :=
  cwV 1 C.1.2.2.2.2.1 (lw_V hq q1080 q1081 q147 q1082) rfl rfl rfl (by decide +kernel) ⟨hR, by show 8 + (2 + 11) + 100 * 2 ≤ 100 * lv; omega⟩
def hX1_place_86 (p0 : Nat) (p1 : Int32) (p2 : Int32) (k : Int32 → Int32 → HS → Option (OH (PX Int32))) (x3 : Int32) (x4 : Int32) (u : HS) : Option (OH (PX Int32)) :=
  mchk (hC u p0 == 1) <|
  mderef (hR u p0 2) fun a2 =>
  mchk (hC u a2 == 2) <|
  mderef (hR u a2 2) fun a5 =>
  mchk (hC u a5 == 12) <|
  hb (hJ2_size a5 u) fun r8 u7 =>
  if r8 ≤ x4 then
    hret (.inl x3) u7
  else
    if p2 = 2 then
      mchk (hC u7 p0 == 1) <|
      mderef (hR u7 p0 2) fun a11 =>
      mchk (hC u7 a11 == 2) <|
      mderef (hR u7 a11 2) fun a14 =>
      mchk (hC u7 a14 == 12) <|
      hb (hJ2_get a14 x4 u7) fun r17 u16 =>
      mchk (hC u16 r17 == 7) <|
      mchk (hC u16 r17 == 7) <|
      hb (hX7_from r17 p1 u16) fun r21 u20 =>
      if r21 = (-1) then
        k x3 (x4 + 1) u20
      else
        k (x3 + 1) (x4 + 1) u20
    else
      hret (.inl x3) u7
theorem whX1_place_86 {K1 K2 : Nat} {p : Program} {e : Env} {s : State} {m : MethodId} {args : Array Value} {below : List Frame} {meth : Method} {c : Code} (hl0 : l.stackTraces = false) (C : CxX t G l p s m args meth c yX1_place cX1_place 5 (some .int)) (p0 : Nat) (p1 : Int32) (p2 : Int32) (n : Nat) (x3 : Int32) (x4 : Int32) (u : HS) : VX mkI t G p l e 10 K1 K2 s m args below meth c 5 86 [(0, .ref p0), (1, .int p1), (2, .int p2), (3, .int x3), (4, .int x4)] [] u (ml2 (hX1_place_86 p0 p1 p2) n x3 x4 u) := by
  refine vl2 (L := fun x3 x4 => [(0, .ref p0), (1, .int p1), (2, .int p2), (3, .int x3), (4, .int x4)]) (fun k hk x3 x4 u => ?_) n x3 x4 u
  unfold hX1_place_86
  refine v_iload C.1.1 4 rfl dX1_place_86 ?_
  refine v_aload_n C.1.1 0 rfl rfl dX1_place_88 ?_
  refine v_chk (fun h1 => ?_)
  refine v_hget C.1 (v := va_rf (hR u p0 2)) 0 2 (eq_of_beq h1) (by decide) rfl in_X1 (by decide) (Or.inl q311) (fun _ h => h) (hF_r (ci := 0) (eq_of_beq h1) (by decide)) dX1_place_89 ?_
  refine v_deref (fun a2 e3 => ?_)
  refine v_chk (fun h4 => ?_)
  refine v_hget C.1 (v := va_rf (hR u a2 2)) 1 2 (eq_of_beq h4) (by decide) rfl in_X2 (by decide) (Or.inr ⟨_, q205⟩) (fun _ h => h) (hF_r (ci := 1) (eq_of_beq h4) (by decide)) dX1_place_92 ?_
  refine v_deref (fun a5 e6 => ?_)
  refine v_chk (fun h9 => ?_)
  refine v_callFH C.1 [] [.int x4] (ctJ2_size t G l hl0 a5 u) (fun _ _ => cwJ2_sizeF C.1 q453 (by decide)) (eq_of_beq h9) (by decide) rfl rfl rfl (by exact Nat.le_of_ble_eq_true rfl) dX1_place_95 (fun r8 u7 => ?_)
  refine v_icmp_ge C.1.1 142 (by decide) dX1_place_100 (fun _ => ?_) (fun _ => ?_)
  · refine v_iload_n C.1.1 3 rfl rfl dX1_place_142 ?_
    exact v_xiret C.1 dX1_place_143
  · refine v_iload_n C.1.1 2 rfl rfl dX1_place_103 ?_
    refine v_iconst C.1.1 2 (by decide) dX1_place_104 ?_
    refine v_icmp_ne C.1.1 142 (by decide) dX1_place_105 (fun _ => ?_) (fun _ => ?_)
    · refine v_aload_n C.1.1 0 rfl rfl dX1_place_108 ?_
      refine v_chk (fun h10 => ?_)
      refine v_hget C.1 (v := va_rf (hR u7 p0 2)) 0 2 (eq_of_beq h10) (by decide) rfl in_X1 (by decide) (Or.inl q311) (fun _ h => h) (hF_r (ci := 0) (eq_of_beq h10) (by decide)) dX1_place_109 ?_
      refine v_deref (fun a11 e12 => ?_)
      refine v_chk (fun h13 => ?_)
      refine v_hget C.1 (v := va_rf (hR u7 a11 2)) 1 2 (eq_of_beq h13) (by decide) rfl in_X2 (by decide) (Or.inr ⟨_, q205⟩) (fun _ h => h) (hF_r (ci := 1) (eq_of_beq h13) (by decide)) dX1_place_112 ?_
      refine v_deref (fun a14 e15 => ?_)
      refine v_iload C.1.1 4 rfl dX1_place_115 ?_
      refine v_chk (fun h18 => ?_)
      refine v_callFH C.1 [.int x4] [] (ctJ2_get t G l hl0 a14 x4 u7) (fun _ _ => cwJ2_getF C.1 q1368 (by decide)) (eq_of_beq h18) (by decide) rfl rfl rfl (by exact Nat.le_of_ble_eq_true rfl) dX1_place_117 (fun r17 u16 => ?_)
      refine v_chk (fun h19 => ?_)
      refine v_hcastS C.1 6 (eq_of_beq h19) (by decide) rfl q1371 dX1_place_122 ?_
      refine v_iload_n C.1.1 1 rfl rfl dX1_place_125 ?_
      refine v_chk (fun h22 => ?_)
      refine v_callVH C.1 [.int p1] [] (ctX7_from t G l hl0 r17 p1 u16) (fun _ _ => cwX7_from C.1 q1372 (by decide)) (recO C.1 (ci := 6) (eq_of_beq h22) (by decide) rfl) rfl rfl (by exact Nat.le_of_ble_eq_true rfl) dX1_place_126 (fun r21 u20 => ?_)
      refine v_iconst C.1.1 (-1) (by decide) dX1_place_129 ?_
      refine v_icmp_eq C.1.1 136 (by decide) dX1_place_130 (fun _ => ?_) (fun _ => ?_)
      · refine v_iinc C.1.1 1 [(4, .int (x4 + 1)), (0, .ref p0), (1, .int p1), (2, .int p2), (3, .int x3)] 4 rfl (by decide) (by decide) rfl dX1_place_136 ?_
        refine v_goto C.1.1 86 (by decide) dX1_place_139 ?_
        refine v_sub [1, 2, 3, 4, 0] rfl ?_
        exact hk x3 (x4 + 1) u20
      · refine v_iinc C.1.1 1 [(3, .int (x3 + 1)), (0, .ref p0), (1, .int p1), (2, .int p2), (4, .int x4)] 3 rfl (by decide) (by decide) rfl dX1_place_133 ?_
        refine v_iinc C.1.1 1 [(4, .int (x4 + 1)), (3, .int (x3 + 1)), (0, .ref p0), (1, .int p1), (2, .int p2)] 4 rfl (by decide) (by decide) rfl dX1_place_136 ?_
        refine v_goto C.1.1 86 (by decide) dX1_place_139 ?_
        refine v_sub [2, 3, 4, 1, 0] rfl ?_
        exact hk (x3 + 1) (x4 + 1) u20
    · refine v_iload_n C.1.1 3 rfl rfl dX1_place_142 ?_
      exact v_xiret C.1 dX1_place_143
def hX1_place_39 (p0 : Nat) (p1 : Int32) (p2 : Int32) (k : Int32 → Int32 → HS → Option (OH (PX Int32))) (x3 : Int32) (x4 : Int32) (u : HS) : Option (OH (PX Int32)) :=
  mchk (hC u p0 == 1) <|
  mderef (hR u p0 2) fun a2 =>
  mchk (hC u a2 == 2) <|
  hb (hX2_people a2 u) fun r5 u4 =>
  if r5 ≤ x4 then
    ml2 (hX1_place_86 p0 p1 p2) FUEL x3 0 u4
  else
    if p2 = 1 then
      mchk (hC u4 p0 == 1) <|
      mderef (hR u4 p0 3) fun a8 =>
      mchk (hC u4 a8 == 3) <|
      mderef (hR u4 a8 2) fun a11 =>
      mchk (inA u4 x4 a11 21) <|
      if (hA u4 a11 x4.toNatClampNeg) = p1 then
        mlet (x3 ||| ((1 : Int32) <<< (x4 &&& 31))) fun v14 =>
        k v14 (x4 + 1) u4
      else
        k x3 (x4 + 1) u4
    else
      ml2 (hX1_place_86 p0 p1 p2) FUEL x3 0 u4
theorem whX1_place_39 {K1 K2 : Nat} {p : Program} {e : Env} {s : State} {m : MethodId} {args : Array Value} {below : List Frame} {meth : Method} {c : Code} (hl0 : l.stackTraces = false) (C : CxX t G l p s m args meth c yX1_place cX1_place 5 (some .int)) (p0 : Nat) (p1 : Int32) (p2 : Int32) (n : Nat) (x3 : Int32) (x4 : Int32) (u : HS) : VX mkI t G p l e 10 K1 K2 s m args below meth c 5 39 [(0, .ref p0), (1, .int p1), (2, .int p2), (3, .int x3), (4, .int x4)] [] u (ml2 (hX1_place_39 p0 p1 p2) n x3 x4 u) := by
  refine vl2 (L := fun x3 x4 => [(0, .ref p0), (1, .int p1), (2, .int p2), (3, .int x3), (4, .int x4)]) (fun k hk x3 x4 u => ?_) n x3 x4 u
  unfold hX1_place_39
  refine v_iload C.1.1 4 rfl dX1_place_39 ?_
  refine v_aload_n C.1.1 0 rfl rfl dX1_place_41 ?_
  refine v_chk (fun h1 => ?_)
  refine v_hget C.1 (v := va_rf (hR u p0 2)) 0 2 (eq_of_beq h1) (by decide) rfl in_X1 (by decide) (Or.inl q311) (fun _ h => h) (hF_r (ci := 0) (eq_of_beq h1) (by decide)) dX1_place_42 ?_
  refine v_deref (fun a2 e3 => ?_)
  refine v_chk (fun h6 => ?_)
  refine v_callVH C.1 [] [.int x4] (ctX2_people t G l hl0 a2 u) (fun _ _ => cwX2_people C.1 q717 (by decide)) (recO C.1 (ci := 1) (eq_of_beq h6) (by decide) rfl) rfl rfl (by exact Nat.le_of_ble_eq_true rfl) dX1_place_45 (fun r5 u4 => ?_)
  refine v_icmp_ge C.1.1 83 (by decide) dX1_place_48 (fun _ => ?_) (fun _ => ?_)
  · refine v_iconst C.1.1 0 (by decide) dX1_place_83 ?_
    refine v_istore C.1.1 [(4, .int 0), (0, .ref p0), (1, .int p1), (2, .int p2), (3, .int x3)] (by decide) rfl dX1_place_84 ?_
    refine v_sub [1, 2, 3, 4, 0] rfl ?_
    exact whX1_place_86 hl0 C p0 p1 p2 FUEL x3 0 u4
  · refine v_iload_n C.1.1 2 rfl rfl dX1_place_51 ?_
    refine v_iconst C.1.1 1 (by decide) dX1_place_52 ?_
    refine v_icmp_ne C.1.1 83 (by decide) dX1_place_53 (fun _ => ?_) (fun _ => ?_)
    · refine v_aload_n C.1.1 0 rfl rfl dX1_place_56 ?_
      refine v_chk (fun h7 => ?_)
      refine v_hget C.1 (v := va_rf (hR u4 p0 3)) 0 3 (eq_of_beq h7) (by decide) rfl in_X1 (by decide) (Or.inl q312) (fun _ h => h) (hF_r (ci := 0) (eq_of_beq h7) (by decide)) dX1_place_57 ?_
      refine v_deref (fun a8 e9 => ?_)
      refine v_chk (fun h10 => ?_)
      refine v_hget C.1 (v := va_rf (hR u4 a8 2)) 2 2 (eq_of_beq h10) (by decide) rfl in_X3 (by decide) (Or.inr ⟨_, q259⟩) (fun _ h => h) (hF_r (ci := 2) (eq_of_beq h10) (by decide)) dX1_place_60 ?_
      refine v_deref (fun a11 e12 => ?_)
      refine v_iload C.1.1 4 rfl dX1_place_63 ?_
      refine v_chk (fun h13 => ?_)
      refine v_haiald C.1 h13 dX1_place_65 ?_
      refine v_iload_n C.1.1 1 rfl rfl dX1_place_66 ?_
      refine v_icmp_ne C.1.1 77 (by decide) dX1_place_67 (fun _ => ?_) (fun _ => ?_)
      · refine v_iload_n C.1.1 3 rfl rfl dX1_place_70 ?_
        refine v_iconst C.1.1 1 (by decide) dX1_place_71 ?_
        refine v_iload C.1.1 4 rfl dX1_place_72 ?_
        refine v_ishl C.1.1 dX1_place_74 ?_
        refine v_ior C.1.1 dX1_place_75 ?_
        refine v_topi (fun v14 => ?_)
        refine v_istore_n C.1.1 [(3, .int v14), (0, .ref p0), (1, .int p1), (2, .int p2), (4, .int x4)] rfl (by decide) rfl dX1_place_76 ?_
        refine v_iinc C.1.1 1 [(4, .int (x4 + 1)), (3, .int v14), (0, .ref p0), (1, .int p1), (2, .int p2)] 4 rfl (by decide) (by decide) rfl dX1_place_77 ?_
        refine v_goto C.1.1 39 (by decide) dX1_place_80 ?_
        refine v_sub [2, 3, 4, 1, 0] rfl ?_
        exact hk v14 (x4 + 1) u4
      · refine v_iinc C.1.1 1 [(4, .int (x4 + 1)), (0, .ref p0), (1, .int p1), (2, .int p2), (3, .int x3)] 4 rfl (by decide) (by decide) rfl dX1_place_77 ?_
        refine v_goto C.1.1 39 (by decide) dX1_place_80 ?_
        refine v_sub [1, 2, 3, 4, 0] rfl ?_
        exact hk x3 (x4 + 1) u4
    · refine v_iconst C.1.1 0 (by decide) dX1_place_83 ?_
      refine v_istore C.1.1 [(4, .int 0), (0, .ref p0), (1, .int p1), (2, .int p2), (3, .int x3)] (by decide) rfl dX1_place_84 ?_
      refine v_sub [1, 2, 3, 4, 0] rfl ?_
      exact whX1_place_86 hl0 C p0 p1 p2 FUEL x3 0 u4
def hX1_place (p0 : Nat) (p1 : Int32) (p2 : Int32) (u : HS) : Option (OH (PX Int32)) :=
  mchk (hC u p0 == 1) <|
  hx (hX1_aPlace p0 p1 u) fun _ u1 =>
  hx (hX1_oneOf p2 2 u1) fun _ u3 =>
  if p2 = 0 then
    mchk (hC u3 p0 == 1) <|
    mderef (hR u3 p0 2) fun a5 =>
    mchk (hC u3 a5 == 2) <|
    mderef (hR u3 a5 0) fun a8 =>
    mchk (hC u3 a8 == 12) <|
    hb (hJ2_get a8 p1 u3) fun r11 u10 =>
    mchk (hC u10 r11 == 31) <|
    mchk (hC u10 r11 == 31) <|
    hb (hJ16_intValue r11 u10) fun r15 u14 =>
    hret (.inl r15) u14
  else
    ml2 (hX1_place_39 p0 p1 p2) FUEL 0 0 u3
theorem ctX1_place (t : TT) (G : GH) (l : Launch) (hl0 : l.stackTraces = false) (p0 : Nat) (p1 : Int32) (p2 : Int32) (u : HS) : CtX mkI t G l yX1_place cX1_place 5 (some .int) 10 [.ref p0, .int p1, .int p2] u (hX1_place p0 p1 p2 u) := by
  refine ctX_of [(0, .ref p0), (1, .int p1), (2, .int p2)] hl0 rfl (Nat.le_of_ble_eq_true rfl) rfl (fun K1 K2 p e s m args below meth c C => ?_)
  unfold hX1_place
  refine v_aload_n C.1.1 0 rfl rfl dX1_place_0 ?_
  refine v_iload_n C.1.1 1 rfl rfl dX1_place_1 ?_
  refine v_chk (fun h2 => ?_)
  refine v_callVX C [.int p1] [] (ctX1_aPlace t G l hl0 p0 p1 u) (fun _ _ => cwX1_aPlace C.1 q1363 (by decide)) (recO C.1 (ci := 0) (eq_of_beq h2) (by decide) rfl) rfl rfl (by exact Nat.le_of_ble_eq_true rfl) dX1_place_2 (fun _ u1 => ?_)
  refine v_iload_n C.1.1 2 rfl rfl dX1_place_5 ?_
  refine v_iconst C.1.1 2 (by decide) dX1_place_6 ?_
  refine v_callSX C [.int p2, .int 2] [] (ctX1_oneOf t G l hl0 p2 2 u1) (fun _ _ => cwX1_oneOf C.1 q1353 (by decide)) rfl rfl (by exact Nat.le_of_ble_eq_true rfl) dX1_place_7 (fun _ u3 => ?_)
  refine v_iload_n C.1.1 2 rfl rfl dX1_place_10 ?_
  refine v_if_ne C.1.1 34 (by decide) dX1_place_11 (fun _ => ?_) (fun _ => ?_)
  · refine v_aload_n C.1.1 0 rfl rfl dX1_place_14 ?_
    refine v_chk (fun h4 => ?_)
    refine v_hget C.1 (v := va_rf (hR u3 p0 2)) 0 2 (eq_of_beq h4) (by decide) rfl in_X1 (by decide) (Or.inl q311) (fun _ h => h) (hF_r (ci := 0) (eq_of_beq h4) (by decide)) dX1_place_15 ?_
    refine v_deref (fun a5 e6 => ?_)
    refine v_chk (fun h7 => ?_)
    refine v_hget C.1 (v := va_rf (hR u3 a5 0)) 1 0 (eq_of_beq h7) (by decide) rfl in_X2 (by decide) (Or.inr ⟨_, q197⟩) (fun _ h => h) (hF_r (ci := 1) (eq_of_beq h7) (by decide)) dX1_place_18 ?_
    refine v_deref (fun a8 e9 => ?_)
    refine v_iload_n C.1.1 1 rfl rfl dX1_place_21 ?_
    refine v_chk (fun h12 => ?_)
    refine v_callFH C.1 [.int p1] [] (ctJ2_get t G l hl0 a8 p1 u3) (fun _ _ => cwJ2_getF C.1 q1368 (by decide)) (eq_of_beq h12) (by decide) rfl rfl rfl (by exact Nat.le_of_ble_eq_true rfl) dX1_place_22 (fun r11 u10 => ?_)
    refine v_chk (fun h13 => ?_)
    refine v_hcastB C.1 (eq_of_beq h13) q1369 dX1_place_27 ?_
    refine v_chk (fun h16 => ?_)
    refine v_callVH C.1 [] [] (ctJ16_intValue t G l hl0 r11 u10) (fun _ _ => cwJ16_intValue C.1 q1370 (by decide)) (recB C.1 (eq_of_beq h16)) rfl rfl (by exact Nat.le_of_ble_eq_true rfl) dX1_place_30 (fun r15 u14 => ?_)
    exact v_xiret C.1 dX1_place_33
  · refine v_iconst C.1.1 0 (by decide) dX1_place_34 ?_
    refine v_istore_n C.1.1 [(3, .int 0), (0, .ref p0), (1, .int p1), (2, .int p2)] rfl (by decide) rfl dX1_place_35 ?_
    refine v_iconst C.1.1 0 (by decide) dX1_place_36 ?_
    refine v_istore C.1.1 [(4, .int 0), (3, .int 0), (0, .ref p0), (1, .int p1), (2, .int p2)] (by decide) rfl dX1_place_37 ?_
    refine v_sub [2, 3, 4, 1, 0] rfl ?_
    exact whX1_place_39 hl0 C p0 p1 p2 FUEL 0 0 u3
theorem cwX1_place {t : TT} {G : GH} {l : Launch} {p : Program} {s : State} {m : MethodId} {args : Array Value} {meth : Method} {c : Code} {y0 : MethodName} {cc0 : ByteArray} {nL0 : Nat} {ret0 : Option FieldType} (C : CxH t G l p s m args meth c y0 cc0 nL0 ret0) {index lv mc ms K1 K2 : Nat} (hq : Cond.methodLink y0.cls index yX1_place ∈ lw_all) (hR : 10 + 1 ≤ lv) : CallW (rmH lv K1 K2) s args y0.cls RX1 index yX1_place cX1_place 5 (some .int) (ws_ yX1_place cX1_place 5 (some .int)) (rmH 10 mc ms) mc ms 2 :=
  cwV 2 C.1.2.2.2.2.1 (lw_V hq q1360 q1361 q121 q1362) rfl rfl rfl (by decide +kernel) ⟨hR, by show 8 + (5 + 11) + 100 * 10 ≤ 100 * lv; omega⟩
def hX1_aPerson (p0 : Nat) (p1 : Int32) (u : HS) : Option (OH (PX Unit)) :=
  mchk (hC u p0 == 1) <|
  mderef (hR u p0 2) fun a2 =>
  mchk (hC u a2 == 2) <|
  hb (hX2_people a2 u) fun r5 u4 =>
  hb (hX1_in p1 0 (r5 - 1) u4) fun r8 u7 =>
  hx (hX1_found r8 u7) fun _ u9 =>
  hret (.inl ()) u9
theorem ctX1_aPerson (t : TT) (G : GH) (l : Launch) (hl0 : l.stackTraces = false) (p0 : Nat) (p1 : Int32) (u : HS) : CtX mkU t G l yX1_aPerson cX1_aPerson 2 none 9 [.ref p0, .int p1] u (hX1_aPerson p0 p1 u) := by
  refine ctX_of [(0, .ref p0), (1, .int p1)] hl0 rfl (Nat.le_of_ble_eq_true rfl) rfl (fun K1 K2 p e s m args below meth c C => ?_)
  unfold hX1_aPerson
  refine v_iload_n C.1.1 1 rfl rfl dX1_aPerson_0 ?_
  refine v_iconst C.1.1 0 (by decide) dX1_aPerson_1 ?_
  refine v_aload_n C.1.1 0 rfl rfl dX1_aPerson_2 ?_
  refine v_chk (fun h1 => ?_)
  refine v_hget C.1 (v := va_rf (hR u p0 2)) 0 2 (eq_of_beq h1) (by decide) rfl in_X1 (by decide) (Or.inl q311) (fun _ h => h) (hF_r (ci := 0) (eq_of_beq h1) (by decide)) dX1_aPerson_3 ?_
  refine v_deref (fun a2 e3 => ?_)
  refine v_chk (fun h6 => ?_)
  refine v_callVH C.1 [] [.int 0, .int p1] (ctX2_people t G l hl0 a2 u) (fun _ _ => cwX2_people C.1 q717 (by decide)) (recO C.1 (ci := 1) (eq_of_beq h6) (by decide) rfl) rfl rfl (by exact Nat.le_of_ble_eq_true rfl) dX1_aPerson_6 (fun r5 u4 => ?_)
  refine v_iconst C.1.1 1 (by decide) dX1_aPerson_9 ?_
  refine v_isub C.1.1 dX1_aPerson_10 ?_
  refine v_callSH C.1 [.int p1, .int 0, .int (r5 - 1)] [] (ctX1_in t G l hl0 p1 0 (r5 - 1) u4) (fun _ _ => cwX1_in C.1 q366 (by decide)) rfl rfl (by exact Nat.le_of_ble_eq_true rfl) dX1_aPerson_11 (fun r8 u7 => ?_)
  refine v_callSX C [.int r8] [] (ctX1_found t G l hl0 r8 u7) (fun _ _ => cwX1_found C.1 q1324 (by decide)) rfl rfl (by exact Nat.le_of_ble_eq_true rfl) dX1_aPerson_14 (fun _ u9 => ?_)
  exact v_xvret C.1 dX1_aPerson_17
theorem cwX1_aPerson {t : TT} {G : GH} {l : Launch} {p : Program} {s : State} {m : MethodId} {args : Array Value} {meth : Method} {c : Code} {y0 : MethodName} {cc0 : ByteArray} {nL0 : Nat} {ret0 : Option FieldType} (C : CxH t G l p s m args meth c y0 cc0 nL0 ret0) {index lv mc ms K1 K2 : Nat} (hq : Cond.methodLink y0.cls index yX1_aPerson ∈ lw_all) (hR : 9 + 1 ≤ lv) : CallW (rmH lv K1 K2) s args y0.cls RX1 index yX1_aPerson cX1_aPerson 2 none (ws_ yX1_aPerson cX1_aPerson 2 none) (rmH 9 mc ms) mc ms 1 :=
  cwV 1 C.1.2.2.2.2.1 (lw_V hq q1382 qs42 q121 q1383) rfl rfl rfl (by decide +kernel) ⟨hR, by show 8 + (2 + 11) + 100 * 9 ≤ 100 * lv; omega⟩
def hX1_person_110 (p0 : Nat) (p1 : Int32) (p2 : Int32) (s0 : Int32) (u : HS) : Option (OH (PX Int32)) :=
  hx (hX1_found s0 u) fun _ u1 =>
  mchk (hC u1 p0 == 1) <|
  mderef (hR u1 p0 3) fun a3 =>
  mchk (hC u1 a3 == 3) <|
  hb (hX3_price a3 p1 u1) fun r6 u5 =>
  hret (.inl r6) u5
theorem whX1_person_110 {K1 K2 : Nat} {p : Program} {e : Env} {s : State} {m : MethodId} {args : Array Value} {below : List Frame} {meth : Method} {c : Code} (hl0 : l.stackTraces = false) (C : CxX t G l p s m args meth c yX1_person cX1_person 3 (some .int)) (p0 : Nat) (p1 : Int32) (p2 : Int32) (s0 : Int32) (u : HS) : VX mkI t G p l e 10 K1 K2 s m args below meth c 3 110 [(0, .ref p0), (1, .int p1)] [.int s0] u (hX1_person_110 p0 p1 p2 s0 u) := by
  unfold hX1_person_110
  refine v_callSX C [.int s0] [] (ctX1_found t G l hl0 s0 u) (fun _ _ => cwX1_found C.1 q1324 (by decide)) rfl rfl (by exact Nat.le_of_ble_eq_true rfl) dX1_person_110 (fun _ u1 => ?_)
  refine v_aload_n C.1.1 0 rfl rfl dX1_person_113 ?_
  refine v_chk (fun h2 => ?_)
  refine v_hget C.1 (v := va_rf (hR u1 p0 3)) 0 3 (eq_of_beq h2) (by decide) rfl in_X1 (by decide) (Or.inl q312) (fun _ h => h) (hF_r (ci := 0) (eq_of_beq h2) (by decide)) dX1_person_114 ?_
  refine v_deref (fun a3 e4 => ?_)
  refine v_iload_n C.1.1 1 rfl rfl dX1_person_117 ?_
  refine v_chk (fun h7 => ?_)
  refine v_callVH C.1 [.int p1] [] (ctX3_price t G l hl0 a3 p1 u1) (fun _ _ => cwX3_price C.1 q1384 (by decide)) (recO C.1 (ci := 2) (eq_of_beq h7) (by decide) rfl) rfl rfl (by exact Nat.le_of_ble_eq_true rfl) dX1_person_118 (fun r6 u5 => ?_)
  exact v_xiret C.1 dX1_person_121
def hX1_person (p0 : Nat) (p1 : Int32) (p2 : Int32) (u : HS) : Option (OH (PX Int32)) :=
  mchk (hC u p0 == 1) <|
  hx (hX1_aPerson p0 p1 u) fun _ u1 =>
  if p2 = 0 then
    mchk (hC u1 p0 == 1) <|
    mderef (hR u1 p0 2) fun a5 =>
    mchk (hC u1 a5 == 2) <|
    mderef (hR u1 a5 1) fun a8 =>
    mchk (hC u1 a8 == 12) <|
    hb (hJ2_get a8 p1 u1) fun r11 u10 =>
    mchk (hC u10 r11 == 31) <|
    mchk (hC u10 r11 == 31) <|
    hb (hJ16_intValue r11 u10) fun r15 u14 =>
    hret (.inl r15) u14
  else
    if p2 = 1 then
      mchk (hC u1 p0 == 1) <|
      mderef (hR u1 p0 3) fun a6 =>
      mchk (hC u1 a6 == 3) <|
      mderef (hR u1 a6 2) fun a9 =>
      mchk (inA u1 p1 a9 21) <|
      hret (.inl (hA u1 a9 p1.toNatClampNeg)) u1
    else
      if p2 = 2 then
        mchk (hC u1 p0 == 1) <|
        mderef (hR u1 p0 2) fun a7 =>
        mchk (hC u1 a7 == 2) <|
        mderef (hR u1 a7 3) fun a10 =>
        mchk (inA u1 p1 a10 21) <|
        hret (.inl (hA u1 a10 p1.toNatClampNeg)) u1
      else
        if p2 = 3 then
          mchk (hC u1 p0 == 1) <|
          mderef (hR u1 p0 3) fun a8 =>
          mchk (hC u1 a8 == 3) <|
          mderef (hR u1 a8 0) fun a11 =>
          mchk (inA u1 p1 a11 21) <|
          hret (.inl (hA u1 a11 p1.toNatClampNeg)) u1
        else
          if p2 = 4 then
            mchk (hC u1 p0 == 1) <|
            mderef (hR u1 p0 3) fun a9 =>
            mchk (hC u1 a9 == 3) <|
            mderef (hR u1 a9 1) fun a12 =>
            mchk (inA u1 p1 a12 21) <|
            hret (.inl (hA u1 a12 p1.toNatClampNeg)) u1
          else
            if p2 = 5 then
              hX1_person_110 p0 p1 p2 1 u1
            else
              hX1_person_110 p0 p1 p2 0 u1
theorem ctX1_person (t : TT) (G : GH) (l : Launch) (hl0 : l.stackTraces = false) (p0 : Nat) (p1 : Int32) (p2 : Int32) (u : HS) : CtX mkI t G l yX1_person cX1_person 3 (some .int) 10 [.ref p0, .int p1, .int p2] u (hX1_person p0 p1 p2 u) := by
  refine ctX_of [(0, .ref p0), (1, .int p1), (2, .int p2)] hl0 rfl (Nat.le_of_ble_eq_true rfl) rfl (fun K1 K2 p e s m args below meth c C => ?_)
  unfold hX1_person
  refine v_aload_n C.1.1 0 rfl rfl dX1_person_0 ?_
  refine v_iload_n C.1.1 1 rfl rfl dX1_person_1 ?_
  refine v_chk (fun h2 => ?_)
  refine v_callVX C [.int p1] [] (ctX1_aPerson t G l hl0 p0 p1 u) (fun _ _ => cwX1_aPerson C.1 q1380 (by decide)) (recO C.1 (ci := 0) (eq_of_beq h2) (by decide) rfl) rfl rfl (by exact Nat.le_of_ble_eq_true rfl) dX1_person_2 (fun _ u1 => ?_)
  refine v_iload_n C.1.1 2 rfl rfl dX1_person_5 ?_
  refine v_if (fun h3 => ?_) (fun h3 => ?_)
  · refine v_tableIn C.1.1 (34) 40 (by rw [h3]; decide) (by rw [h3]; decide) (by rw [h3]; rfl) (by decide) dX1_person_6 ?_
    refine v_aload_n C.1.1 0 rfl rfl dX1_person_40 ?_
    refine v_chk (fun h4 => ?_)
    refine v_hget C.1 (v := va_rf (hR u1 p0 2)) 0 2 (eq_of_beq h4) (by decide) rfl in_X1 (by decide) (Or.inl q311) (fun _ h => h) (hF_r (ci := 0) (eq_of_beq h4) (by decide)) dX1_person_41 ?_
    refine v_deref (fun a5 e6 => ?_)
    refine v_chk (fun h7 => ?_)
    refine v_hget C.1 (v := va_rf (hR u1 a5 1)) 1 1 (eq_of_beq h7) (by decide) rfl in_X2 (by decide) (Or.inr ⟨_, q202⟩) (fun _ h => h) (hF_r (ci := 1) (eq_of_beq h7) (by decide)) dX1_person_44 ?_
    refine v_deref (fun a8 e9 => ?_)
    refine v_iload_n C.1.1 1 rfl rfl dX1_person_47 ?_
    refine v_chk (fun h12 => ?_)
    refine v_callFH C.1 [.int p1] [] (ctJ2_get t G l hl0 a8 p1 u1) (fun _ _ => cwJ2_getF C.1 q1368 (by decide)) (eq_of_beq h12) (by decide) rfl rfl rfl (by exact Nat.le_of_ble_eq_true rfl) dX1_person_48 (fun r11 u10 => ?_)
    refine v_chk (fun h13 => ?_)
    refine v_hcastB C.1 (eq_of_beq h13) q1369 dX1_person_53 ?_
    refine v_chk (fun h16 => ?_)
    refine v_callVH C.1 [] [] (ctJ16_intValue t G l hl0 r11 u10) (fun _ _ => cwJ16_intValue C.1 q1370 (by decide)) (recB C.1 (eq_of_beq h16)) rfl rfl (by exact Nat.le_of_ble_eq_true rfl) dX1_person_56 (fun r15 u14 => ?_)
    exact v_xiret C.1 dX1_person_59
  · skip
    refine v_if (fun h4 => ?_) (fun h4 => ?_)
    · refine v_tableIn C.1.1 (54) 60 (by rw [h4]; decide) (by rw [h4]; decide) (by rw [h4]; rfl) (by decide) dX1_person_6 ?_
      refine v_aload_n C.1.1 0 rfl rfl dX1_person_60 ?_
      refine v_chk (fun h5 => ?_)
      refine v_hget C.1 (v := va_rf (hR u1 p0 3)) 0 3 (eq_of_beq h5) (by decide) rfl in_X1 (by decide) (Or.inl q312) (fun _ h => h) (hF_r (ci := 0) (eq_of_beq h5) (by decide)) dX1_person_61 ?_
      refine v_deref (fun a6 e7 => ?_)
      refine v_chk (fun h8 => ?_)
      refine v_hget C.1 (v := va_rf (hR u1 a6 2)) 2 2 (eq_of_beq h8) (by decide) rfl in_X3 (by decide) (Or.inr ⟨_, q259⟩) (fun _ h => h) (hF_r (ci := 2) (eq_of_beq h8) (by decide)) dX1_person_64 ?_
      refine v_deref (fun a9 e10 => ?_)
      refine v_iload_n C.1.1 1 rfl rfl dX1_person_67 ?_
      refine v_chk (fun h11 => ?_)
      refine v_haiald C.1 h11 dX1_person_68 ?_
      exact v_xiret C.1 dX1_person_69
    · skip
      refine v_if (fun h5 => ?_) (fun h5 => ?_)
      · refine v_tableIn C.1.1 (64) 70 (by rw [h5]; decide) (by rw [h5]; decide) (by rw [h5]; rfl) (by decide) dX1_person_6 ?_
        refine v_aload_n C.1.1 0 rfl rfl dX1_person_70 ?_
        refine v_chk (fun h6 => ?_)
        refine v_hget C.1 (v := va_rf (hR u1 p0 2)) 0 2 (eq_of_beq h6) (by decide) rfl in_X1 (by decide) (Or.inl q311) (fun _ h => h) (hF_r (ci := 0) (eq_of_beq h6) (by decide)) dX1_person_71 ?_
        refine v_deref (fun a7 e8 => ?_)
        refine v_chk (fun h9 => ?_)
        refine v_hget C.1 (v := va_rf (hR u1 a7 3)) 1 3 (eq_of_beq h9) (by decide) rfl in_X2 (by decide) (Or.inr ⟨_, q209⟩) (fun _ h => h) (hF_r (ci := 1) (eq_of_beq h9) (by decide)) dX1_person_74 ?_
        refine v_deref (fun a10 e11 => ?_)
        refine v_iload_n C.1.1 1 rfl rfl dX1_person_77 ?_
        refine v_chk (fun h12 => ?_)
        refine v_haiald C.1 h12 dX1_person_78 ?_
        exact v_xiret C.1 dX1_person_79
      · skip
        refine v_if (fun h6 => ?_) (fun h6 => ?_)
        · refine v_tableIn C.1.1 (74) 80 (by rw [h6]; decide) (by rw [h6]; decide) (by rw [h6]; rfl) (by decide) dX1_person_6 ?_
          refine v_aload_n C.1.1 0 rfl rfl dX1_person_80 ?_
          refine v_chk (fun h7 => ?_)
          refine v_hget C.1 (v := va_rf (hR u1 p0 3)) 0 3 (eq_of_beq h7) (by decide) rfl in_X1 (by decide) (Or.inl q312) (fun _ h => h) (hF_r (ci := 0) (eq_of_beq h7) (by decide)) dX1_person_81 ?_
          refine v_deref (fun a8 e9 => ?_)
          refine v_chk (fun h10 => ?_)
          refine v_hget C.1 (v := va_rf (hR u1 a8 0)) 2 0 (eq_of_beq h10) (by decide) rfl in_X3 (by decide) (Or.inr ⟨_, q255⟩) (fun _ h => h) (hF_r (ci := 2) (eq_of_beq h10) (by decide)) dX1_person_84 ?_
          refine v_deref (fun a11 e12 => ?_)
          refine v_iload_n C.1.1 1 rfl rfl dX1_person_87 ?_
          refine v_chk (fun h13 => ?_)
          refine v_haiald C.1 h13 dX1_person_88 ?_
          exact v_xiret C.1 dX1_person_89
        · skip
          refine v_if (fun h7 => ?_) (fun h7 => ?_)
          · refine v_tableIn C.1.1 (84) 90 (by rw [h7]; decide) (by rw [h7]; decide) (by rw [h7]; rfl) (by decide) dX1_person_6 ?_
            refine v_aload_n C.1.1 0 rfl rfl dX1_person_90 ?_
            refine v_chk (fun h8 => ?_)
            refine v_hget C.1 (v := va_rf (hR u1 p0 3)) 0 3 (eq_of_beq h8) (by decide) rfl in_X1 (by decide) (Or.inl q312) (fun _ h => h) (hF_r (ci := 0) (eq_of_beq h8) (by decide)) dX1_person_91 ?_
            refine v_deref (fun a9 e10 => ?_)
            refine v_chk (fun h11 => ?_)
            refine v_hget C.1 (v := va_rf (hR u1 a9 1)) 2 1 (eq_of_beq h11) (by decide) rfl in_X3 (by decide) (Or.inr ⟨_, q257⟩) (fun _ h => h) (hF_r (ci := 2) (eq_of_beq h11) (by decide)) dX1_person_94 ?_
            refine v_deref (fun a12 e13 => ?_)
            refine v_iload_n C.1.1 1 rfl rfl dX1_person_97 ?_
            refine v_chk (fun h14 => ?_)
            refine v_haiald C.1 h14 dX1_person_98 ?_
            exact v_xiret C.1 dX1_person_99
          · skip
            refine v_tableOut C.1.1 100 (by have := lv_neT (a := 0) h3 (by decide); have := lv_neT (a := 1) h4 (by decide); have := lv_neT (a := 2) h5 (by decide); have := lv_neT (a := 3) h6 (by decide); have := lv_neT (a := 4) h7 (by decide); omega) (by decide) dX1_person_6 ?_
            refine v_iload_n C.1.1 2 rfl rfl dX1_person_100 ?_
            refine v_iconst C.1.1 5 (by decide) dX1_person_101 ?_
            refine v_icmp_ne C.1.1 109 (by decide) dX1_person_102 (fun _ => ?_) (fun _ => ?_)
            · refine v_iconst C.1.1 1 (by decide) dX1_person_105 ?_
              refine v_goto C.1.1 110 (by decide) dX1_person_106 ?_
              refine v_sub [0, 1] rfl ?_
              exact whX1_person_110 hl0 C p0 p1 p2 1 u1
            · refine v_iconst C.1.1 0 (by decide) dX1_person_109 ?_
              refine v_sub [0, 1] rfl ?_
              exact whX1_person_110 hl0 C p0 p1 p2 0 u1
theorem cwX1_person {t : TT} {G : GH} {l : Launch} {p : Program} {s : State} {m : MethodId} {args : Array Value} {meth : Method} {c : Code} {y0 : MethodName} {cc0 : ByteArray} {nL0 : Nat} {ret0 : Option FieldType} (C : CxH t G l p s m args meth c y0 cc0 nL0 ret0) {index lv mc ms K1 K2 : Nat} (hq : Cond.methodLink y0.cls index yX1_person ∈ lw_all) (hR : 10 + 1 ≤ lv) : CallW (rmH lv K1 K2) s args y0.cls RX1 index yX1_person cX1_person 3 (some .int) (ws_ yX1_person cX1_person 3 (some .int)) (rmH 10 mc ms) mc ms 2 :=
  cwV 2 C.1.2.2.2.2.1 (lw_V hq q1377 q1378 q121 q1379) rfl rfl rfl (by decide +kernel) ⟨hR, by show 8 + (3 + 11) + 100 * 10 ≤ 100 * lv; omega⟩
def hX1_grudge (p0 : Nat) (p1 : Int32) (p2 : Int32) (u : HS) : Option (OH (PX Int32)) :=
  mchk (hC u p0 == 1) <|
  hx (hX1_aMaster p0 p1 u) fun _ u1 =>
  mchk (hC u1 p0 == 1) <|
  hx (hX1_aPerson p0 p2 u1) fun _ u3 =>
  mchk (hC u3 p0 == 1) <|
  mderef (hR u3 p0 3) fun a6 =>
  mchk (hC u3 a6 == 3) <|
  hb (hX3_grudge a6 p1 p2 u3) fun r9 u8 =>
  hret (.inl r9) u8
theorem ctX1_grudge (t : TT) (G : GH) (l : Launch) (hl0 : l.stackTraces = false) (p0 : Nat) (p1 : Int32) (p2 : Int32) (u : HS) : CtX mkI t G l yX1_grudge cX1_grudge 3 (some .int) 421 [.ref p0, .int p1, .int p2] u (hX1_grudge p0 p1 p2 u) := by
  refine ctX_of [(0, .ref p0), (1, .int p1), (2, .int p2)] hl0 rfl (Nat.le_of_ble_eq_true rfl) rfl (fun K1 K2 p e s m args below meth c C => ?_)
  unfold hX1_grudge
  refine v_aload_n C.1.1 0 rfl rfl dX1_grudge_0 ?_
  refine v_iload_n C.1.1 1 rfl rfl dX1_grudge_1 ?_
  refine v_chk (fun h2 => ?_)
  refine v_callVX C [.int p1] [] (ctX1_aMaster t G l hl0 p0 p1 u) (fun _ _ => cwX1_aMaster C.1 q1349 (by decide)) (recO C.1 (ci := 0) (eq_of_beq h2) (by decide) rfl) rfl rfl (by exact Nat.le_of_ble_eq_true rfl) dX1_grudge_2 (fun _ u1 => ?_)
  refine v_aload_n C.1.1 0 rfl rfl dX1_grudge_5 ?_
  refine v_iload_n C.1.1 2 rfl rfl dX1_grudge_6 ?_
  refine v_chk (fun h4 => ?_)
  refine v_callVX C [.int p2] [] (ctX1_aPerson t G l hl0 p0 p2 u1) (fun _ _ => cwX1_aPerson C.1 q1380 (by decide)) (recO C.1 (ci := 0) (eq_of_beq h4) (by decide) rfl) rfl rfl (by exact Nat.le_of_ble_eq_true rfl) dX1_grudge_7 (fun _ u3 => ?_)
  refine v_aload_n C.1.1 0 rfl rfl dX1_grudge_10 ?_
  refine v_chk (fun h5 => ?_)
  refine v_hget C.1 (v := va_rf (hR u3 p0 3)) 0 3 (eq_of_beq h5) (by decide) rfl in_X1 (by decide) (Or.inl q312) (fun _ h => h) (hF_r (ci := 0) (eq_of_beq h5) (by decide)) dX1_grudge_11 ?_
  refine v_deref (fun a6 e7 => ?_)
  refine v_iload_n C.1.1 1 rfl rfl dX1_grudge_14 ?_
  refine v_iload_n C.1.1 2 rfl rfl dX1_grudge_15 ?_
  refine v_chk (fun h10 => ?_)
  refine v_callVH C.1 [.int p1, .int p2] [] (ctX3_grudge t G l hl0 a6 p1 p2 u3) (fun _ _ => cwX3_grudge C.1 q1392 (by decide)) (recO C.1 (ci := 2) (eq_of_beq h10) (by decide) rfl) rfl rfl (by exact Nat.le_of_ble_eq_true rfl) dX1_grudge_16 (fun r9 u8 => ?_)
  exact v_xiret C.1 dX1_grudge_19
theorem cwX1_grudge {t : TT} {G : GH} {l : Launch} {p : Program} {s : State} {m : MethodId} {args : Array Value} {meth : Method} {c : Code} {y0 : MethodName} {cc0 : ByteArray} {nL0 : Nat} {ret0 : Option FieldType} (C : CxH t G l p s m args meth c y0 cc0 nL0 ret0) {index lv mc ms K1 K2 : Nat} (hq : Cond.methodLink y0.cls index yX1_grudge ∈ lw_all) (hR : 421 + 1 ≤ lv) : CallW (rmH lv K1 K2) s args y0.cls RX1 index yX1_grudge cX1_grudge 3 (some .int) (ws_ yX1_grudge cX1_grudge 3 (some .int)) (rmH 421 mc ms) mc ms 2 :=
  cwV 2 C.1.2.2.2.2.1 (lw_V hq q1389 q1390 q121 q1391) rfl rfl rfl (by decide +kernel) ⟨hR, by show 8 + (3 + 11) + 100 * 421 ≤ 100 * lv; omega⟩
def hX1_go_100 (p0 : Nat) (p1 : Int32) (p2 : Int32) (u : HS) : Option (OH (PX Int32)) :=
  mchk (hC u p0 == 1) <|
  hb (hX1_refuse p0 1 u) fun r2 u1 =>
  hret (.inl r2) u1
theorem whX1_go_100 {K1 K2 : Nat} {p : Program} {e : Env} {s : State} {m : MethodId} {args : Array Value} {below : List Frame} {meth : Method} {c : Code} (hl0 : l.stackTraces = false) (C : CxX t G l p s m args meth c yX1_go cX1_go 5 (some .int)) (p0 : Nat) (p1 : Int32) (p2 : Int32) (u : HS) : VX mkI t G p l e 10 K1 K2 s m args below meth c 5 100 [(0, .ref p0)] [] u (hX1_go_100 p0 p1 p2 u) := by
  unfold hX1_go_100
  refine v_aload_n C.1.1 0 rfl rfl dX1_go_100 ?_
  refine v_iconst C.1.1 1 (by decide) dX1_go_101 ?_
  refine v_chk (fun h3 => ?_)
  refine v_callVH C.1 [.int 1] [] (ctX1_refuse t G l hl0 p0 1 u) (fun _ _ => cwX1_refuse C.1 q369 (by decide)) (recO C.1 (ci := 0) (eq_of_beq h3) (by decide) rfl) rfl rfl (by exact Nat.le_of_ble_eq_true rfl) dX1_go_102 (fun r2 u1 => ?_)
  exact v_xiret C.1 dX1_go_105
def hX1_go (p0 : Nat) (p1 : Int32) (p2 : Int32) (u : HS) : Option (OH (PX Int32)) :=
  mchk (hC u p0 == 1) <|
  hx (hX1_aPerson p0 p1 u) fun _ u1 =>
  mchk (hC u1 p0 == 1) <|
  mderef (hR u1 p0 2) fun a4 =>
  mchk (hC u1 a4 == 2) <|
  mderef (hR u1 a4 2) fun a7 =>
  mchk (hC u1 a7 == 12) <|
  hb (hJ2_size a7 u1) fun r10 u9 =>
  hx (hX1_oneOf p2 (r10 - 1) u9) fun _ u12 =>
  mchk (hC u12 p0 == 1) <|
  mderef (hR u12 p0 2) fun a14 =>
  mchk (hC u12 a14 == 2) <|
  mderef (hR u12 a14 2) fun a17 =>
  mchk (hC u12 a17 == 12) <|
  hb (hJ2_get a17 p2 u12) fun r20 u19 =>
  mchk (hC u19 r20 == 7) <|
  mchk (hC u19 p0 == 1) <|
  mderef (hR u19 p0 3) fun a24 =>
  mchk (hC u19 a24 == 3) <|
  mderef (hR u19 a24 2) fun a27 =>
  mchk (inA u19 p1 a27 21) <|
  mchk (hC u19 r20 == 7) <|
  hb (hX7_from r20 (hA u19 a27 p1.toNatClampNeg) u19) fun r31 u30 =>
  mchk (hC u30 p0 == 1) <|
  mderef (hR u30 p0 3) fun a34 =>
  mchk (hC u30 a34 == 3) <|
  hb (hX1_isOf (hI u30 a34 7) p1 u30) fun r38 u37 =>
  if r38 = 0 then
    mchk (hC u37 p0 == 1) <|
    mderef (hR u37 p0 3) fun a40 =>
    mchk (hC u37 a40 == 3) <|
    hb (hX3_isAway a40 p1 u37) fun r43 u42 =>
    if r43 = 0 then
      if r31 = (-1) then
        hX1_go_100 p0 p1 p2 u42
      else
        mchk (hC u42 p0 == 1) <|
        mderef (hR u42 p0 3) fun a46 =>
        mchk (hC u42 a46 == 3) <|
        mchk (hC u42 r20 == 7) <|
        if (hI u42 a46 6) < (hI u42 r20 2) then
          mchk (hC u42 p0 == 1) <|
          hb (hX1_keep p0 u42) fun _ u50 =>
          mchk (hC u50 p0 == 1) <|
          mderef (hR u50 p0 3) fun a53 =>
          mchk (hC u50 a53 == 3) <|
          mderef (hR u50 a53 2) fun a56 =>
          mchk (inA u50 p1 a56 21) <|
          mlet (uA u50 a56 p1.toNatClampNeg r31) fun u58 =>
          hret (.inl r31) u58
        else
          hX1_go_100 p0 p1 p2 u42
    else
      hX1_go_100 p0 p1 p2 u42
  else
    hX1_go_100 p0 p1 p2 u37
theorem ctX1_go (t : TT) (G : GH) (l : Launch) (hl0 : l.stackTraces = false) (p0 : Nat) (p1 : Int32) (p2 : Int32) (u : HS) : CtX mkI t G l yX1_go cX1_go 5 (some .int) 10 [.ref p0, .int p1, .int p2] u (hX1_go p0 p1 p2 u) := by
  refine ctX_of [(0, .ref p0), (1, .int p1), (2, .int p2)] hl0 rfl (Nat.le_of_ble_eq_true rfl) rfl (fun K1 K2 p e s m args below meth c C => ?_)
  unfold hX1_go
  refine v_aload_n C.1.1 0 rfl rfl dX1_go_0 ?_
  refine v_iload_n C.1.1 1 rfl rfl dX1_go_1 ?_
  refine v_chk (fun h2 => ?_)
  refine v_callVX C [.int p1] [] (ctX1_aPerson t G l hl0 p0 p1 u) (fun _ _ => cwX1_aPerson C.1 q1380 (by decide)) (recO C.1 (ci := 0) (eq_of_beq h2) (by decide) rfl) rfl rfl (by exact Nat.le_of_ble_eq_true rfl) dX1_go_2 (fun _ u1 => ?_)
  refine v_iload_n C.1.1 2 rfl rfl dX1_go_5 ?_
  refine v_aload_n C.1.1 0 rfl rfl dX1_go_6 ?_
  refine v_chk (fun h3 => ?_)
  refine v_hget C.1 (v := va_rf (hR u1 p0 2)) 0 2 (eq_of_beq h3) (by decide) rfl in_X1 (by decide) (Or.inl q311) (fun _ h => h) (hF_r (ci := 0) (eq_of_beq h3) (by decide)) dX1_go_7 ?_
  refine v_deref (fun a4 e5 => ?_)
  refine v_chk (fun h6 => ?_)
  refine v_hget C.1 (v := va_rf (hR u1 a4 2)) 1 2 (eq_of_beq h6) (by decide) rfl in_X2 (by decide) (Or.inr ⟨_, q205⟩) (fun _ h => h) (hF_r (ci := 1) (eq_of_beq h6) (by decide)) dX1_go_10 ?_
  refine v_deref (fun a7 e8 => ?_)
  refine v_chk (fun h11 => ?_)
  refine v_callFH C.1 [] [.int p2] (ctJ2_size t G l hl0 a7 u1) (fun _ _ => cwJ2_sizeF C.1 q453 (by decide)) (eq_of_beq h11) (by decide) rfl rfl rfl (by exact Nat.le_of_ble_eq_true rfl) dX1_go_13 (fun r10 u9 => ?_)
  refine v_iconst C.1.1 1 (by decide) dX1_go_18 ?_
  refine v_isub C.1.1 dX1_go_19 ?_
  refine v_callSX C [.int p2, .int (r10 - 1)] [] (ctX1_oneOf t G l hl0 p2 (r10 - 1) u9) (fun _ _ => cwX1_oneOf C.1 q1353 (by decide)) rfl rfl (by exact Nat.le_of_ble_eq_true rfl) dX1_go_20 (fun _ u12 => ?_)
  refine v_aload_n C.1.1 0 rfl rfl dX1_go_23 ?_
  refine v_chk (fun h13 => ?_)
  refine v_hget C.1 (v := va_rf (hR u12 p0 2)) 0 2 (eq_of_beq h13) (by decide) rfl in_X1 (by decide) (Or.inl q311) (fun _ h => h) (hF_r (ci := 0) (eq_of_beq h13) (by decide)) dX1_go_24 ?_
  refine v_deref (fun a14 e15 => ?_)
  refine v_chk (fun h16 => ?_)
  refine v_hget C.1 (v := va_rf (hR u12 a14 2)) 1 2 (eq_of_beq h16) (by decide) rfl in_X2 (by decide) (Or.inr ⟨_, q205⟩) (fun _ h => h) (hF_r (ci := 1) (eq_of_beq h16) (by decide)) dX1_go_27 ?_
  refine v_deref (fun a17 e18 => ?_)
  refine v_iload_n C.1.1 2 rfl rfl dX1_go_30 ?_
  refine v_chk (fun h21 => ?_)
  refine v_callFH C.1 [.int p2] [] (ctJ2_get t G l hl0 a17 p2 u12) (fun _ _ => cwJ2_getF C.1 q1368 (by decide)) (eq_of_beq h21) (by decide) rfl rfl rfl (by exact Nat.le_of_ble_eq_true rfl) dX1_go_31 (fun r20 u19 => ?_)
  refine v_chk (fun h22 => ?_)
  refine v_hcastS C.1 6 (eq_of_beq h22) (by decide) rfl q1371 dX1_go_36 ?_
  refine v_astore_n C.1.1 [(3, .ref r20), (0, .ref p0), (1, .int p1), (2, .int p2)] rfl (by decide) rfl dX1_go_39 ?_
  refine v_aload_n C.1.1 0 rfl rfl dX1_go_40 ?_
  refine v_aload_n C.1.1 1 rfl rfl dX1_go_41 ?_
  refine v_chk (fun h23 => ?_)
  refine v_hget C.1 (v := va_rf (hR u19 p0 3)) 0 3 (eq_of_beq h23) (by decide) rfl in_X1 (by decide) (Or.inl q312) (fun _ h => h) (hF_r (ci := 0) (eq_of_beq h23) (by decide)) dX1_go_42 ?_
  refine v_deref (fun a24 e25 => ?_)
  refine v_chk (fun h26 => ?_)
  refine v_hget C.1 (v := va_rf (hR u19 a24 2)) 2 2 (eq_of_beq h26) (by decide) rfl in_X3 (by decide) (Or.inr ⟨_, q259⟩) (fun _ h => h) (hF_r (ci := 2) (eq_of_beq h26) (by decide)) dX1_go_45 ?_
  refine v_deref (fun a27 e28 => ?_)
  refine v_iload_n C.1.1 2 rfl rfl dX1_go_48 ?_
  refine v_chk (fun h29 => ?_)
  refine v_haiald C.1 h29 dX1_go_49 ?_
  refine v_chk (fun h32 => ?_)
  refine v_callVH C.1 [.int (hA u19 a27 p1.toNatClampNeg)] [] (ctX7_from t G l hl0 r20 (hA u19 a27 p1.toNatClampNeg) u19) (fun _ _ => cwX7_from C.1 q1372 (by decide)) (recO C.1 (ci := 6) (eq_of_beq h32) (by decide) rfl) rfl rfl (by exact Nat.le_of_ble_eq_true rfl) dX1_go_50 (fun r31 u30 => ?_)
  refine v_istore C.1.1 [(4, .int r31), (3, .ref r20), (0, .ref p0), (1, .int p1), (2, .int p2)] (by decide) rfl dX1_go_53 ?_
  refine v_aload_n C.1.1 2 rfl rfl dX1_go_55 ?_
  refine v_chk (fun h33 => ?_)
  refine v_hget C.1 (v := va_rf (hR u30 p0 3)) 0 3 (eq_of_beq h33) (by decide) rfl in_X1 (by decide) (Or.inl q312) (fun _ h => h) (hF_r (ci := 0) (eq_of_beq h33) (by decide)) dX1_go_56 ?_
  refine v_deref (fun a34 e35 => ?_)
  refine v_chk (fun h36 => ?_)
  refine v_hget C.1 (v := .int (hI u30 a34 7)) 2 7 (eq_of_beq h36) (by decide) rfl in_X3 (by decide) (Or.inr ⟨_, q271⟩) (fun _ h => h) (hF_i (ci := 2) (eq_of_beq h36) (by decide)) dX1_go_59 ?_
  refine v_iload_n C.1.1 3 rfl rfl dX1_go_62 ?_
  refine v_callSH C.1 [.int (hI u30 a34 7), .int p1] [] (ctX1_isOf t G l hl0 (hI u30 a34 7) p1 u30) (fun _ _ => cwX1_isOf C.1 q1323 (by decide)) rfl rfl (by exact Nat.le_of_ble_eq_true rfl) dX1_go_63 (fun r38 u37 => ?_)
  refine v_if_ne C.1.1 100 (by decide) dX1_go_66 (fun _ => ?_) (fun _ => ?_)
  · refine v_aload_n C.1.1 2 rfl rfl dX1_go_69 ?_
    refine v_chk (fun h39 => ?_)
    refine v_hget C.1 (v := va_rf (hR u37 p0 3)) 0 3 (eq_of_beq h39) (by decide) rfl in_X1 (by decide) (Or.inl q312) (fun _ h => h) (hF_r (ci := 0) (eq_of_beq h39) (by decide)) dX1_go_70 ?_
    refine v_deref (fun a40 e41 => ?_)
    refine v_iload_n C.1.1 3 rfl rfl dX1_go_73 ?_
    refine v_chk (fun h44 => ?_)
    refine v_callVH C.1 [.int p1] [] (ctX3_isAway t G l hl0 a40 p1 u37) (fun _ _ => cwX3_isAway C.1 q1400 (by decide)) (recO C.1 (ci := 2) (eq_of_beq h44) (by decide) rfl) rfl rfl (by exact Nat.le_of_ble_eq_true rfl) dX1_go_74 (fun r43 u42 => ?_)
    refine v_if_ne C.1.1 100 (by decide) dX1_go_77 (fun _ => ?_) (fun _ => ?_)
    · refine v_iload C.1.1 0 rfl dX1_go_80 ?_
      refine v_iconst C.1.1 (-1) (by decide) dX1_go_82 ?_
      refine v_icmp_eq C.1.1 100 (by decide) dX1_go_83 (fun _ => ?_) (fun _ => ?_)
      · refine v_sub [2] rfl ?_
        exact whX1_go_100 hl0 C p0 p1 p2 u42
      · refine v_aload_n C.1.1 2 rfl rfl dX1_go_86 ?_
        refine v_chk (fun h45 => ?_)
        refine v_hget C.1 (v := va_rf (hR u42 p0 3)) 0 3 (eq_of_beq h45) (by decide) rfl in_X1 (by decide) (Or.inl q312) (fun _ h => h) (hF_r (ci := 0) (eq_of_beq h45) (by decide)) dX1_go_87 ?_
        refine v_deref (fun a46 e47 => ?_)
        refine v_chk (fun h48 => ?_)
        refine v_hget C.1 (v := .int (hI u42 a46 6)) 2 6 (eq_of_beq h48) (by decide) rfl in_X3 (by decide) (Or.inr ⟨_, q269⟩) (fun _ h => h) (hF_i (ci := 2) (eq_of_beq h48) (by decide)) dX1_go_90 ?_
        refine v_aload_n C.1.1 1 rfl rfl dX1_go_93 ?_
        refine v_chk (fun h49 => ?_)
        refine v_hget C.1 (v := .int (hI u42 r20 2)) 6 2 (eq_of_beq h49) (by decide) rfl in_X7 (by decide) (Or.inr ⟨_, q1094⟩) (fun _ h => h) (hF_i (ci := 6) (eq_of_beq h49) (by decide)) dX1_go_94 ?_
        refine v_icmp_lt C.1.1 106 (by decide) dX1_go_97 (fun _ => ?_) (fun _ => ?_)
        · refine v_aload_n C.1.1 2 rfl rfl dX1_go_106 ?_
          refine v_chk (fun h51 => ?_)
          refine v_callVH C.1 [] [] (ctX1_keep t G l hl0 p0 u42) (fun _ _ => cwX1_keep C.1 q373 (by decide)) (recO C.1 (ci := 0) (eq_of_beq h51) (by decide) rfl) rfl rfl (by exact Nat.le_of_ble_eq_true rfl) dX1_go_107 (fun _ u50 => ?_)
          refine v_aload_n C.1.1 2 rfl rfl dX1_go_110 ?_
          refine v_chk (fun h52 => ?_)
          refine v_hget C.1 (v := va_rf (hR u50 p0 3)) 0 3 (eq_of_beq h52) (by decide) rfl in_X1 (by decide) (Or.inl q312) (fun _ h => h) (hF_r (ci := 0) (eq_of_beq h52) (by decide)) dX1_go_111 ?_
          refine v_deref (fun a53 e54 => ?_)
          refine v_chk (fun h55 => ?_)
          refine v_hget C.1 (v := va_rf (hR u50 a53 2)) 2 2 (eq_of_beq h55) (by decide) rfl in_X3 (by decide) (Or.inr ⟨_, q259⟩) (fun _ h => h) (hF_r (ci := 2) (eq_of_beq h55) (by decide)) dX1_go_114 ?_
          refine v_deref (fun a56 e57 => ?_)
          refine v_iload_n C.1.1 3 rfl rfl dX1_go_117 ?_
          refine v_iload C.1.1 0 rfl dX1_go_118 ?_
          refine v_chk (fun h59 => ?_)
          refine v_haiast C.1 h59 dX1_go_120 (fun u58 => ?_)
          refine v_iload C.1.1 0 rfl dX1_go_121 ?_
          exact v_xiret C.1 dX1_go_123
        · refine v_sub [2] rfl ?_
          exact whX1_go_100 hl0 C p0 p1 p2 u42
    · refine v_sub [2] rfl ?_
      exact whX1_go_100 hl0 C p0 p1 p2 u42
  · refine v_sub [2] rfl ?_
    exact whX1_go_100 hl0 C p0 p1 p2 u37
theorem cwX1_go {t : TT} {G : GH} {l : Launch} {p : Program} {s : State} {m : MethodId} {args : Array Value} {meth : Method} {c : Code} {y0 : MethodName} {cc0 : ByteArray} {nL0 : Nat} {ret0 : Option FieldType} (C : CxH t G l p s m args meth c y0 cc0 nL0 ret0) {index lv mc ms K1 K2 : Nat} (hq : Cond.methodLink y0.cls index yX1_go ∈ lw_all) (hR : 10 + 1 ≤ lv) : CallW (rmH lv K1 K2) s args y0.cls RX1 index yX1_go cX1_go 5 (some .int) (ws_ yX1_go cX1_go 5 (some .int)) (rmH 10 mc ms) mc ms 2 :=
  cwV 2 C.1.2.2.2.2.1 (lw_V hq q1397 q1398 q121 q1399) rfl rfl rfl (by decide +kernel) ⟨hR, by show 8 + (5 + 11) + 100 * 10 ≤ 100 * lv; omega⟩
def hX1_write (p0 : Nat) (p1 : Int32) (u : HS) : Option (OH (PX Int32)) :=
  mchk (hC u p0 == 1) <|
  hx (hX1_aPerson p0 p1 u) fun _ u1 =>
  mchk (hC u1 p0 == 1) <|
  mderef (hR u1 p0 3) fun a4 =>
  mchk (hC u1 a4 == 3) <|
  hb (hX3_isListed a4 p1 u1) fun r7 u6 =>
  if r7 = 0 then
    mchk (hC u6 p0 == 1) <|
    hb (hX1_keep p0 u6) fun _ u9 =>
    mchk (hC u9 p0 == 1) <|
    mderef (hR u9 p0 3) fun a12 =>
    mchk (hC u9 a12 == 3) <|
    hb (hX3_write a12 p1 (-2) u9) fun _ u14 =>
    hz .inl 1 u14
  else
    mchk (hC u6 p0 == 1) <|
    hb (hX1_refuses p0 u6) fun r10 u9 =>
    hz .inl r10 u9
theorem ctX1_write (t : TT) (G : GH) (l : Launch) (hl0 : l.stackTraces = false) (p0 : Nat) (p1 : Int32) (u : HS) : CtX mkI t G l yX1_write cX1_write 2 (some .boolean) 10 [.ref p0, .int p1] u (hX1_write p0 p1 u) := by
  refine ctX_of [(0, .ref p0), (1, .int p1)] hl0 rfl (Nat.le_of_ble_eq_true rfl) rfl (fun K1 K2 p e s m args below meth c C => ?_)
  unfold hX1_write
  refine v_aload_n C.1.1 0 rfl rfl dX1_write_0 ?_
  refine v_iload_n C.1.1 1 rfl rfl dX1_write_1 ?_
  refine v_chk (fun h2 => ?_)
  refine v_callVX C [.int p1] [] (ctX1_aPerson t G l hl0 p0 p1 u) (fun _ _ => cwX1_aPerson C.1 q1380 (by decide)) (recO C.1 (ci := 0) (eq_of_beq h2) (by decide) rfl) rfl rfl (by exact Nat.le_of_ble_eq_true rfl) dX1_write_2 (fun _ u1 => ?_)
  refine v_aload_n C.1.1 0 rfl rfl dX1_write_5 ?_
  refine v_chk (fun h3 => ?_)
  refine v_hget C.1 (v := va_rf (hR u1 p0 3)) 0 3 (eq_of_beq h3) (by decide) rfl in_X1 (by decide) (Or.inl q312) (fun _ h => h) (hF_r (ci := 0) (eq_of_beq h3) (by decide)) dX1_write_6 ?_
  refine v_deref (fun a4 e5 => ?_)
  refine v_iload_n C.1.1 1 rfl rfl dX1_write_9 ?_
  refine v_chk (fun h8 => ?_)
  refine v_callVH C.1 [.int p1] [] (ctX3_isListed t G l hl0 a4 p1 u1) (fun _ _ => cwX3_isListed C.1 q1408 (by decide)) (recO C.1 (ci := 2) (eq_of_beq h8) (by decide) rfl) rfl rfl (by exact Nat.le_of_ble_eq_true rfl) dX1_write_10 (fun r7 u6 => ?_)
  refine v_if_eq C.1.1 21 (by decide) dX1_write_13 (fun _ => ?_) (fun _ => ?_)
  · refine v_aload_n C.1.1 0 rfl rfl dX1_write_21 ?_
    refine v_chk (fun h10 => ?_)
    refine v_callVH C.1 [] [] (ctX1_keep t G l hl0 p0 u6) (fun _ _ => cwX1_keep C.1 q373 (by decide)) (recO C.1 (ci := 0) (eq_of_beq h10) (by decide) rfl) rfl rfl (by exact Nat.le_of_ble_eq_true rfl) dX1_write_22 (fun _ u9 => ?_)
    refine v_aload_n C.1.1 0 rfl rfl dX1_write_25 ?_
    refine v_chk (fun h11 => ?_)
    refine v_hget C.1 (v := va_rf (hR u9 p0 3)) 0 3 (eq_of_beq h11) (by decide) rfl in_X1 (by decide) (Or.inl q312) (fun _ h => h) (hF_r (ci := 0) (eq_of_beq h11) (by decide)) dX1_write_26 ?_
    refine v_deref (fun a12 e13 => ?_)
    refine v_iload_n C.1.1 1 rfl rfl dX1_write_29 ?_
    refine v_bipush C.1.1 (-2) (by decide) dX1_write_30 ?_
    refine v_chk (fun h15 => ?_)
    refine v_callVH C.1 [.int p1, .int (-2)] [] (ctX3_write t G l hl0 a12 p1 (-2) u9) (fun _ _ => cwX3_write C.1 q1409 (by decide)) (recO C.1 (ci := 2) (eq_of_beq h15) (by decide) rfl) rfl rfl (by exact Nat.le_of_ble_eq_true rfl) dX1_write_32 (fun _ u14 => ?_)
    refine v_iconst C.1.1 1 (by decide) dX1_write_35 ?_
    exact v_xzret C.1 dX1_write_36
  · refine v_aload_n C.1.1 0 rfl rfl dX1_write_16 ?_
    refine v_chk (fun h11 => ?_)
    refine v_callVH C.1 [] [] (ctX1_refuses t G l hl0 p0 u6) (fun _ _ => cwX1_refuses C.1 q669 (by decide)) (recO C.1 (ci := 0) (eq_of_beq h11) (by decide) rfl) rfl rfl (by exact Nat.le_of_ble_eq_true rfl) dX1_write_17 (fun r10 u9 => ?_)
    exact v_xzret C.1 dX1_write_20
theorem cwX1_write {t : TT} {G : GH} {l : Launch} {p : Program} {s : State} {m : MethodId} {args : Array Value} {meth : Method} {c : Code} {y0 : MethodName} {cc0 : ByteArray} {nL0 : Nat} {ret0 : Option FieldType} (C : CxH t G l p s m args meth c y0 cc0 nL0 ret0) {index lv mc ms K1 K2 : Nat} (hq : Cond.methodLink y0.cls index yX1_write ∈ lw_all) (hR : 10 + 1 ≤ lv) : CallW (rmH lv K1 K2) s args y0.cls RX1 index yX1_write cX1_write 2 (some .boolean) (ws_ yX1_write cX1_write 2 (some .boolean)) (rmH 10 mc ms) mc ms 1 :=
  cwV 1 C.1.2.2.2.2.1 (lw_V hq q1405 q1406 q121 q1407) rfl rfl rfl (by decide +kernel) ⟨hR, by show 8 + (2 + 11) + 100 * 10 ≤ 100 * lv; omega⟩
def hX1_strike_30 (p0 : Nat) (p1 : Int32) (u : HS) : Option (OH (PX Int32)) :=
  mchk (hC u p0 == 1) <|
  hb (hX1_refuse p0 1 u) fun r2 u1 =>
  hret (.inl r2) u1
theorem whX1_strike_30 {K1 K2 : Nat} {p : Program} {e : Env} {s : State} {m : MethodId} {args : Array Value} {below : List Frame} {meth : Method} {c : Code} (hl0 : l.stackTraces = false) (C : CxX t G l p s m args meth c yX1_strike cX1_strike 3 (some .int)) (p0 : Nat) (p1 : Int32) (u : HS) : VX mkI t G p l e 10 K1 K2 s m args below meth c 3 30 [(0, .ref p0)] [] u (hX1_strike_30 p0 p1 u) := by
  unfold hX1_strike_30
  refine v_aload_n C.1.1 0 rfl rfl dX1_strike_30 ?_
  refine v_iconst C.1.1 1 (by decide) dX1_strike_31 ?_
  refine v_chk (fun h3 => ?_)
  refine v_callVH C.1 [.int 1] [] (ctX1_refuse t G l hl0 p0 1 u) (fun _ _ => cwX1_refuse C.1 q369 (by decide)) (recO C.1 (ci := 0) (eq_of_beq h3) (by decide) rfl) rfl rfl (by exact Nat.le_of_ble_eq_true rfl) dX1_strike_32 (fun r2 u1 => ?_)
  exact v_xiret C.1 dX1_strike_35
def hX1_strike (p0 : Nat) (p1 : Int32) (u : HS) : Option (OH (PX Int32)) :=
  mchk (hC u p0 == 1) <|
  hx (hX1_aPerson p0 p1 u) fun _ u1 =>
  mchk (hC u1 p0 == 1) <|
  mderef (hR u1 p0 3) fun a4 =>
  mchk (hC u1 a4 == 3) <|
  hb (hX3_isListed a4 p1 u1) fun r7 u6 =>
  if r7 = 0 then
    hX1_strike_30 p0 p1 u6
  else
    mchk (hC u6 p0 == 1) <|
    mderef (hR u6 p0 3) fun a10 =>
    mchk (hC u6 a10 == 3) <|
    hb (hX1_isOf (hI u6 a10 7) p1 u6) fun r14 u13 =>
    if r14 = 0 then
      mchk (hC u13 p0 == 1) <|
      hb (hX1_keep p0 u13) fun _ u15 =>
      mchk (hC u15 p0 == 1) <|
      mderef (hR u15 p0 3) fun a18 =>
      mchk (hC u15 a18 == 3) <|
      mderef (hR u15 a18 1) fun a21 =>
      mchk (inA u15 p1 a21 21) <|
      mlet (hA u15 a21 p1.toNatClampNeg) fun v24 =>
      mchk (hC u15 p0 == 1) <|
      mderef (hR u15 p0 3) fun a26 =>
      mchk (hC u15 a26 == 3) <|
      mderef (hR u15 a26 1) fun a29 =>
      mchk (inA u15 p1 a29 21) <|
      mlet (uA u15 a29 p1.toNatClampNeg (-1)) fun u31 =>
      mchk (hC u31 p0 == 1) <|
      mderef (hR u31 p0 3) fun a34 =>
      mchk (hC u31 a34 == 3) <|
      mderef (hR u31 a34 0) fun a37 =>
      mchk (inA u31 p1 a37 21) <|
      mlet (uA u31 a37 p1.toNatClampNeg (-1)) fun u39 =>
      hret (.inl v24) u39
    else
      hX1_strike_30 p0 p1 u13
theorem ctX1_strike (t : TT) (G : GH) (l : Launch) (hl0 : l.stackTraces = false) (p0 : Nat) (p1 : Int32) (u : HS) : CtX mkI t G l yX1_strike cX1_strike 3 (some .int) 10 [.ref p0, .int p1] u (hX1_strike p0 p1 u) := by
  refine ctX_of [(0, .ref p0), (1, .int p1)] hl0 rfl (Nat.le_of_ble_eq_true rfl) rfl (fun K1 K2 p e s m args below meth c C => ?_)
  unfold hX1_strike
  refine v_aload_n C.1.1 0 rfl rfl dX1_strike_0 ?_
  refine v_iload_n C.1.1 1 rfl rfl dX1_strike_1 ?_
  refine v_chk (fun h2 => ?_)
  refine v_callVX C [.int p1] [] (ctX1_aPerson t G l hl0 p0 p1 u) (fun _ _ => cwX1_aPerson C.1 q1380 (by decide)) (recO C.1 (ci := 0) (eq_of_beq h2) (by decide) rfl) rfl rfl (by exact Nat.le_of_ble_eq_true rfl) dX1_strike_2 (fun _ u1 => ?_)
  refine v_aload_n C.1.1 0 rfl rfl dX1_strike_5 ?_
  refine v_chk (fun h3 => ?_)
  refine v_hget C.1 (v := va_rf (hR u1 p0 3)) 0 3 (eq_of_beq h3) (by decide) rfl in_X1 (by decide) (Or.inl q312) (fun _ h => h) (hF_r (ci := 0) (eq_of_beq h3) (by decide)) dX1_strike_6 ?_
  refine v_deref (fun a4 e5 => ?_)
  refine v_iload_n C.1.1 1 rfl rfl dX1_strike_9 ?_
  refine v_chk (fun h8 => ?_)
  refine v_callVH C.1 [.int p1] [] (ctX3_isListed t G l hl0 a4 p1 u1) (fun _ _ => cwX3_isListed C.1 q1408 (by decide)) (recO C.1 (ci := 2) (eq_of_beq h8) (by decide) rfl) rfl rfl (by exact Nat.le_of_ble_eq_true rfl) dX1_strike_10 (fun r7 u6 => ?_)
  refine v_if_eq C.1.1 30 (by decide) dX1_strike_13 (fun _ => ?_) (fun _ => ?_)
  · refine v_sub [0] rfl ?_
    exact whX1_strike_30 hl0 C p0 p1 u6
  · refine v_aload_n C.1.1 0 rfl rfl dX1_strike_16 ?_
    refine v_chk (fun h9 => ?_)
    refine v_hget C.1 (v := va_rf (hR u6 p0 3)) 0 3 (eq_of_beq h9) (by decide) rfl in_X1 (by decide) (Or.inl q312) (fun _ h => h) (hF_r (ci := 0) (eq_of_beq h9) (by decide)) dX1_strike_17 ?_
    refine v_deref (fun a10 e11 => ?_)
    refine v_chk (fun h12 => ?_)
    refine v_hget C.1 (v := .int (hI u6 a10 7)) 2 7 (eq_of_beq h12) (by decide) rfl in_X3 (by decide) (Or.inr ⟨_, q271⟩) (fun _ h => h) (hF_i (ci := 2) (eq_of_beq h12) (by decide)) dX1_strike_20 ?_
    refine v_iload_n C.1.1 1 rfl rfl dX1_strike_23 ?_
    refine v_callSH C.1 [.int (hI u6 a10 7), .int p1] [] (ctX1_isOf t G l hl0 (hI u6 a10 7) p1 u6) (fun _ _ => cwX1_isOf C.1 q1323 (by decide)) rfl rfl (by exact Nat.le_of_ble_eq_true rfl) dX1_strike_24 (fun r14 u13 => ?_)
    refine v_if_eq C.1.1 36 (by decide) dX1_strike_27 (fun _ => ?_) (fun _ => ?_)
    · refine v_aload_n C.1.1 0 rfl rfl dX1_strike_36 ?_
      refine v_chk (fun h16 => ?_)
      refine v_callVH C.1 [] [] (ctX1_keep t G l hl0 p0 u13) (fun _ _ => cwX1_keep C.1 q373 (by decide)) (recO C.1 (ci := 0) (eq_of_beq h16) (by decide) rfl) rfl rfl (by exact Nat.le_of_ble_eq_true rfl) dX1_strike_37 (fun _ u15 => ?_)
      refine v_aload_n C.1.1 0 rfl rfl dX1_strike_40 ?_
      refine v_chk (fun h17 => ?_)
      refine v_hget C.1 (v := va_rf (hR u15 p0 3)) 0 3 (eq_of_beq h17) (by decide) rfl in_X1 (by decide) (Or.inl q312) (fun _ h => h) (hF_r (ci := 0) (eq_of_beq h17) (by decide)) dX1_strike_41 ?_
      refine v_deref (fun a18 e19 => ?_)
      refine v_chk (fun h20 => ?_)
      refine v_hget C.1 (v := va_rf (hR u15 a18 1)) 2 1 (eq_of_beq h20) (by decide) rfl in_X3 (by decide) (Or.inr ⟨_, q257⟩) (fun _ h => h) (hF_r (ci := 2) (eq_of_beq h20) (by decide)) dX1_strike_44 ?_
      refine v_deref (fun a21 e22 => ?_)
      refine v_iload_n C.1.1 1 rfl rfl dX1_strike_47 ?_
      refine v_chk (fun h23 => ?_)
      refine v_haiald C.1 h23 dX1_strike_48 ?_
      refine v_topi (fun v24 => ?_)
      refine v_istore_n C.1.1 [(2, .int v24), (0, .ref p0), (1, .int p1)] rfl (by decide) rfl dX1_strike_49 ?_
      refine v_aload_n C.1.1 1 rfl rfl dX1_strike_50 ?_
      refine v_chk (fun h25 => ?_)
      refine v_hget C.1 (v := va_rf (hR u15 p0 3)) 0 3 (eq_of_beq h25) (by decide) rfl in_X1 (by decide) (Or.inl q312) (fun _ h => h) (hF_r (ci := 0) (eq_of_beq h25) (by decide)) dX1_strike_51 ?_
      refine v_deref (fun a26 e27 => ?_)
      refine v_chk (fun h28 => ?_)
      refine v_hget C.1 (v := va_rf (hR u15 a26 1)) 2 1 (eq_of_beq h28) (by decide) rfl in_X3 (by decide) (Or.inr ⟨_, q257⟩) (fun _ h => h) (hF_r (ci := 2) (eq_of_beq h28) (by decide)) dX1_strike_54 ?_
      refine v_deref (fun a29 e30 => ?_)
      refine v_iload_n C.1.1 2 rfl rfl dX1_strike_57 ?_
      refine v_iconst C.1.1 (-1) (by decide) dX1_strike_58 ?_
      refine v_chk (fun h32 => ?_)
      refine v_haiast C.1 h32 dX1_strike_59 (fun u31 => ?_)
      refine v_aload_n C.1.1 1 rfl rfl dX1_strike_60 ?_
      refine v_chk (fun h33 => ?_)
      refine v_hget C.1 (v := va_rf (hR u31 p0 3)) 0 3 (eq_of_beq h33) (by decide) rfl in_X1 (by decide) (Or.inl q312) (fun _ h => h) (hF_r (ci := 0) (eq_of_beq h33) (by decide)) dX1_strike_61 ?_
      refine v_deref (fun a34 e35 => ?_)
      refine v_chk (fun h36 => ?_)
      refine v_hget C.1 (v := va_rf (hR u31 a34 0)) 2 0 (eq_of_beq h36) (by decide) rfl in_X3 (by decide) (Or.inr ⟨_, q255⟩) (fun _ h => h) (hF_r (ci := 2) (eq_of_beq h36) (by decide)) dX1_strike_64 ?_
      refine v_deref (fun a37 e38 => ?_)
      refine v_iload_n C.1.1 2 rfl rfl dX1_strike_67 ?_
      refine v_iconst C.1.1 (-1) (by decide) dX1_strike_68 ?_
      refine v_chk (fun h40 => ?_)
      refine v_haiast C.1 h40 dX1_strike_69 (fun u39 => ?_)
      refine v_iload_n C.1.1 0 rfl rfl dX1_strike_70 ?_
      exact v_xiret C.1 dX1_strike_71
    · refine v_sub [0] rfl ?_
      exact whX1_strike_30 hl0 C p0 p1 u13
theorem cwX1_strike {t : TT} {G : GH} {l : Launch} {p : Program} {s : State} {m : MethodId} {args : Array Value} {meth : Method} {c : Code} {y0 : MethodName} {cc0 : ByteArray} {nL0 : Nat} {ret0 : Option FieldType} (C : CxH t G l p s m args meth c y0 cc0 nL0 ret0) {index lv mc ms K1 K2 : Nat} (hq : Cond.methodLink y0.cls index yX1_strike ∈ lw_all) (hR : 10 + 1 ≤ lv) : CallW (rmH lv K1 K2) s args y0.cls RX1 index yX1_strike cX1_strike 3 (some .int) (ws_ yX1_strike cX1_strike 3 (some .int)) (rmH 10 mc ms) mc ms 1 :=
  cwV 1 C.1.2.2.2.2.1 (lw_V hq q1414 q1415 q121 q1416) rfl rfl rfl (by decide +kernel) ⟨hR, by show 8 + (3 + 11) + 100 * 10 ≤ 100 * lv; omega⟩
end
