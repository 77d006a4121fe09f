/-! walks in mode W, printed by tools/genw.py -/
set_option maxRecDepth 100000
section
variable {t : TT} {G : GH} {l : Launch}
def hX1_board_17 (p0 : Nat) (p1 : Int32) (s0 : Int32) (u : HS) : Option (OH (PX Int32)) :=
  hx (hX1_right s0 u) fun _ u1 =>
  mchk (hC u1 p0 == 1) <|
  mlet (uI u1 p0 5 0) fun u3 =>
  mchk (hC u3 p0 == 1) <|
  mlet (uI u3 p0 6 (-1)) fun u5 =>
  mlet (hZ u5) fun a6 =>
  addc 1 (cN 4) <|
  mlet (nO u5 4) fun u8 =>
  hb (hX5_init a6 p0 p1 u8) fun _ u9 =>
  mchk (hC u9 a6 == 5) <|
  hc (hX5_read a6 u9) (fun r11 u10 =>
    mchk (hC u10 p0 == 1) <|
    mlet (uR u10 p0 2 (some r11)) fun u14 =>
    mchk (hC u14 a6 == 5) <|
    mderef (hR u14 a6 2) fun a16 =>
    mchk (hC u14 p0 == 1) <|
    mlet (uR u14 p0 3 (some a16)) fun u19 =>
    mlet (hZ u19) fun a20 =>
    addc 1 (cN 11) <|
    mlet (nO u19 11) fun u22 =>
    hb (hJ2_init a20 u22) fun _ u23 =>
    mchk (hC u23 p0 == 1) <|
    mlet (uR u23 p0 8 (some a20)) fun u25 =>
    mlet (hZ u25) fun a26 =>
    addc 1 (cN 11) <|
    mlet (nO u25 11) fun u28 =>
    hb (hJ2_init a26 u28) fun _ u29 =>
    mchk (hC u29 p0 == 1) <|
    mlet (uR u29 p0 9 (some a26)) fun u31 =>
    mchk (hC u31 p0 == 1) <|
    mlet (uR u31 p0 10 none) fun u33 =>
    hret (.inl 0) u33)
    (hcase 5 (fun q13 u14 =>
       mchk (hC u14 a6 == 5) <|
       mchk (hC u14 p0 == 1) <|
       mlet (uI u14 p0 6 (hI u14 a6 6)) fun u17 =>
       mchk (hC u17 p0 == 1) <|
       mderef (hR u17 p0 7) fun a19 =>
       mchk (inA u17 0 a19 21) <|
       mchk (inA u17 0 a19 21) <|
       mlet (uA u17 a19 (0 : Int32).toNatClampNeg ((hA u17 a19 (0 : Int32).toNatClampNeg) + 1)) fun u22 =>
       mchk (hC u22 q13 == 6) <|
       hret (.inl (hI u22 q13 6)) u22) <|
     hend)
theorem whX1_board_17 {K1 K2 : Nat} {p : Program} {e : Env} {s : State} {m : MethodId} {args : Array Value} {below : List Frame} {meth : Method} {c : Code} (hl0 : l.stackTraces = false) (C : CxW t G l p s m args meth c yX1_board cX1_board 4 (some .int) [(40, 48, 51, 83)]) (p0 : Nat) (p1 : Int32) (s0 : Int32) (u : HS) : VX mkI t G p l e 203 K1 K2 s m args below meth c 4 17 [(0, .ref p0), (1, .int p1)] [.int s0] u (hX1_board_17 p0 p1 s0 u) := by
  unfold hX1_board_17
  refine v_callSO C.1 (by rw [C.2]; decide) [.int s0] [] (ctX1_right t G l hl0 s0 u) (fun _ _ => cwX1_right C.1 q760 (by decide)) rfl rfl (by exact Nat.le_of_ble_eq_true rfl) dX1_board_17 (fun _ u1 => ?_)
  refine v_aload_n C.1.1 0 rfl rfl dX1_board_20 ?_
  refine v_iconst C.1.1 0 (by decide) dX1_board_21 ?_
  refine v_chk (fun h2 => ?_)
  refine v_hputI C.1 0 5 (eq_of_beq h2) (by decide) rfl in_X1 tyX1 tyX1_ok nmX1 (by decide) (by decide) q315 (fun _ h => h) (Or.inl rfl) ⟨rfl, rfl⟩ dX1_board_22 (fun u3 => ?_)
  refine v_aload_n C.1.1 0 rfl rfl dX1_board_25 ?_
  refine v_iconst C.1.1 (-1) (by decide) dX1_board_26 ?_
  refine v_chk (fun h4 => ?_)
  refine v_hputI C.1 0 6 (eq_of_beq h4) (by decide) rfl in_X1 tyX1 tyX1_ok nmX1 (by decide) (by decide) q316 (fun _ h => h) (Or.inl rfl) ⟨rfl, rfl⟩ dX1_board_27 (fun u5 => ?_)
  refine v_letE (fun a6 e7 => ?_)
  refine v_hnew C.1 4 e7 (by decide) rfl in_X5 tyX5 tyX5_ok df_X5 q827 q828 q132 dX1_board_30 (fun u8 => ?_)
  refine v_dup C.1.1 rfl dX1_board_33 ?_
  refine v_aload_n C.1.1 0 rfl rfl dX1_board_34 ?_
  refine v_iload_n C.1.1 1 rfl rfl dX1_board_35 ?_
  refine v_callIH C.1 [.ref p0, .int p1] [.ref a6] (ctX5_init t G l hl0 a6 p0 p1 u8) (fun _ _ => cwX5_init C.1 q829 (by decide)) rfl rfl (by exact Nat.le_of_ble_eq_true rfl) dX1_board_36 (fun _ u9 => ?_)
  refine v_astore_n C.1.1 [(2, .ref a6), (0, .ref p0), (1, .int p1)] rfl (by decide) rfl dX1_board_39 ?_
  refine v_aload_n C.1.1 1 rfl rfl dX1_board_40 ?_
  refine v_aload_n C.1.1 0 rfl rfl dX1_board_41 ?_
  refine v_chk (fun h12 => ?_)
  refine v_callVC C.1 [] [.ref p0] (ctX5_read t G l hl0 a6 u9) (fun _ _ => cwX5_read C.1 q886 (by decide)) (recO C.1 (ci := 4) (eq_of_beq h12) (by decide) rfl) rfl rfl (by exact Nat.le_of_ble_eq_true rfl) dX1_board_42 (fun r11 u10 => ?_) (kcase0 (i0 := 5) C (by decide) (by decide) q759 q1014 (fun q13 u14 => ?_) kend)
  · refine v_chk (fun h13 => ?_)
    refine v_hputR C.1 (some r11) 0 2 (eq_of_beq h13) (by decide) rfl in_X1 tyX1 tyX1_ok nmX1 (by decide) (by decide) q311 (fun _ h => h) (Or.inl rfl) rfl rfl dX1_board_45 (fun u14 => ?_)
    refine v_goto C.1.1 75 (by decide) dX1_board_48 ?_
    refine v_aload_n C.1.1 1 rfl rfl dX1_board_75 ?_
    refine v_aload_n C.1.1 0 rfl rfl dX1_board_76 ?_
    refine v_chk (fun h15 => ?_)
    refine v_hget C.1 (v := va_rf (hR u14 a6 2)) 4 2 (eq_of_beq h15) (by decide) rfl in_X5 (by decide) (Or.inr ⟨_, q850⟩) (fun _ h => h) (hF_r (ci := 4) (eq_of_beq h15) (by decide)) dX1_board_77 ?_
    refine v_deref (fun a16 e17 => ?_)
    refine v_chk (fun h18 => ?_)
    refine v_hputR C.1 (some a16) 0 3 (eq_of_beq h18) (by decide) rfl in_X1 tyX1 tyX1_ok nmX1 (by decide) (by decide) q312 (fun _ h => h) (Or.inl rfl) rfl rfl dX1_board_80 (fun u19 => ?_)
    refine v_aload_n C.1.1 1 rfl rfl dX1_board_83 ?_
    refine v_letE (fun a20 e21 => ?_)
    refine v_hnew C.1 11 e21 (by decide) rfl in_J2 tyJ2 tyJ2_ok df_J2 q304 q170 q125 dX1_board_84 (fun u22 => ?_)
    refine v_dup C.1.1 rfl dX1_board_87 ?_
    refine v_callIH C.1 [] [.ref a20, .ref p0] (ctJ2_init t G l hl0 a20 u22) (fun _ _ => cwJ2_init C.1 q305 (by decide)) rfl rfl (by exact Nat.le_of_ble_eq_true rfl) dX1_board_88 (fun _ u23 => ?_)
    refine v_chk (fun h24 => ?_)
    refine v_hputR C.1 (some a20) 0 8 (eq_of_beq h24) (by decide) rfl in_X1 tyX1 tyX1_ok nmX1 (by decide) (by decide) q318 (fun _ h => h) (Or.inl rfl) rfl rfl dX1_board_91 (fun u25 => ?_)
    refine v_aload_n C.1.1 1 rfl rfl dX1_board_94 ?_
    refine v_letE (fun a26 e27 => ?_)
    refine v_hnew C.1 11 e27 (by decide) rfl in_J2 tyJ2 tyJ2_ok df_J2 q304 q170 q125 dX1_board_95 (fun u28 => ?_)
    refine v_dup C.1.1 rfl dX1_board_98 ?_
    refine v_callIH C.1 [] [.ref a26, .ref p0] (ctJ2_init t G l hl0 a26 u28) (fun _ _ => cwJ2_init C.1 q305 (by decide)) rfl rfl (by exact Nat.le_of_ble_eq_true rfl) dX1_board_99 (fun _ u29 => ?_)
    refine v_chk (fun h30 => ?_)
    refine v_hputR C.1 (some a26) 0 9 (eq_of_beq h30) (by decide) rfl in_X1 tyX1 tyX1_ok nmX1 (by decide) (by decide) q319 (fun _ h => h) (Or.inl rfl) rfl rfl dX1_board_102 (fun u31 => ?_)
    refine v_aload_n C.1.1 1 rfl rfl dX1_board_105 ?_
    refine v_null C.1 dX1_board_106 ?_
    refine v_chk (fun h32 => ?_)
    refine v_hputR C.1 none 0 10 (eq_of_beq h32) (by decide) rfl in_X1 tyX1 tyX1_ok nmX1 (by decide) (by decide) q320 (fun _ h => h) (Or.inl rfl) rfl rfl dX1_board_107 (fun u33 => ?_)
    refine v_iconst C.1.1 0 (by decide) dX1_board_110 ?_
    exact v_xiret C.1 dX1_board_111
  · refine v_astore_n C.1.1 [(3, .ref q13), (2, .ref a6), (0, .ref p0), (1, .int p1)] rfl (by decide) rfl dX1_board_51 ?_
    refine v_aload_n C.1.1 2 rfl rfl dX1_board_52 ?_
    refine v_aload_n C.1.1 1 rfl rfl dX1_board_53 ?_
    refine v_chk (fun h15 => ?_)
    refine v_hget C.1 (v := .int (hI u14 a6 6)) 4 6 (eq_of_beq h15) (by decide) rfl in_X5 (by decide) (Or.inr ⟨_, q855⟩) (fun _ h => h) (hF_i (ci := 4) (eq_of_beq h15) (by decide)) dX1_board_54 ?_
    refine v_chk (fun h16 => ?_)
    refine v_hputI C.1 0 6 (eq_of_beq h16) (by decide) rfl in_X1 tyX1 tyX1_ok nmX1 (by decide) (by decide) q316 (fun _ h => h) (Or.inl rfl) ⟨rfl, rfl⟩ dX1_board_57 (fun u17 => ?_)
    refine v_aload_n C.1.1 2 rfl rfl dX1_board_60 ?_
    refine v_chk (fun h18 => ?_)
    refine v_hget C.1 (v := va_rf (hR u17 p0 7)) 0 7 (eq_of_beq h18) (by decide) rfl in_X1 (by decide) (Or.inl q317) (fun _ h => h) (hF_r (ci := 0) (eq_of_beq h18) (by decide)) dX1_board_61 ?_
    refine v_deref (fun a19 e20 => ?_)
    refine v_iconst C.1.1 0 (by decide) dX1_board_64 ?_
    refine v_dup2 C.1.1 rfl rfl dX1_board_65 ?_
    refine v_chk (fun h21 => ?_)
    refine v_haiald C.1 h21 dX1_board_66 ?_
    refine v_iconst C.1.1 1 (by decide) dX1_board_67 ?_
    refine v_iadd C.1.1 dX1_board_68 ?_
    refine v_chk (fun h23 => ?_)
    refine v_haiast C.1 h23 dX1_board_69 (fun u22 => ?_)
    refine v_aload_n C.1.1 0 rfl rfl dX1_board_70 ?_
    refine v_chk (fun h24 => ?_)
    refine v_hget C.1 (v := .int (hI u22 q13 6)) 5 6 (eq_of_beq h24) (by decide) rfl in_X6 (by decide) (Or.inr ⟨_, q1031⟩) (fun _ h => h) (hF_i (ci := 5) (eq_of_beq h24) (by decide)) dX1_board_71 ?_
    exact v_xiret C.1 dX1_board_74
def hX1_board (p0 : Nat) (p1 : Int32) (u : HS) : Option (OH (PX Int32)) :=
  if p1 < 0 then
    hX1_board_17 p0 p1 0 u
  else
    mchk (hC u p0 == 1) <|
    if (hI u p0 5) < p1 then
      hX1_board_17 p0 p1 0 u
    else
      hX1_board_17 p0 p1 1 u
theorem ctX1_board (t : TT) (G : GH) (l : Launch) (hl0 : l.stackTraces = false) (p0 : Nat) (p1 : Int32) (u : HS) : CtWX mkI t G l yX1_board cX1_board 4 (some .int) [(40, 48, 51, 83)] 203 [.ref p0, .int p1] u (hX1_board p0 p1 u) := by
  refine ctWX_of [(0, .ref p0), (1, .int p1)] hl0 rfl (Nat.le_of_ble_eq_true rfl) rfl (fun K1 K2 p e s m args below meth c C => ?_)
  unfold hX1_board
  refine v_iload_n C.1.1 1 rfl rfl dX1_board_0 ?_
  refine v_if_lt C.1.1 16 (by decide) dX1_board_1 (fun _ => ?_) (fun _ => ?_)
  · refine v_iconst C.1.1 0 (by decide) dX1_board_16 ?_
    exact whX1_board_17 hl0 C p0 p1 0 u
  · refine v_iload_n C.1.1 1 rfl rfl dX1_board_4 ?_
    refine v_aload_n C.1.1 0 rfl rfl dX1_board_5 ?_
    refine v_chk (fun h1 => ?_)
    refine v_hget C.1 (v := .int (hI u p0 5)) 0 5 (eq_of_beq h1) (by decide) rfl in_X1 (by decide) (Or.inl q315) (fun _ h => h) (hF_i (ci := 0) (eq_of_beq h1) (by decide)) dX1_board_6 ?_
    refine v_icmp_gt C.1.1 16 (by decide) dX1_board_9 (fun _ => ?_) (fun _ => ?_)
    · refine v_iconst C.1.1 0 (by decide) dX1_board_16 ?_
      exact whX1_board_17 hl0 C p0 p1 0 u
    · refine v_iconst C.1.1 1 (by decide) dX1_board_12 ?_
      refine v_goto C.1.1 17 (by decide) dX1_board_13 ?_
      exact whX1_board_17 hl0 C p0 p1 1 u
theorem cwX1_board {t : TT} {G : GH} {l : Launch} {p : Program} {s : State} {m : MethodId} {args : Array Value} {meth : Method} {c : Code} {y0 : MethodName} {cc0 : ByteArray} {nL0 : Nat} {ret0 : Option FieldType} (C : CxH t G l p s m args meth c y0 cc0 nL0 ret0) {index lv mc ms K1 K2 : Nat} (hq : Cond.methodLink y0.cls index yX1_board ∈ lw_all) (hR : 203 + 1 ≤ lv) : vx_CVW (rmH lv K1 K2) s args y0.cls RX1 index yX1_board cX1_board 4 (some .int) [(40, 48, 51, 83)] (wsW_ yX1_board cX1_board 4 (some .int) [(40, 48, 51, 83)]) (rmH 203 mc ms) mc ms 1 :=
  vx_cwVW 1 C.1.2.2.2.2.1 (lw_VW hq q756 q757 q121 q758) rfl rfl rfl (by decide +kernel) ⟨hR, by show 8 + (4 + 11) + 100 * 203 ≤ 100 * lv; omega⟩
def hX0_board (p0 : Nat) (p1 : Int32) (p2 : Nat) (u : HS) : Option (OH Int32) :=
  mchk (hC u p0 == 1) <|
  hc (hX1_board p0 p1 u) (fun r2 u1 =>
    mchk (inA u1 0 p2 24) <|
    mlet (uJ u1 p2 (0 : Int32).toNatClampNeg (Int32.toInt64 r2)) fun u4 =>
    hret 0 u4)
    (hcase 14 (fun q4 u5 =>
       hret 1 u5) <|
     hend)
theorem ctX0_board (t : TT) (G : GH) (l : Launch) (hl0 : l.stackTraces = false) (p0 : Nat) (p1 : Int32) (p2 : Nat) (u : HS) : CtW mkI t G l yX0_board cX0_board 4 (some .int) [(0, 9, 12, 13)] 204 [.ref p0, .int p1, .ref p2] u (hX0_board p0 p1 p2 u) := by
  refine ctW_of [(0, .ref p0), (1, .int p1), (2, .ref p2)] hl0 rfl (Nat.le_of_ble_eq_true rfl) rfl (fun K1 K2 p e s m args below meth c C => ?_)
  unfold hX0_board
  refine v_aload_n C.1.1 2 rfl rfl dX0_board_0 ?_
  refine v_iconst C.1.1 0 (by decide) dX0_board_1 ?_
  refine v_aload_n C.1.1 0 rfl rfl dX0_board_2 ?_
  refine v_iload_n C.1.1 1 rfl rfl dX0_board_3 ?_
  refine v_chk (fun h3 => ?_)
  refine v_callVCW C.1 [.int p1] [.int 0, .ref p2] (ctX1_board t G l hl0 p0 p1 u) (fun _ _ => cwX1_board C.1 q755 (by decide)) (recO C.1 (ci := 0) (eq_of_beq h3) (by decide) rfl) rfl rfl (by exact Nat.le_of_ble_eq_true rfl) dX0_board_4 (fun r2 u1 => ?_) (kcase0 (i0 := 14) C (by decide) (by decide) q754 q765 (fun q4 u5 => ?_) kend)
  · refine v_i2l C.1.1 dX0_board_7 ?_
    refine v_chk (fun h5 => ?_)
    refine v_hlast C.1 h5 dX0_board_8 (fun u4 => ?_)
    refine v_goto C.1.1 15 (by decide) dX0_board_9 ?_
    refine v_iconst C.1.1 0 (by decide) dX0_board_15 ?_
    exact v_hiret C.1 dX0_board_16
  · refine v_astore_n C.1.1 [(3, .ref q4), (0, .ref p0), (1, .int p1), (2, .ref p2)] rfl (by decide) rfl dX0_board_12 ?_
    refine v_iconst C.1.1 1 (by decide) dX0_board_13 ?_
    exact v_hiret C.1 dX0_board_14
theorem cwX0_board {t : TT} {G : GH} {l : Launch} {p : Program} {s : State} {m : MethodId} {args : Array Value} {meth : Method} {c : Code} {y0 : MethodName} {cc0 : ByteArray} {nL0 : Nat} {ret0 : Option FieldType} (C : CxH t G l p s m args meth c y0 cc0 nL0 ret0) {index lv mc ms K1 K2 : Nat} (hq : Cond.methodLink y0.cls index yX0_board ∈ lw_all) (hR : 204 + 1 ≤ lv) : vx_CSW (rmH lv K1 K2) s args y0.cls index yX0_board cX0_board 4 (some .int) [(0, 9, 12, 13)] (wsW_ yX0_board cX0_board 4 (some .int) [(0, 9, 12, 13)]) (rmH 204 mc ms) mc ms 3 :=
  vx_cwSW 3 C.1.2.2.2.2.1 (lw_SW hq q752 q120 q753) rfl rfl rfl (by decide +kernel) ⟨hR, by show 8 + (4 + 11) + 100 * 204 ≤ 100 * lv; omega⟩
def hX0_count (p0 : Nat) (p1 : Int32) (p2 : Nat) (u : HS) : Option (OH Int32) :=
  mchk (hC u p0 == 1) <|
  hc (hX1_count p0 p1 u) (fun r2 u1 =>
    mchk (inA u1 0 p2 24) <|
    mlet (uJ u1 p2 (0 : Int32).toNatClampNeg (Int32.toInt64 r2)) fun u4 =>
    hret 0 u4)
    (hcase 15 (fun q4 u5 =>
       hret 1 u5) <|
     hend)
theorem ctX0_count (t : TT) (G : GH) (l : Launch) (hl0 : l.stackTraces = false) (p0 : Nat) (p1 : Int32) (p2 : Nat) (u : HS) : CtW mkI t G l yX0_count cX0_count 4 (some .int) [(0, 9, 12, 18)] 10 [.ref p0, .int p1, .ref p2] u (hX0_count p0 p1 p2 u) := by
  refine ctW_of [(0, .ref p0), (1, .int p1), (2, .ref p2)] hl0 rfl (Nat.le_of_ble_eq_true rfl) rfl (fun K1 K2 p e s m args below meth c C => ?_)
  unfold hX0_count
  refine v_aload_n C.1.1 2 rfl rfl dX0_count_0 ?_
  refine v_iconst C.1.1 0 (by decide) dX0_count_1 ?_
  refine v_aload_n C.1.1 0 rfl rfl dX0_count_2 ?_
  refine v_iload_n C.1.1 1 rfl rfl dX0_count_3 ?_
  refine v_chk (fun h3 => ?_)
  refine v_callVC C.1 [.int p1] [.int 0, .ref p2] (ctX1_count t G l hl0 p0 p1 u) (fun _ _ => cwX1_count C.1 q1311 (by decide)) (recO C.1 (ci := 0) (eq_of_beq h3) (by decide) rfl) rfl rfl (by exact Nat.le_of_ble_eq_true rfl) dX0_count_4 (fun r2 u1 => ?_) (kcase0 (i0 := 15) C (by decide) (by decide) q1310 q1329 (fun q4 u5 => ?_) kend)
  · refine v_i2l C.1.1 dX0_count_7 ?_
    refine v_chk (fun h5 => ?_)
    refine v_hlast C.1 h5 dX0_count_8 (fun u4 => ?_)
    refine v_goto C.1.1 15 (by decide) dX0_count_9 ?_
    refine v_iconst C.1.1 0 (by decide) dX0_count_15 ?_
    exact v_hiret C.1 dX0_count_16
  · refine v_astore_n C.1.1 [(3, .ref q4), (0, .ref p0), (1, .int p1), (2, .ref p2)] rfl (by decide) rfl dX0_count_12 ?_
    refine v_iconst C.1.1 1 (by decide) dX0_count_13 ?_
    exact v_hiret C.1 dX0_count_14
theorem cwX0_count {t : TT} {G : GH} {l : Launch} {p : Program} {s : State} {m : MethodId} {args : Array Value} {meth : Method} {c : Code} {y0 : MethodName} {cc0 : ByteArray} {nL0 : Nat} {ret0 : Option FieldType} (C : CxH t G l p s m args meth c y0 cc0 nL0 ret0) {index lv mc ms K1 K2 : Nat} (hq : Cond.methodLink y0.cls index yX0_count ∈ lw_all) (hR : 10 + 1 ≤ lv) : vx_CSW (rmH lv K1 K2) s args y0.cls index yX0_count cX0_count 4 (some .int) [(0, 9, 12, 18)] (wsW_ yX0_count cX0_count 4 (some .int) [(0, 9, 12, 18)]) (rmH 10 mc ms) mc ms 3 :=
  vx_cwSW 3 C.1.2.2.2.2.1 (lw_SW hq q1308 q120 q1309) rfl rfl rfl (by decide +kernel) ⟨hR, by show 8 + (4 + 11) + 100 * 10 ≤ 100 * lv; omega⟩
def hX0_master (p0 : Nat) (p1 : Int32) (p2 : Int32) (p3 : Nat) (u : HS) : Option (OH Int32) :=
  mchk (hC u p0 == 1) <|
  hc (hX1_master p0 p1 p2 u) (fun r2 u1 =>
    mchk (inA u1 0 p3 24) <|
    mlet (uJ u1 p3 (0 : Int32).toNatClampNeg (Int32.toInt64 r2)) fun u4 =>
    hret 0 u4)
    (hcase 15 (fun q4 u5 =>
       hret 1 u5) <|
     hend)
theorem ctX0_master (t : TT) (G : GH) (l : Launch) (hl0 : l.stackTraces = false) (p0 : Nat) (p1 : Int32) (p2 : Int32) (p3 : Nat) (u : HS) : CtW mkI t G l yX0_master cX0_master 5 (some .int) [(0, 10, 13, 18)] 11 [.ref p0, .int p1, .int p2, .ref p3] u (hX0_master p0 p1 p2 p3 u) := by
  refine ctW_of [(0, .ref p0), (1, .int p1), (2, .int p2), (3, .ref p3)] hl0 rfl (Nat.le_of_ble_eq_true rfl) rfl (fun K1 K2 p e s m args below meth c C => ?_)
  unfold hX0_master
  refine v_aload_n C.1.1 3 rfl rfl dX0_master_0 ?_
  refine v_iconst C.1.1 0 (by decide) dX0_master_1 ?_
  refine v_aload_n C.1.1 0 rfl rfl dX0_master_2 ?_
  refine v_iload_n C.1.1 1 rfl rfl dX0_master_3 ?_
  refine v_iload_n C.1.1 2 rfl rfl dX0_master_4 ?_
  refine v_chk (fun h3 => ?_)
  refine v_callVC C.1 [.int p1, .int p2] [.int 0, .ref p3] (ctX1_master t G l hl0 p0 p1 p2 u) (fun _ _ => cwX1_master C.1 q1345 (by decide)) (recO C.1 (ci := 0) (eq_of_beq h3) (by decide) rfl) rfl rfl (by exact Nat.le_of_ble_eq_true rfl) dX0_master_5 (fun r2 u1 => ?_) (kcase0 (i0 := 15) C (by decide) (by decide) q1310 q1329 (fun q4 u5 => ?_) kend)
  · refine v_i2l C.1.1 dX0_master_8 ?_
    refine v_chk (fun h5 => ?_)
    refine v_hlast C.1 h5 dX0_master_9 (fun u4 => ?_)
    refine v_goto C.1.1 17 (by decide) dX0_master_10 ?_
    refine v_iconst C.1.1 0 (by decide) dX0_master_17 ?_
    exact v_hiret C.1 dX0_master_18
  · refine v_astore C.1.1 [(4, .ref q4), (0, .ref p0), (1, .int p1), (2, .int p2), (3, .ref p3)] (by decide) rfl dX0_master_13 ?_
    refine v_iconst C.1.1 1 (by decide) dX0_master_15 ?_
    exact v_hiret C.1 dX0_master_16
theorem cwX0_master {t : TT} {G : GH} {l : Launch} {p : Program} {s : State} {m : MethodId} {args : Array Value} {meth : Method} {c : Code} {y0 : MethodName} {cc0 : ByteArray} {nL0 : Nat} {ret0 : Option FieldType} (C : CxH t G l p s m args meth c y0 cc0 nL0 ret0) {index lv mc ms K1 K2 : Nat} (hq : Cond.methodLink y0.cls index yX0_master ∈ lw_all) (hR : 11 + 1 ≤ lv) : vx_CSW (rmH lv K1 K2) s args y0.cls index yX0_master cX0_master 5 (some .int) [(0, 10, 13, 18)] (wsW_ yX0_master cX0_master 5 (some .int) [(0, 10, 13, 18)]) (rmH 11 mc ms) mc ms 4 :=
  vx_cwSW 4 C.1.2.2.2.2.1 (lw_SW hq q1343 q120 q1344) rfl rfl rfl (by decide +kernel) ⟨hR, by show 8 + (5 + 11) + 100 * 11 ≤ 100 * lv; omega⟩
def hX0_place (p0 : Nat) (p1 : Int32) (p2 : Int32) (p3 : Nat) (u : HS) : Option (OH Int32) :=
  mchk (hC u p0 == 1) <|
  hc (hX1_place p0 p1 p2 u) (fun r2 u1 =>
    mchk (inA u1 0 p3 24) <|
    mlet (uJ u1 p3 (0 : Int32).toNatClampNeg (Int32.toInt64 r2)) fun u4 =>
    hret 0 u4)
    (hcase 15 (fun q4 u5 =>
       hret 1 u5) <|
     hend)
theorem ctX0_place (t : TT) (G : GH) (l : Launch) (hl0 : l.stackTraces = false) (p0 : Nat) (p1 : Int32) (p2 : Int32) (p3 : Nat) (u : HS) : CtW mkI t G l yX0_place cX0_place 5 (some .int) [(0, 10, 13, 18)] 11 [.ref p0, .int p1, .int p2, .ref p3] u (hX0_place p0 p1 p2 p3 u) := by
  refine ctW_of [(0, .ref p0), (1, .int p1), (2, .int p2), (3, .ref p3)] hl0 rfl (Nat.le_of_ble_eq_true rfl) rfl (fun K1 K2 p e s m args below meth c C => ?_)
  unfold hX0_place
  refine v_aload_n C.1.1 3 rfl rfl dX0_place_0 ?_
  refine v_iconst C.1.1 0 (by decide) dX0_place_1 ?_
  refine v_aload_n C.1.1 0 rfl rfl dX0_place_2 ?_
  refine v_iload_n C.1.1 1 rfl rfl dX0_place_3 ?_
  refine v_iload_n C.1.1 2 rfl rfl dX0_place_4 ?_
  refine v_chk (fun h3 => ?_)
  refine v_callVC C.1 [.int p1, .int p2] [.int 0, .ref p3] (ctX1_place t G l hl0 p0 p1 p2 u) (fun _ _ => cwX1_place C.1 q1359 (by decide)) (recO C.1 (ci := 0) (eq_of_beq h3) (by decide) rfl) rfl rfl (by exact Nat.le_of_ble_eq_true rfl) dX0_place_5 (fun r2 u1 => ?_) (kcase0 (i0 := 15) C (by decide) (by decide) q1310 q1329 (fun q4 u5 => ?_) kend)
  · refine v_i2l C.1.1 dX0_place_8 ?_
    refine v_chk (fun h5 => ?_)
    refine v_hlast C.1 h5 dX0_place_9 (fun u4 => ?_)
    refine v_goto C.1.1 17 (by decide) dX0_place_10 ?_
    refine v_iconst C.1.1 0 (by decide) dX0_place_17 ?_
    exact v_hiret C.1 dX0_place_18
  · refine v_astore C.1.1 [(4, .ref q4), (0, .ref p0), (1, .int p1), (2, .int p2), (3, .ref p3)] (by decide) rfl dX0_place_13 ?_
    refine v_iconst C.1.1 1 (by decide) dX0_place_15 ?_
    exact v_hiret C.1 dX0_place_16
theorem cwX0_place {t : TT} {G : GH} {l : Launch} {p : Program} {s : State} {m : MethodId} {args : Array Value} {meth : Method} {c : Code} {y0 : MethodName} {cc0 : ByteArray} {nL0 : Nat} {ret0 : Option FieldType} (C : CxH t G l p s m args meth c y0 cc0 nL0 ret0) {index lv mc ms K1 K2 : Nat} (hq : Cond.methodLink y0.cls index yX0_place ∈ lw_all) (hR : 11 + 1 ≤ lv) : vx_CSW (rmH lv K1 K2) s args y0.cls index yX0_place cX0_place 5 (some .int) [(0, 10, 13, 18)] (wsW_ yX0_place cX0_place 5 (some .int) [(0, 10, 13, 18)]) (rmH 11 mc ms) mc ms 4 :=
  vx_cwSW 4 C.1.2.2.2.2.1 (lw_SW hq q1357 q120 q1358) rfl rfl rfl (by decide +kernel) ⟨hR, by show 8 + (5 + 11) + 100 * 11 ≤ 100 * lv; omega⟩
def hX0_person (p0 : Nat) (p1 : Int32) (p2 : Int32) (p3 : Nat) (u : HS) : Option (OH Int32) :=
  mchk (hC u p0 == 1) <|
  hc (hX1_person p0 p1 p2 u) (fun r2 u1 =>
    mchk (inA u1 0 p3 24) <|
    mlet (uJ u1 p3 (0 : Int32).toNatClampNeg (Int32.toInt64 r2)) fun u4 =>
    hret 0 u4)
    (hcase 15 (fun q4 u5 =>
       hret 1 u5) <|
     hend)
theorem ctX0_person (t : TT) (G : GH) (l : Launch) (hl0 : l.stackTraces = false) (p0 : Nat) (p1 : Int32) (p2 : Int32) (p3 : Nat) (u : HS) : CtW mkI t G l yX0_person cX0_person 5 (some .int) [(0, 10, 13, 18)] 11 [.ref p0, .int p1, .int p2, .ref p3] u (hX0_person p0 p1 p2 p3 u) := by
  refine ctW_of [(0, .ref p0), (1, .int p1), (2, .int p2), (3, .ref p3)] hl0 rfl (Nat.le_of_ble_eq_true rfl) rfl (fun K1 K2 p e s m args below meth c C => ?_)
  unfold hX0_person
  refine v_aload_n C.1.1 3 rfl rfl dX0_person_0 ?_
  refine v_iconst C.1.1 0 (by decide) dX0_person_1 ?_
  refine v_aload_n C.1.1 0 rfl rfl dX0_person_2 ?_
  refine v_iload_n C.1.1 1 rfl rfl dX0_person_3 ?_
  refine v_iload_n C.1.1 2 rfl rfl dX0_person_4 ?_
  refine v_chk (fun h3 => ?_)
  refine v_callVC C.1 [.int p1, .int p2] [.int 0, .ref p3] (ctX1_person t G l hl0 p0 p1 p2 u) (fun _ _ => cwX1_person C.1 q1376 (by decide)) (recO C.1 (ci := 0) (eq_of_beq h3) (by decide) rfl) rfl rfl (by exact Nat.le_of_ble_eq_true rfl) dX0_person_5 (fun r2 u1 => ?_) (kcase0 (i0 := 15) C (by decide) (by decide) q1310 q1329 (fun q4 u5 => ?_) kend)
  · refine v_i2l C.1.1 dX0_person_8 ?_
    refine v_chk (fun h5 => ?_)
    refine v_hlast C.1 h5 dX0_person_9 (fun u4 => ?_)
    refine v_goto C.1.1 17 (by decide) dX0_person_10 ?_
    refine v_iconst C.1.1 0 (by decide) dX0_person_17 ?_
    exact v_hiret C.1 dX0_person_18
  · refine v_astore C.1.1 [(4, .ref q4), (0, .ref p0), (1, .int p1), (2, .int p2), (3, .ref p3)] (by decide) rfl dX0_person_13 ?_
    refine v_iconst C.1.1 1 (by decide) dX0_person_15 ?_
    exact v_hiret C.1 dX0_person_16
theorem cwX0_person {t : TT} {G : GH} {l : Launch} {p : Program} {s : State} {m : MethodId} {args : Array Value} {meth : Method} {c : Code} {y0 : MethodName} {cc0 : ByteArray} {nL0 : Nat} {ret0 : Option FieldType} (C : CxH t G l p s m args meth c y0 cc0 nL0 ret0) {index lv mc ms K1 K2 : Nat} (hq : Cond.methodLink y0.cls index yX0_person ∈ lw_all) (hR : 11 + 1 ≤ lv) : vx_CSW (rmH lv K1 K2) s args y0.cls index yX0_person cX0_person 5 (some .int) [(0, 10, 13, 18)] (wsW_ yX0_person cX0_person 5 (some .int) [(0, 10, 13, 18)]) (rmH 11 mc ms) mc ms 4 :=
  vx_cwSW 4 C.1.2.2.2.2.1 (lw_SW hq q1374 q120 q1375) rfl rfl rfl (by decide +kernel) ⟨hR, by show 8 + (5 + 11) + 100 * 11 ≤ 100 * lv; omega⟩
def hX0_grudge (p0 : Nat) (p1 : Int32) (p2 : Int32) (p3 : Nat) (u : HS) : Option (OH Int32) :=
  mchk (hC u p0 == 1) <|
  hc (hX1_grudge p0 p1 p2 u) (fun r2 u1 =>
    mchk (inA u1 0 p3 24) <|
    mlet (uJ u1 p3 (0 : Int32).toNatClampNeg (Int32.toInt64 r2)) fun u4 =>
    hret 0 u4)
    (hcase 15 (fun q4 u5 =>
       hret 1 u5) <|
     hend)
theorem ctX0_grudge (t : TT) (G : GH) (l : Launch) (hl0 : l.stackTraces = false) (p0 : Nat) (p1 : Int32) (p2 : Int32) (p3 : Nat) (u : HS) : CtW mkI t G l yX0_grudge cX0_grudge 5 (some .int) [(0, 10, 13, 18)] 422 [.ref p0, .int p1, .int p2, .ref p3] u (hX0_grudge p0 p1 p2 p3 u) := by
  refine ctW_of [(0, .ref p0), (1, .int p1), (2, .int p2), (3, .ref p3)] hl0 rfl (Nat.le_of_ble_eq_true rfl) rfl (fun K1 K2 p e s m args below meth c C => ?_)
  unfold hX0_grudge
  refine v_aload_n C.1.1 3 rfl rfl dX0_grudge_0 ?_
  refine v_iconst C.1.1 0 (by decide) dX0_grudge_1 ?_
  refine v_aload_n C.1.1 0 rfl rfl dX0_grudge_2 ?_
  refine v_iload_n C.1.1 1 rfl rfl dX0_grudge_3 ?_
  refine v_iload_n C.1.1 2 rfl rfl dX0_grudge_4 ?_
  refine v_chk (fun h3 => ?_)
  refine v_callVC C.1 [.int p1, .int p2] [.int 0, .ref p3] (ctX1_grudge t G l hl0 p0 p1 p2 u) (fun _ _ => cwX1_grudge C.1 q1388 (by decide)) (recO C.1 (ci := 0) (eq_of_beq h3) (by decide) rfl) rfl rfl (by exact Nat.le_of_ble_eq_true rfl) dX0_grudge_5 (fun r2 u1 => ?_) (kcase0 (i0 := 15) C (by decide) (by decide) q1310 q1329 (fun q4 u5 => ?_) kend)
  · refine v_i2l C.1.1 dX0_grudge_8 ?_
    refine v_chk (fun h5 => ?_)
    refine v_hlast C.1 h5 dX0_grudge_9 (fun u4 => ?_)
    refine v_goto C.1.1 17 (by decide) dX0_grudge_10 ?_
    refine v_iconst C.1.1 0 (by decide) dX0_grudge_17 ?_
    exact v_hiret C.1 dX0_grudge_18
  · refine v_astore C.1.1 [(4, .ref q4), (0, .ref p0), (1, .int p1), (2, .int p2), (3, .ref p3)] (by decide) rfl dX0_grudge_13 ?_
    refine v_iconst C.1.1 1 (by decide) dX0_grudge_15 ?_
    exact v_hiret C.1 dX0_grudge_16
theorem cwX0_grudge {t : TT} {G : GH} {l : Launch} {p : Program} {s : State} {m : MethodId} {args : Array Value} {meth : Method} {c : Code} {y0 : MethodName} {cc0 : ByteArray} {nL0 : Nat} {ret0 : Option FieldType} (C : CxH t G l p s m args meth c y0 cc0 nL0 ret0) {index lv mc ms K1 K2 : Nat} (hq : Cond.methodLink y0.cls index yX0_grudge ∈ lw_all) (hR : 422 + 1 ≤ lv) : vx_CSW (rmH lv K1 K2) s args y0.cls index yX0_grudge cX0_grudge 5 (some .int) [(0, 10, 13, 18)] (wsW_ yX0_grudge cX0_grudge 5 (some .int) [(0, 10, 13, 18)]) (rmH 422 mc ms) mc ms 4 :=
  vx_cwSW 4 C.1.2.2.2.2.1 (lw_SW hq q1386 q120 q1387) rfl rfl rfl (by decide +kernel) ⟨hR, by show 8 + (5 + 11) + 100 * 422 ≤ 100 * lv; omega⟩
def hX0_go (p0 : Nat) (p1 : Int32) (p2 : Int32) (p3 : Nat) (u : HS) : Option (OH Int32) :=
  mchk (hC u p0 == 1) <|
  hc (hX1_go p0 p1 p2 u) (fun r2 u1 =>
    mchk (inA u1 0 p3 24) <|
    mlet (uJ u1 p3 (0 : Int32).toNatClampNeg (Int32.toInt64 r2)) fun u4 =>
    hret 0 u4)
    (hcase 15 (fun q4 u5 =>
       hret 1 u5) <|
     hend)
theorem ctX0_go (t : TT) (G : GH) (l : Launch) (hl0 : l.stackTraces = false) (p0 : Nat) (p1 : Int32) (p2 : Int32) (p3 : Nat) (u : HS) : CtW mkI t G l yX0_go cX0_go 5 (some .int) [(0, 10, 13, 18)] 11 [.ref p0, .int p1, .int p2, .ref p3] u (hX0_go p0 p1 p2 p3 u) := by
  refine ctW_of [(0, .ref p0), (1, .int p1), (2, .int p2), (3, .ref p3)] hl0 rfl (Nat.le_of_ble_eq_true rfl) rfl (fun K1 K2 p e s m args below meth c C => ?_)
  unfold hX0_go
  refine v_aload_n C.1.1 3 rfl rfl dX0_go_0 ?_
  refine v_iconst C.1.1 0 (by decide) dX0_go_1 ?_
  refine v_aload_n C.1.1 0 rfl rfl dX0_go_2 ?_
  refine v_iload_n C.1.1 1 rfl rfl dX0_go_3 ?_
  refine v_iload_n C.1.1 2 rfl rfl dX0_go_4 ?_
  refine v_chk (fun h3 => ?_)
  refine v_callVC C.1 [.int p1, .int p2] [.int 0, .ref p3] (ctX1_go t G l hl0 p0 p1 p2 u) (fun _ _ => cwX1_go C.1 q1396 (by decide)) (recO C.1 (ci := 0) (eq_of_beq h3) (by decide) rfl) rfl rfl (by exact Nat.le_of_ble_eq_true rfl) dX0_go_5 (fun r2 u1 => ?_) (kcase0 (i0 := 15) C (by decide) (by decide) q1310 q1329 (fun q4 u5 => ?_) kend)
  · refine v_i2l C.1.1 dX0_go_8 ?_
    refine v_chk (fun h5 => ?_)
    refine v_hlast C.1 h5 dX0_go_9 (fun u4 => ?_)
    refine v_goto C.1.1 17 (by decide) dX0_go_10 ?_
    refine v_iconst C.1.1 0 (by decide) dX0_go_17 ?_
    exact v_hiret C.1 dX0_go_18
  · refine v_astore C.1.1 [(4, .ref q4), (0, .ref p0), (1, .int p1), (2, .int p2), (3, .ref p3)] (by decide) rfl dX0_go_13 ?_
    refine v_iconst C.1.1 1 (by decide) dX0_go_15 ?_
    exact v_hiret C.1 dX0_go_16
theorem cwX0_go {t : TT} {G : GH} {l : Launch} {p : Program} {s : State} {m : MethodId} {args : Array Value} {meth : Method} {c : Code} {y0 : MethodName} {cc0 : ByteArray} {nL0 : Nat} {ret0 : Option FieldType} (C : CxH t G l p s m args meth c y0 cc0 nL0 ret0) {index lv mc ms K1 K2 : Nat} (hq : Cond.methodLink y0.cls index yX0_go ∈ lw_all) (hR : 11 + 1 ≤ lv) : vx_CSW (rmH lv K1 K2) s args y0.cls index yX0_go cX0_go 5 (some .int) [(0, 10, 13, 18)] (wsW_ yX0_go cX0_go 5 (some .int) [(0, 10, 13, 18)]) (rmH 11 mc ms) mc ms 4 :=
  vx_cwSW 4 C.1.2.2.2.2.1 (lw_SW hq q1394 q120 q1395) rfl rfl rfl (by decide +kernel) ⟨hR, by show 8 + (5 + 11) + 100 * 11 ≤ 100 * lv; omega⟩
def hX0_write (p0 : Nat) (p1 : Int32) (p2 : Nat) (u : HS) : Option (OH Int32) :=
  mchk (hC u p0 == 1) <|
  hc (hX1_write p0 p1 u) (fun r2 u1 =>
    if r2 = 0 then
      mchk (inA u1 0 p2 24) <|
      mlet (uJ u1 p2 (0 : Int32).toNatClampNeg 0) fun u4 =>
      hret 0 u4
    else
      mchk (inA u1 0 p2 24) <|
      mlet (uJ u1 p2 (0 : Int32).toNatClampNeg 1) fun u4 =>
      hret 0 u4)
    (hcase 15 (fun q4 u5 =>
       hret 1 u5) <|
     hend)
theorem ctX0_write (t : TT) (G : GH) (l : Launch) (hl0 : l.stackTraces = false) (p0 : Nat) (p1 : Int32) (p2 : Nat) (u : HS) : CtW mkI t G l yX0_write cX0_write 4 (some .int) [(0, 16, 19, 18)] 11 [.ref p0, .int p1, .ref p2] u (hX0_write p0 p1 p2 u) := by
  refine ctW_of [(0, .ref p0), (1, .int p1), (2, .ref p2)] hl0 rfl (Nat.le_of_ble_eq_true rfl) rfl (fun K1 K2 p e s m args below meth c C => ?_)
  unfold hX0_write
  refine v_aload_n C.1.1 2 rfl rfl dX0_write_0 ?_
  refine v_iconst C.1.1 0 (by decide) dX0_write_1 ?_
  refine v_aload_n C.1.1 0 rfl rfl dX0_write_2 ?_
  refine v_iload_n C.1.1 1 rfl rfl dX0_write_3 ?_
  refine v_chk (fun h3 => ?_)
  refine v_callVC C.1 [.int p1] [.int 0, .ref p2] (ctX1_write t G l hl0 p0 p1 u) (fun _ _ => cwX1_write C.1 q1404 (by decide)) (recO C.1 (ci := 0) (eq_of_beq h3) (by decide) rfl) rfl rfl (by exact Nat.le_of_ble_eq_true rfl) dX0_write_4 (fun r2 u1 => ?_) (kcase0 (i0 := 15) C (by decide) (by decide) q1310 q1329 (fun q4 u5 => ?_) kend)
  · refine v_if_eq C.1.1 14 (by decide) dX0_write_7 (fun _ => ?_) (fun _ => ?_)
    · refine v_lconst C.1.1 0 (by decide) dX0_write_14 ?_
      refine v_chk (fun h5 => ?_)
      refine v_hlast C.1 h5 dX0_write_15 (fun u4 => ?_)
      refine v_goto C.1.1 22 (by decide) dX0_write_16 ?_
      refine v_iconst C.1.1 0 (by decide) dX0_write_22 ?_
      exact v_hiret C.1 dX0_write_23
    · refine v_lconst C.1.1 1 (by decide) dX0_write_10 ?_
      refine v_goto C.1.1 15 (by decide) dX0_write_11 ?_
      refine v_chk (fun h5 => ?_)
      refine v_hlast C.1 h5 dX0_write_15 (fun u4 => ?_)
      refine v_goto C.1.1 22 (by decide) dX0_write_16 ?_
      refine v_iconst C.1.1 0 (by decide) dX0_write_22 ?_
      exact v_hiret C.1 dX0_write_23
  · refine v_astore_n C.1.1 [(3, .ref q4), (0, .ref p0), (1, .int p1), (2, .ref p2)] rfl (by decide) rfl dX0_write_19 ?_
    refine v_iconst C.1.1 1 (by decide) dX0_write_20 ?_
    exact v_hiret C.1 dX0_write_21
theorem cwX0_write {t : TT} {G : GH} {l : Launch} {p : Program} {s : State} {m : MethodId} {args : Array Value} {meth : Method} {c : Code} {y0 : MethodName} {cc0 : ByteArray} {nL0 : Nat} {ret0 : Option FieldType} (C : CxH t G l p s m args meth c y0 cc0 nL0 ret0) {index lv mc ms K1 K2 : Nat} (hq : Cond.methodLink y0.cls index yX0_write ∈ lw_all) (hR : 11 + 1 ≤ lv) : vx_CSW (rmH lv K1 K2) s args y0.cls index yX0_write cX0_write 4 (some .int) [(0, 16, 19, 18)] (wsW_ yX0_write cX0_write 4 (some .int) [(0, 16, 19, 18)]) (rmH 11 mc ms) mc ms 3 :=
  vx_cwSW 3 C.1.2.2.2.2.1 (lw_SW hq q1402 q120 q1403) rfl rfl rfl (by decide +kernel) ⟨hR, by show 8 + (4 + 11) + 100 * 11 ≤ 100 * lv; omega⟩
def hX0_strike (p0 : Nat) (p1 : Int32) (p2 : Nat) (u : HS) : Option (OH Int32) :=
  mchk (hC u p0 == 1) <|
  hc (hX1_strike p0 p1 u) (fun r2 u1 =>
    mchk (inA u1 0 p2 24) <|
    mlet (uJ u1 p2 (0 : Int32).toNatClampNeg (Int32.toInt64 r2)) fun u4 =>
    hret 0 u4)
    (hcase 15 (fun q4 u5 =>
       hret 1 u5) <|
     hend)
theorem ctX0_strike (t : TT) (G : GH) (l : Launch) (hl0 : l.stackTraces = false) (p0 : Nat) (p1 : Int32) (p2 : Nat) (u : HS) : CtW mkI t G l yX0_strike cX0_strike 4 (some .int) [(0, 9, 12, 18)] 11 [.ref p0, .int p1, .ref p2] u (hX0_strike p0 p1 p2 u) := by
  refine ctW_of [(0, .ref p0), (1, .int p1), (2, .ref p2)] hl0 rfl (Nat.le_of_ble_eq_true rfl) rfl (fun K1 K2 p e s m args below meth c C => ?_)
  unfold hX0_strike
  refine v_aload_n C.1.1 2 rfl rfl dX0_strike_0 ?_
  refine v_iconst C.1.1 0 (by decide) dX0_strike_1 ?_
  refine v_aload_n C.1.1 0 rfl rfl dX0_strike_2 ?_
  refine v_iload_n C.1.1 1 rfl rfl dX0_strike_3 ?_
  refine v_chk (fun h3 => ?_)
  refine v_callVC C.1 [.int p1] [.int 0, .ref p2] (ctX1_strike t G l hl0 p0 p1 u) (fun _ _ => cwX1_strike C.1 q1413 (by decide)) (recO C.1 (ci := 0) (eq_of_beq h3) (by decide) rfl) rfl rfl (by exact Nat.le_of_ble_eq_true rfl) dX0_strike_4 (fun r2 u1 => ?_) (kcase0 (i0 := 15) C (by decide) (by decide) q1310 q1329 (fun q4 u5 => ?_) kend)
  · refine v_i2l C.1.1 dX0_strike_7 ?_
    refine v_chk (fun h5 => ?_)
    refine v_hlast C.1 h5 dX0_strike_8 (fun u4 => ?_)
    refine v_goto C.1.1 15 (by decide) dX0_strike_9 ?_
    refine v_iconst C.1.1 0 (by decide) dX0_strike_15 ?_
    exact v_hiret C.1 dX0_strike_16
  · refine v_astore_n C.1.1 [(3, .ref q4), (0, .ref p0), (1, .int p1), (2, .ref p2)] rfl (by decide) rfl dX0_strike_12 ?_
    refine v_iconst C.1.1 1 (by decide) dX0_strike_13 ?_
    exact v_hiret C.1 dX0_strike_14
theorem cwX0_strike {t : TT} {G : GH} {l : Launch} {p : Program} {s : State} {m : MethodId} {args : Array Value} {meth : Method} {c : Code} {y0 : MethodName} {cc0 : ByteArray} {nL0 : Nat} {ret0 : Option FieldType} (C : CxH t G l p s m args meth c y0 cc0 nL0 ret0) {index lv mc ms K1 K2 : Nat} (hq : Cond.methodLink y0.cls index yX0_strike ∈ lw_all) (hR : 11 + 1 ≤ lv) : vx_CSW (rmH lv K1 K2) s args y0.cls index yX0_strike cX0_strike 4 (some .int) [(0, 9, 12, 18)] (wsW_ yX0_strike cX0_strike 4 (some .int) [(0, 9, 12, 18)]) (rmH 11 mc ms) mc ms 3 :=
  vx_cwSW 3 C.1.2.2.2.2.1 (lw_SW hq q1411 q120 q1412) rfl rfl rfl (by decide +kernel) ⟨hR, by show 8 + (4 + 11) + 100 * 11 ≤ 100 * lv; omega⟩
def hX0_when (p0 : Nat) (p1 : Int32) (p2 : Int32) (p3 : Nat) (u : HS) : Option (OH Int32) :=
  mchk (hC u p0 == 1) <|
  hc (hX1_when p0 p1 p2 u) (fun r2 u1 =>
    mchk (inA u1 0 p3 24) <|
    mlet (uJ u1 p3 (0 : Int32).toNatClampNeg (Int32.toInt64 r2)) fun u4 =>
    hret 0 u4)
    (hcase 15 (fun q4 u5 =>
       hret 1 u5) <|
     hend)
theorem ctX0_when (t : TT) (G : GH) (l : Launch) (hl0 : l.stackTraces = false) (p0 : Nat) (p1 : Int32) (p2 : Int32) (p3 : Nat) (u : HS) : CtW mkI t G l yX0_when cX0_when 5 (some .int) [(0, 10, 13, 18)] 426 [.ref p0, .int p1, .int p2, .ref p3] u (hX0_when p0 p1 p2 p3 u) := by
  refine ctW_of [(0, .ref p0), (1, .int p1), (2, .int p2), (3, .ref p3)] hl0 rfl (Nat.le_of_ble_eq_true rfl) rfl (fun K1 K2 p e s m args below meth c C => ?_)
  unfold hX0_when
  refine v_aload_n C.1.1 3 rfl rfl dX0_when_0 ?_
  refine v_iconst C.1.1 0 (by decide) dX0_when_1 ?_
  refine v_aload_n C.1.1 0 rfl rfl dX0_when_2 ?_
  refine v_iload_n C.1.1 1 rfl rfl dX0_when_3 ?_
  refine v_iload_n C.1.1 2 rfl rfl dX0_when_4 ?_
  refine v_chk (fun h3 => ?_)
  refine v_callVC C.1 [.int p1, .int p2] [.int 0, .ref p3] (ctX1_when t G l hl0 p0 p1 p2 u) (fun _ _ => cwX1_when C.1 q1420 (by decide)) (recO C.1 (ci := 0) (eq_of_beq h3) (by decide) rfl) rfl rfl (by exact Nat.le_of_ble_eq_true rfl) dX0_when_5 (fun r2 u1 => ?_) (kcase0 (i0 := 15) C (by decide) (by decide) q1310 q1329 (fun q4 u5 => ?_) kend)
  · refine v_i2l C.1.1 dX0_when_8 ?_
    refine v_chk (fun h5 => ?_)
    refine v_hlast C.1 h5 dX0_when_9 (fun u4 => ?_)
    refine v_goto C.1.1 17 (by decide) dX0_when_10 ?_
    refine v_iconst C.1.1 0 (by decide) dX0_when_17 ?_
    exact v_hiret C.1 dX0_when_18
  · refine v_astore C.1.1 [(4, .ref q4), (0, .ref p0), (1, .int p1), (2, .int p2), (3, .ref p3)] (by decide) rfl dX0_when_13 ?_
    refine v_iconst C.1.1 1 (by decide) dX0_when_15 ?_
    exact v_hiret C.1 dX0_when_16
theorem cwX0_when {t : TT} {G : GH} {l : Launch} {p : Program} {s : State} {m : MethodId} {args : Array Value} {meth : Method} {c : Code} {y0 : MethodName} {cc0 : ByteArray} {nL0 : Nat} {ret0 : Option FieldType} (C : CxH t G l p s m args meth c y0 cc0 nL0 ret0) {index lv mc ms K1 K2 : Nat} (hq : Cond.methodLink y0.cls index yX0_when ∈ lw_all) (hR : 426 + 1 ≤ lv) : vx_CSW (rmH lv K1 K2) s args y0.cls index yX0_when cX0_when 5 (some .int) [(0, 10, 13, 18)] (wsW_ yX0_when cX0_when 5 (some .int) [(0, 10, 13, 18)]) (rmH 426 mc ms) mc ms 4 :=
  vx_cwSW 4 C.1.2.2.2.2.1 (lw_SW hq q1418 q120 q1419) rfl rfl rfl (by decide +kernel) ⟨hR, by show 8 + (5 + 11) + 100 * 426 ≤ 100 * lv; omega⟩
def hX0_found (p0 : Nat) (p1 : Int32) (p2 : Nat) (u : HS) : Option (OH Int32) :=
  mchk (hC u p0 == 1) <|
  hc (hX1_found_2 p0 p1 u) (fun r2 u1 =>
    mchk (inA u1 0 p2 24) <|
    mlet (uJ u1 p2 (0 : Int32).toNatClampNeg (Int32.toInt64 r2)) fun u4 =>
    hret 0 u4)
    (hcase 15 (fun q4 u5 =>
       hret 1 u5) <|
     hend)
theorem ctX0_found (t : TT) (G : GH) (l : Launch) (hl0 : l.stackTraces = false) (p0 : Nat) (p1 : Int32) (p2 : Nat) (u : HS) : CtW mkI t G l yX0_found cX0_found 4 (some .int) [(0, 9, 12, 18)] 424 [.ref p0, .int p1, .ref p2] u (hX0_found p0 p1 p2 u) := by
  refine ctW_of [(0, .ref p0), (1, .int p1), (2, .ref p2)] hl0 rfl (Nat.le_of_ble_eq_true rfl) rfl (fun K1 K2 p e s m args below meth c C => ?_)
  unfold hX0_found
  refine v_aload_n C.1.1 2 rfl rfl dX0_found_0 ?_
  refine v_iconst C.1.1 0 (by decide) dX0_found_1 ?_
  refine v_aload_n C.1.1 0 rfl rfl dX0_found_2 ?_
  refine v_iload_n C.1.1 1 rfl rfl dX0_found_3 ?_
  refine v_chk (fun h3 => ?_)
  refine v_callVC C.1 [.int p1] [.int 0, .ref p2] (ctX1_found_2 t G l hl0 p0 p1 u) (fun _ _ => cwX1_found_2 C.1 q1427 (by decide)) (recO C.1 (ci := 0) (eq_of_beq h3) (by decide) rfl) rfl rfl (by exact Nat.le_of_ble_eq_true rfl) dX0_found_4 (fun r2 u1 => ?_) (kcase0 (i0 := 15) C (by decide) (by decide) q1310 q1329 (fun q4 u5 => ?_) kend)
  · refine v_i2l C.1.1 dX0_found_7 ?_
    refine v_chk (fun h5 => ?_)
    refine v_hlast C.1 h5 dX0_found_8 (fun u4 => ?_)
    refine v_goto C.1.1 15 (by decide) dX0_found_9 ?_
    refine v_iconst C.1.1 0 (by decide) dX0_found_15 ?_
    exact v_hiret C.1 dX0_found_16
  · refine v_astore_n C.1.1 [(3, .ref q4), (0, .ref p0), (1, .int p1), (2, .ref p2)] rfl (by decide) rfl dX0_found_12 ?_
    refine v_iconst C.1.1 1 (by decide) dX0_found_13 ?_
    exact v_hiret C.1 dX0_found_14
theorem cwX0_found {t : TT} {G : GH} {l : Launch} {p : Program} {s : State} {m : MethodId} {args : Array Value} {meth : Method} {c : Code} {y0 : MethodName} {cc0 : ByteArray} {nL0 : Nat} {ret0 : Option FieldType} (C : CxH t G l p s m args meth c y0 cc0 nL0 ret0) {index lv mc ms K1 K2 : Nat} (hq : Cond.methodLink y0.cls index yX0_found ∈ lw_all) (hR : 424 + 1 ≤ lv) : vx_CSW (rmH lv K1 K2) s args y0.cls index yX0_found cX0_found 4 (some .int) [(0, 9, 12, 18)] (wsW_ yX0_found cX0_found 4 (some .int) [(0, 9, 12, 18)]) (rmH 424 mc ms) mc ms 3 :=
  vx_cwSW 3 C.1.2.2.2.2.1 (lw_SW hq q1425 q120 q1426) rfl rfl rfl (by decide +kernel) ⟨hR, by show 8 + (4 + 11) + 100 * 424 ≤ 100 * lv; omega⟩
def hX0_next (p0 : Nat) (p1 : Int32) (p2 : Nat) (u : HS) : Option (OH Int32) :=
  mchk (hC u p0 == 1) <|
  hc (hX1_next p0 p1 u) (fun r2 u1 =>
    mchk (inA u1 0 p2 24) <|
    mlet (uJ u1 p2 (0 : Int32).toNatClampNeg (Int32.toInt64 r2)) fun u4 =>
    hret 0 u4)
    (hcase 14 (fun q4 u5 =>
       hret 1 u5) <|
     hend)
theorem ctX0_next (t : TT) (G : GH) (l : Launch) (hl0 : l.stackTraces = false) (p0 : Nat) (p1 : Int32) (p2 : Nat) (u : HS) : CtW mkI t G l yX0_next cX0_next 4 (some .int) [(0, 9, 12, 13)] 426 [.ref p0, .int p1, .ref p2] u (hX0_next p0 p1 p2 u) := by
  refine ctW_of [(0, .ref p0), (1, .int p1), (2, .ref p2)] hl0 rfl (Nat.le_of_ble_eq_true rfl) rfl (fun K1 K2 p e s m args below meth c C => ?_)
  unfold hX0_next
  refine v_aload_n C.1.1 2 rfl rfl dX0_next_0 ?_
  refine v_iconst C.1.1 0 (by decide) dX0_next_1 ?_
  refine v_aload_n C.1.1 0 rfl rfl dX0_next_2 ?_
  refine v_iload_n C.1.1 1 rfl rfl dX0_next_3 ?_
  refine v_chk (fun h3 => ?_)
  refine v_callVC C.1 [.int p1] [.int 0, .ref p2] (ctX1_next t G l hl0 p0 p1 u) (fun _ _ => cwX1_next C.1 q1434 (by decide)) (recO C.1 (ci := 0) (eq_of_beq h3) (by decide) rfl) rfl rfl (by exact Nat.le_of_ble_eq_true rfl) dX0_next_4 (fun r2 u1 => ?_) (kcase0 (i0 := 14) C (by decide) (by decide) q754 q765 (fun q4 u5 => ?_) kend)
  · refine v_i2l C.1.1 dX0_next_7 ?_
    refine v_chk (fun h5 => ?_)
    refine v_hlast C.1 h5 dX0_next_8 (fun u4 => ?_)
    refine v_goto C.1.1 15 (by decide) dX0_next_9 ?_
    refine v_iconst C.1.1 0 (by decide) dX0_next_15 ?_
    exact v_hiret C.1 dX0_next_16
  · refine v_astore_n C.1.1 [(3, .ref q4), (0, .ref p0), (1, .int p1), (2, .ref p2)] rfl (by decide) rfl dX0_next_12 ?_
    refine v_iconst C.1.1 1 (by decide) dX0_next_13 ?_
    exact v_hiret C.1 dX0_next_14
theorem cwX0_next {t : TT} {G : GH} {l : Launch} {p : Program} {s : State} {m : MethodId} {args : Array Value} {meth : Method} {c : Code} {y0 : MethodName} {cc0 : ByteArray} {nL0 : Nat} {ret0 : Option FieldType} (C : CxH t G l p s m args meth c y0 cc0 nL0 ret0) {index lv mc ms K1 K2 : Nat} (hq : Cond.methodLink y0.cls index yX0_next ∈ lw_all) (hR : 426 + 1 ≤ lv) : vx_CSW (rmH lv K1 K2) s args y0.cls index yX0_next cX0_next 4 (some .int) [(0, 9, 12, 13)] (wsW_ yX0_next cX0_next 4 (some .int) [(0, 9, 12, 13)]) (rmH 426 mc ms) mc ms 3 :=
  vx_cwSW 3 C.1.2.2.2.2.1 (lw_SW hq q1432 q120 q1433) rfl rfl rfl (by decide +kernel) ⟨hR, by show 8 + (4 + 11) + 100 * 426 ≤ 100 * lv; omega⟩
def hX0_owes (p0 : Nat) (p1 : Int32) (p2 : Int32) (p3 : Nat) (u : HS) : Option (OH Int32) :=
  mchk (hC u p0 == 1) <|
  hc (hX1_owes p0 p1 p2 u) (fun r2 u1 =>
    mchk (inA u1 0 p3 24) <|
    mlet (uJ u1 p3 (0 : Int32).toNatClampNeg (Int32.toInt64 r2)) fun u4 =>
    hret 0 u4)
    (hcase 15 (fun q4 u5 =>
       hret 1 u5) <|
     hcase 14 (fun q6 u7 =>
       hret 2 u7) <|
     hend)
theorem ctX0_owes (t : TT) (G : GH) (l : Launch) (hl0 : l.stackTraces = false) (p0 : Nat) (p1 : Int32) (p2 : Int32) (p3 : Nat) (u : HS) : CtW mkI t G l yX0_owes cX0_owes 5 (some .int) [(0, 10, 13, 18), (0, 10, 17, 13)] 426 [.ref p0, .int p1, .int p2, .ref p3] u (hX0_owes p0 p1 p2 p3 u) := by
  refine ctW_of [(0, .ref p0), (1, .int p1), (2, .int p2), (3, .ref p3)] hl0 rfl (Nat.le_of_ble_eq_true rfl) rfl (fun K1 K2 p e s m args below meth c C => ?_)
  unfold hX0_owes
  refine v_aload_n C.1.1 3 rfl rfl dX0_owes_0 ?_
  refine v_iconst C.1.1 0 (by decide) dX0_owes_1 ?_
  refine v_aload_n C.1.1 0 rfl rfl dX0_owes_2 ?_
  refine v_iload_n C.1.1 1 rfl rfl dX0_owes_3 ?_
  refine v_iload_n C.1.1 2 rfl rfl dX0_owes_4 ?_
  refine v_chk (fun h3 => ?_)
  refine v_callVC C.1 [.int p1, .int p2] [.int 0, .ref p3] (ctX1_owes t G l hl0 p0 p1 p2 u) (fun _ _ => cwX1_owes C.1 q1441 (by decide)) (recO C.1 (ci := 0) (eq_of_beq h3) (by decide) rfl) rfl rfl (by exact Nat.le_of_ble_eq_true rfl) dX0_owes_5 (fun r2 u1 => ?_) (kcase0 (i0 := 15) C (by decide) (by decide) q1310 q1329 (fun q4 u5 => ?_) (kcase1 (i0 := 14) C (by decide) (by decide) q754 q765 (by decide) q1310 (nc_of C.1) (fun q6 u7 => ?_) kend))
  · refine v_i2l C.1.1 dX0_owes_8 ?_
    refine v_chk (fun h5 => ?_)
    refine v_hlast C.1 h5 dX0_owes_9 (fun u4 => ?_)
    refine v_goto C.1.1 21 (by decide) dX0_owes_10 ?_
    refine v_iconst C.1.1 0 (by decide) dX0_owes_21 ?_
    exact v_hiret C.1 dX0_owes_22
  · refine v_astore C.1.1 [(4, .ref q4), (0, .ref p0), (1, .int p1), (2, .int p2), (3, .ref p3)] (by decide) rfl dX0_owes_13 ?_
    refine v_iconst C.1.1 1 (by decide) dX0_owes_15 ?_
    exact v_hiret C.1 dX0_owes_16
  · refine v_astore C.1.1 [(4, .ref q6), (0, .ref p0), (1, .int p1), (2, .int p2), (3, .ref p3)] (by decide) rfl dX0_owes_17 ?_
    refine v_iconst C.1.1 2 (by decide) dX0_owes_19 ?_
    exact v_hiret C.1 dX0_owes_20
theorem cwX0_owes {t : TT} {G : GH} {l : Launch} {p : Program} {s : State} {m : MethodId} {args : Array Value} {meth : Method} {c : Code} {y0 : MethodName} {cc0 : ByteArray} {nL0 : Nat} {ret0 : Option FieldType} (C : CxH t G l p s m args meth c y0 cc0 nL0 ret0) {index lv mc ms K1 K2 : Nat} (hq : Cond.methodLink y0.cls index yX0_owes ∈ lw_all) (hR : 426 + 1 ≤ lv) : vx_CSW (rmH lv K1 K2) s args y0.cls index yX0_owes cX0_owes 5 (some .int) [(0, 10, 13, 18), (0, 10, 17, 13)] (wsW_ yX0_owes cX0_owes 5 (some .int) [(0, 10, 13, 18), (0, 10, 17, 13)]) (rmH 426 mc ms) mc ms 4 :=
  vx_cwSW 4 C.1.2.2.2.2.1 (lw_SW hq q1439 q120 q1440) rfl rfl rfl (by decide +kernel) ⟨hR, by show 8 + (5 + 11) + 100 * 426 ≤ 100 * lv; omega⟩
def hX0_instead (p0 : Nat) (p1 : Int32) (p2 : Nat) (u : HS) : Option (OH Int32) :=
  mchk (hC u p0 == 1) <|
  hc (hX1_instead p0 p1 u) (fun r2 u1 =>
    mchk (inA u1 0 p2 24) <|
    mlet (uJ u1 p2 (0 : Int32).toNatClampNeg (Int32.toInt64 r2)) fun u4 =>
    hret 0 u4)
    (hcase 15 (fun q4 u5 =>
       hret 1 u5) <|
     hend)
theorem ctX0_instead (t : TT) (G : GH) (l : Launch) (hl0 : l.stackTraces = false) (p0 : Nat) (p1 : Int32) (p2 : Nat) (u : HS) : CtW mkI t G l yX0_instead cX0_instead 4 (some .int) [(0, 9, 12, 18)] 426 [.ref p0, .int p1, .ref p2] u (hX0_instead p0 p1 p2 u) := by
  refine ctW_of [(0, .ref p0), (1, .int p1), (2, .ref p2)] hl0 rfl (Nat.le_of_ble_eq_true rfl) rfl (fun K1 K2 p e s m args below meth c C => ?_)
  unfold hX0_instead
  refine v_aload_n C.1.1 2 rfl rfl dX0_instead_0 ?_
  refine v_iconst C.1.1 0 (by decide) dX0_instead_1 ?_
  refine v_aload_n C.1.1 0 rfl rfl dX0_instead_2 ?_
  refine v_iload_n C.1.1 1 rfl rfl dX0_instead_3 ?_
  refine v_chk (fun h3 => ?_)
  refine v_callVC C.1 [.int p1] [.int 0, .ref p2] (ctX1_instead t G l hl0 p0 p1 u) (fun _ _ => cwX1_instead C.1 q1448 (by decide)) (recO C.1 (ci := 0) (eq_of_beq h3) (by decide) rfl) rfl rfl (by exact Nat.le_of_ble_eq_true rfl) dX0_instead_4 (fun r2 u1 => ?_) (kcase0 (i0 := 15) C (by decide) (by decide) q1310 q1329 (fun q4 u5 => ?_) kend)
  · refine v_i2l C.1.1 dX0_instead_7 ?_
    refine v_chk (fun h5 => ?_)
    refine v_hlast C.1 h5 dX0_instead_8 (fun u4 => ?_)
    refine v_goto C.1.1 15 (by decide) dX0_instead_9 ?_
    refine v_iconst C.1.1 0 (by decide) dX0_instead_15 ?_
    exact v_hiret C.1 dX0_instead_16
  · refine v_astore_n C.1.1 [(3, .ref q4), (0, .ref p0), (1, .int p1), (2, .ref p2)] rfl (by decide) rfl dX0_instead_12 ?_
    refine v_iconst C.1.1 1 (by decide) dX0_instead_13 ?_
    exact v_hiret C.1 dX0_instead_14
theorem cwX0_instead {t : TT} {G : GH} {l : Launch} {p : Program} {s : State} {m : MethodId} {args : Array Value} {meth : Method} {c : Code} {y0 : MethodName} {cc0 : ByteArray} {nL0 : Nat} {ret0 : Option FieldType} (C : CxH t G l p s m args meth c y0 cc0 nL0 ret0) {index lv mc ms K1 K2 : Nat} (hq : Cond.methodLink y0.cls index yX0_instead ∈ lw_all) (hR : 426 + 1 ≤ lv) : vx_CSW (rmH lv K1 K2) s args y0.cls index yX0_instead cX0_instead 4 (some .int) [(0, 9, 12, 18)] (wsW_ yX0_instead cX0_instead 4 (some .int) [(0, 9, 12, 18)]) (rmH 426 mc ms) mc ms 3 :=
  vx_cwSW 3 C.1.2.2.2.2.1 (lw_SW hq q1446 q120 q1447) rfl rfl rfl (by decide +kernel) ⟨hR, by show 8 + (4 + 11) + 100 * 426 ≤ 100 * lv; omega⟩
def hX0_out (p0 : Nat) (p1 : Int32) (p2 : Nat) (u : HS) : Option (OH Int32) :=
  mchk (hC u p0 == 1) <|
  hc (hX1_out p0 p1 u) (fun r2 u1 =>
    mchk (inA u1 0 p2 24) <|
    mlet (uJ u1 p2 (0 : Int32).toNatClampNeg (Int32.toInt64 r2)) fun u4 =>
    hret 0 u4)
    (hcase 15 (fun q4 u5 =>
       hret 1 u5) <|
     hend)
theorem ctX0_out (t : TT) (G : GH) (l : Launch) (hl0 : l.stackTraces = false) (p0 : Nat) (p1 : Int32) (p2 : Nat) (u : HS) : CtW mkI t G l yX0_out cX0_out 4 (some .int) [(0, 9, 12, 18)] 427 [.ref p0, .int p1, .ref p2] u (hX0_out p0 p1 p2 u) := by
  refine ctW_of [(0, .ref p0), (1, .int p1), (2, .ref p2)] hl0 rfl (Nat.le_of_ble_eq_true rfl) rfl (fun K1 K2 p e s m args below meth c C => ?_)
  unfold hX0_out
  refine v_aload_n C.1.1 2 rfl rfl dX0_out_0 ?_
  refine v_iconst C.1.1 0 (by decide) dX0_out_1 ?_
  refine v_aload_n C.1.1 0 rfl rfl dX0_out_2 ?_
  refine v_iload_n C.1.1 1 rfl rfl dX0_out_3 ?_
  refine v_chk (fun h3 => ?_)
  refine v_callVC C.1 [.int p1] [.int 0, .ref p2] (ctX1_out t G l hl0 p0 p1 u) (fun _ _ => cwX1_out C.1 q1460 (by decide)) (recO C.1 (ci := 0) (eq_of_beq h3) (by decide) rfl) rfl rfl (by exact Nat.le_of_ble_eq_true rfl) dX0_out_4 (fun r2 u1 => ?_) (kcase0 (i0 := 15) C (by decide) (by decide) q1310 q1329 (fun q4 u5 => ?_) kend)
  · refine v_i2l C.1.1 dX0_out_7 ?_
    refine v_chk (fun h5 => ?_)
    refine v_hlast C.1 h5 dX0_out_8 (fun u4 => ?_)
    refine v_goto C.1.1 15 (by decide) dX0_out_9 ?_
    refine v_iconst C.1.1 0 (by decide) dX0_out_15 ?_
    exact v_hiret C.1 dX0_out_16
  · refine v_astore_n C.1.1 [(3, .ref q4), (0, .ref p0), (1, .int p1), (2, .ref p2)] rfl (by decide) rfl dX0_out_12 ?_
    refine v_iconst C.1.1 1 (by decide) dX0_out_13 ?_
    exact v_hiret C.1 dX0_out_14
theorem cwX0_out {t : TT} {G : GH} {l : Launch} {p : Program} {s : State} {m : MethodId} {args : Array Value} {meth : Method} {c : Code} {y0 : MethodName} {cc0 : ByteArray} {nL0 : Nat} {ret0 : Option FieldType} (C : CxH t G l p s m args meth c y0 cc0 nL0 ret0) {index lv mc ms K1 K2 : Nat} (hq : Cond.methodLink y0.cls index yX0_out ∈ lw_all) (hR : 427 + 1 ≤ lv) : vx_CSW (rmH lv K1 K2) s args y0.cls index yX0_out cX0_out 4 (some .int) [(0, 9, 12, 18)] (wsW_ yX0_out cX0_out 4 (some .int) [(0, 9, 12, 18)]) (rmH 427 mc ms) mc ms 3 :=
  vx_cwSW 3 C.1.2.2.2.2.1 (lw_SW hq q1458 q120 q1459) rfl rfl rfl (by decide +kernel) ⟨hR, by show 8 + (4 + 11) + 100 * 427 ≤ 100 * lv; omega⟩
def hX0_gate (p0 : Nat) (p1 : Int32) (p2 : Nat) (u : HS) : Option (OH Int32) :=
  mchk (hC u p0 == 1) <|
  hc (hX1_gate p0 p1 u) (fun r2 u1 =>
    mchk (inA u1 0 p2 24) <|
    mlet (uJ u1 p2 (0 : Int32).toNatClampNeg (Int32.toInt64 r2)) fun u4 =>
    hret 0 u4)
    (hcase 15 (fun q4 u5 =>
       hret 1 u5) <|
     hend)
theorem ctX0_gate (t : TT) (G : GH) (l : Launch) (hl0 : l.stackTraces = false) (p0 : Nat) (p1 : Int32) (p2 : Nat) (u : HS) : CtW mkI t G l yX0_gate cX0_gate 4 (some .int) [(0, 9, 12, 18)] 427 [.ref p0, .int p1, .ref p2] u (hX0_gate p0 p1 p2 u) := by
  refine ctW_of [(0, .ref p0), (1, .int p1), (2, .ref p2)] hl0 rfl (Nat.le_of_ble_eq_true rfl) rfl (fun K1 K2 p e s m args below meth c C => ?_)
  unfold hX0_gate
  refine v_aload_n C.1.1 2 rfl rfl dX0_gate_0 ?_
  refine v_iconst C.1.1 0 (by decide) dX0_gate_1 ?_
  refine v_aload_n C.1.1 0 rfl rfl dX0_gate_2 ?_
  refine v_iload_n C.1.1 1 rfl rfl dX0_gate_3 ?_
  refine v_chk (fun h3 => ?_)
  refine v_callVC C.1 [.int p1] [.int 0, .ref p2] (ctX1_gate t G l hl0 p0 p1 u) (fun _ _ => cwX1_gate C.1 q1472 (by decide)) (recO C.1 (ci := 0) (eq_of_beq h3) (by decide) rfl) rfl rfl (by exact Nat.le_of_ble_eq_true rfl) dX0_gate_4 (fun r2 u1 => ?_) (kcase0 (i0 := 15) C (by decide) (by decide) q1310 q1329 (fun q4 u5 => ?_) kend)
  · refine v_i2l C.1.1 dX0_gate_7 ?_
    refine v_chk (fun h5 => ?_)
    refine v_hlast C.1 h5 dX0_gate_8 (fun u4 => ?_)
    refine v_goto C.1.1 15 (by decide) dX0_gate_9 ?_
    refine v_iconst C.1.1 0 (by decide) dX0_gate_15 ?_
    exact v_hiret C.1 dX0_gate_16
  · refine v_astore_n C.1.1 [(3, .ref q4), (0, .ref p0), (1, .int p1), (2, .ref p2)] rfl (by decide) rfl dX0_gate_12 ?_
    refine v_iconst C.1.1 1 (by decide) dX0_gate_13 ?_
    exact v_hiret C.1 dX0_gate_14
theorem cwX0_gate {t : TT} {G : GH} {l : Launch} {p : Program} {s : State} {m : MethodId} {args : Array Value} {meth : Method} {c : Code} {y0 : MethodName} {cc0 : ByteArray} {nL0 : Nat} {ret0 : Option FieldType} (C : CxH t G l p s m args meth c y0 cc0 nL0 ret0) {index lv mc ms K1 K2 : Nat} (hq : Cond.methodLink y0.cls index yX0_gate ∈ lw_all) (hR : 427 + 1 ≤ lv) : vx_CSW (rmH lv K1 K2) s args y0.cls index yX0_gate cX0_gate 4 (some .int) [(0, 9, 12, 18)] (wsW_ yX0_gate cX0_gate 4 (some .int) [(0, 9, 12, 18)]) (rmH 427 mc ms) mc ms 3 :=
  vx_cwSW 3 C.1.2.2.2.2.1 (lw_SW hq q1470 q120 q1471) rfl rfl rfl (by decide +kernel) ⟨hR, by show 8 + (4 + 11) + 100 * 427 ≤ 100 * lv; omega⟩
def hX0_surest (p0 : Nat) (p1 : Int32) (p2 : Int32) (p3 : Nat) (u : HS) : Option (OH Int32) :=
  mchk (hC u p0 == 1) <|
  hc (hX1_surest p0 p1 p2 u) (fun r2 u1 =>
    mchk (inA u1 0 p3 24) <|
    mlet (uJ u1 p3 (0 : Int32).toNatClampNeg (Int32.toInt64 r2)) fun u4 =>
    hret 0 u4)
    (hcase 15 (fun q4 u5 =>
       hret 1 u5) <|
     hcase 14 (fun q6 u7 =>
       hret 2 u7) <|
     hend)
theorem ctX0_surest (t : TT) (G : GH) (l : Launch) (hl0 : l.stackTraces = false) (p0 : Nat) (p1 : Int32) (p2 : Int32) (p3 : Nat) (u : HS) : CtW mkI t G l yX0_surest cX0_surest 5 (some .int) [(0, 10, 13, 18), (0, 10, 17, 13)] 426 [.ref p0, .int p1, .int p2, .ref p3] u (hX0_surest p0 p1 p2 p3 u) := by
  refine ctW_of [(0, .ref p0), (1, .int p1), (2, .int p2), (3, .ref p3)] hl0 rfl (Nat.le_of_ble_eq_true rfl) rfl (fun K1 K2 p e s m args below meth c C => ?_)
  unfold hX0_surest
  refine v_aload_n C.1.1 3 rfl rfl dX0_surest_0 ?_
  refine v_iconst C.1.1 0 (by decide) dX0_surest_1 ?_
  refine v_aload_n C.1.1 0 rfl rfl dX0_surest_2 ?_
  refine v_iload_n C.1.1 1 rfl rfl dX0_surest_3 ?_
  refine v_iload_n C.1.1 2 rfl rfl dX0_surest_4 ?_
  refine v_chk (fun h3 => ?_)
  refine v_callVC C.1 [.int p1, .int p2] [.int 0, .ref p3] (ctX1_surest t G l hl0 p0 p1 p2 u) (fun _ _ => cwX1_surest C.1 q1479 (by decide)) (recO C.1 (ci := 0) (eq_of_beq h3) (by decide) rfl) rfl rfl (by exact Nat.le_of_ble_eq_true rfl) dX0_surest_5 (fun r2 u1 => ?_) (kcase0 (i0 := 15) C (by decide) (by decide) q1310 q1329 (fun q4 u5 => ?_) (kcase1 (i0 := 14) C (by decide) (by decide) q754 q765 (by decide) q1310 (nc_of C.1) (fun q6 u7 => ?_) kend))
  · refine v_i2l C.1.1 dX0_surest_8 ?_
    refine v_chk (fun h5 => ?_)
    refine v_hlast C.1 h5 dX0_surest_9 (fun u4 => ?_)
    refine v_goto C.1.1 21 (by decide) dX0_surest_10 ?_
    refine v_iconst C.1.1 0 (by decide) dX0_surest_21 ?_
    exact v_hiret C.1 dX0_surest_22
  · refine v_astore C.1.1 [(4, .ref q4), (0, .ref p0), (1, .int p1), (2, .int p2), (3, .ref p3)] (by decide) rfl dX0_surest_13 ?_
    refine v_iconst C.1.1 1 (by decide) dX0_surest_15 ?_
    exact v_hiret C.1 dX0_surest_16
  · refine v_astore C.1.1 [(4, .ref q6), (0, .ref p0), (1, .int p1), (2, .int p2), (3, .ref p3)] (by decide) rfl dX0_surest_17 ?_
    refine v_iconst C.1.1 2 (by decide) dX0_surest_19 ?_
    exact v_hiret C.1 dX0_surest_20
theorem cwX0_surest {t : TT} {G : GH} {l : Launch} {p : Program} {s : State} {m : MethodId} {args : Array Value} {meth : Method} {c : Code} {y0 : MethodName} {cc0 : ByteArray} {nL0 : Nat} {ret0 : Option FieldType} (C : CxH t G l p s m args meth c y0 cc0 nL0 ret0) {index lv mc ms K1 K2 : Nat} (hq : Cond.methodLink y0.cls index yX0_surest ∈ lw_all) (hR : 426 + 1 ≤ lv) : vx_CSW (rmH lv K1 K2) s args y0.cls index yX0_surest cX0_surest 5 (some .int) [(0, 10, 13, 18), (0, 10, 17, 13)] (wsW_ yX0_surest cX0_surest 5 (some .int) [(0, 10, 13, 18), (0, 10, 17, 13)]) (rmH 426 mc ms) mc ms 4 :=
  vx_cwSW 4 C.1.2.2.2.2.1 (lw_SW hq q1477 q120 q1478) rfl rfl rfl (by decide +kernel) ⟨hR, by show 8 + (5 + 11) + 100 * 426 ≤ 100 * lv; omega⟩
def hX0_close (p0 : Nat) (p1 : Int32) (p2 : Nat) (u : HS) : Option (OH Int32) :=
  mchk (hC u p0 == 1) <|
  hc (hX1_close p0 p1 u) (fun r2 u1 =>
    mchk (inA u1 0 p2 24) <|
    mlet (uJ u1 p2 (0 : Int32).toNatClampNeg (Int32.toInt64 r2)) fun u4 =>
    hret 0 u4)
    (hcase 14 (fun q4 u5 =>
       hret 1 u5) <|
     hend)
theorem ctX0_close (t : TT) (G : GH) (l : Launch) (hl0 : l.stackTraces = false) (p0 : Nat) (p1 : Int32) (p2 : Nat) (u : HS) : CtW mkI t G l yX0_close cX0_close 4 (some .int) [(0, 9, 12, 13)] 425 [.ref p0, .int p1, .ref p2] u (hX0_close p0 p1 p2 u) := by
  refine ctW_of [(0, .ref p0), (1, .int p1), (2, .ref p2)] hl0 rfl (Nat.le_of_ble_eq_true rfl) rfl (fun K1 K2 p e s m args below meth c C => ?_)
  unfold hX0_close
  refine v_aload_n C.1.1 2 rfl rfl dX0_close_0 ?_
  refine v_iconst C.1.1 0 (by decide) dX0_close_1 ?_
  refine v_aload_n C.1.1 0 rfl rfl dX0_close_2 ?_
  refine v_iload_n C.1.1 1 rfl rfl dX0_close_3 ?_
  refine v_chk (fun h3 => ?_)
  refine v_callVC C.1 [.int p1] [.int 0, .ref p2] (ctX1_close t G l hl0 p0 p1 u) (fun _ _ => cwX1_close C.1 q1491 (by decide)) (recO C.1 (ci := 0) (eq_of_beq h3) (by decide) rfl) rfl rfl (by exact Nat.le_of_ble_eq_true rfl) dX0_close_4 (fun r2 u1 => ?_) (kcase0 (i0 := 14) C (by decide) (by decide) q754 q765 (fun q4 u5 => ?_) kend)
  · refine v_i2l C.1.1 dX0_close_7 ?_
    refine v_chk (fun h5 => ?_)
    refine v_hlast C.1 h5 dX0_close_8 (fun u4 => ?_)
    refine v_goto C.1.1 15 (by decide) dX0_close_9 ?_
    refine v_iconst C.1.1 0 (by decide) dX0_close_15 ?_
    exact v_hiret C.1 dX0_close_16
  · refine v_astore_n C.1.1 [(3, .ref q4), (0, .ref p0), (1, .int p1), (2, .ref p2)] rfl (by decide) rfl dX0_close_12 ?_
    refine v_iconst C.1.1 1 (by decide) dX0_close_13 ?_
    exact v_hiret C.1 dX0_close_14
theorem cwX0_close {t : TT} {G : GH} {l : Launch} {p : Program} {s : State} {m : MethodId} {args : Array Value} {meth : Method} {c : Code} {y0 : MethodName} {cc0 : ByteArray} {nL0 : Nat} {ret0 : Option FieldType} (C : CxH t G l p s m args meth c y0 cc0 nL0 ret0) {index lv mc ms K1 K2 : Nat} (hq : Cond.methodLink y0.cls index yX0_close ∈ lw_all) (hR : 425 + 1 ≤ lv) : vx_CSW (rmH lv K1 K2) s args y0.cls index yX0_close cX0_close 4 (some .int) [(0, 9, 12, 13)] (wsW_ yX0_close cX0_close 4 (some .int) [(0, 9, 12, 13)]) (rmH 425 mc ms) mc ms 3 :=
  vx_cwSW 3 C.1.2.2.2.2.1 (lw_SW hq q1489 q120 q1490) rfl rfl rfl (by decide +kernel) ⟨hR, by show 8 + (4 + 11) + 100 * 425 ≤ 100 * lv; omega⟩
def hX0_see (p0 : Nat) (p1 : Int32) (p2 : Int32) (p3 : Int32) (p4 : Nat) (u : HS) : Option (OH Int32) :=
  mchk (hC u p0 == 1) <|
  hc (hX1_see p0 p1 p2 p3 u) (fun r2 u1 =>
    mchk (inA u1 0 p4 24) <|
    mlet (uJ u1 p4 (0 : Int32).toNatClampNeg (Int32.toInt64 r2)) fun u4 =>
    hret 0 u4)
    (hcase 15 (fun q4 u5 =>
       hret 1 u5) <|
     hend)
theorem ctX0_see (t : TT) (G : GH) (l : Launch) (hl0 : l.stackTraces = false) (p0 : Nat) (p1 : Int32) (p2 : Int32) (p3 : Int32) (p4 : Nat) (u : HS) : CtW mkI t G l yX0_see cX0_see 6 (some .int) [(0, 12, 15, 18)] 11 [.ref p0, .int p1, .int p2, .int p3, .ref p4] u (hX0_see p0 p1 p2 p3 p4 u) := by
  refine ctW_of [(0, .ref p0), (1, .int p1), (2, .int p2), (3, .int p3), (4, .ref p4)] hl0 rfl (Nat.le_of_ble_eq_true rfl) rfl (fun K1 K2 p e s m args below meth c C => ?_)
  unfold hX0_see
  refine v_aload C.1.1 4 rfl dX0_see_0 ?_
  refine v_iconst C.1.1 0 (by decide) dX0_see_2 ?_
  refine v_aload_n C.1.1 0 rfl rfl dX0_see_3 ?_
  refine v_iload_n C.1.1 1 rfl rfl dX0_see_4 ?_
  refine v_iload_n C.1.1 2 rfl rfl dX0_see_5 ?_
  refine v_iload_n C.1.1 3 rfl rfl dX0_see_6 ?_
  refine v_chk (fun h3 => ?_)
  refine v_callVC C.1 [.int p1, .int p2, .int p3] [.int 0, .ref p4] (ctX1_see t G l hl0 p0 p1 p2 p3 u) (fun _ _ => cwX1_see C.1 q1499 (by decide)) (recO C.1 (ci := 0) (eq_of_beq h3) (by decide) rfl) rfl rfl (by exact Nat.le_of_ble_eq_true rfl) dX0_see_7 (fun r2 u1 => ?_) (kcase0 (i0 := 15) C (by decide) (by decide) q1310 q1329 (fun q4 u5 => ?_) kend)
  · refine v_i2l C.1.1 dX0_see_10 ?_
    refine v_chk (fun h5 => ?_)
    refine v_hlast C.1 h5 dX0_see_11 (fun u4 => ?_)
    refine v_goto C.1.1 19 (by decide) dX0_see_12 ?_
    refine v_iconst C.1.1 0 (by decide) dX0_see_19 ?_
    exact v_hiret C.1 dX0_see_20
  · refine v_astore C.1.1 [(5, .ref q4), (0, .ref p0), (1, .int p1), (2, .int p2), (3, .int p3), (4, .ref p4)] (by decide) rfl dX0_see_15 ?_
    refine v_iconst C.1.1 1 (by decide) dX0_see_17 ?_
    exact v_hiret C.1 dX0_see_18
theorem cwX0_see {t : TT} {G : GH} {l : Launch} {p : Program} {s : State} {m : MethodId} {args : Array Value} {meth : Method} {c : Code} {y0 : MethodName} {cc0 : ByteArray} {nL0 : Nat} {ret0 : Option FieldType} (C : CxH t G l p s m args meth c y0 cc0 nL0 ret0) {index lv mc ms K1 K2 : Nat} (hq : Cond.methodLink y0.cls index yX0_see ∈ lw_all) (hR : 11 + 1 ≤ lv) : vx_CSW (rmH lv K1 K2) s args y0.cls index yX0_see cX0_see 6 (some .int) [(0, 12, 15, 18)] (wsW_ yX0_see cX0_see 6 (some .int) [(0, 12, 15, 18)]) (rmH 11 mc ms) mc ms 5 :=
  vx_cwSW 5 C.1.2.2.2.2.1 (lw_SW hq q1497 q120 q1498) rfl rfl rfl (by decide +kernel) ⟨hR, by show 8 + (6 + 11) + 100 * 11 ≤ 100 * lv; omega⟩
def hX0_scribe (p0 : Nat) (p1 : Int32) (p2 : Nat) (u : HS) : Option (OH Int32) :=
  mchk (hC u p0 == 1) <|
  hc (hX1_scribe p0 p1 u) (fun r2 u1 =>
    mchk (inA u1 0 p2 24) <|
    mlet (uJ u1 p2 (0 : Int32).toNatClampNeg (Int32.toInt64 r2)) fun u4 =>
    hret 0 u4)
    (hcase 15 (fun q4 u5 =>
       hret 1 u5) <|
     hend)
theorem ctX0_scribe (t : TT) (G : GH) (l : Launch) (hl0 : l.stackTraces = false) (p0 : Nat) (p1 : Int32) (p2 : Nat) (u : HS) : CtW mkI t G l yX0_scribe cX0_scribe 4 (some .int) [(0, 9, 12, 18)] 425 [.ref p0, .int p1, .ref p2] u (hX0_scribe p0 p1 p2 u) := by
  refine ctW_of [(0, .ref p0), (1, .int p1), (2, .ref p2)] hl0 rfl (Nat.le_of_ble_eq_true rfl) rfl (fun K1 K2 p e s m args below meth c C => ?_)
  unfold hX0_scribe
  refine v_aload_n C.1.1 2 rfl rfl dX0_scribe_0 ?_
  refine v_iconst C.1.1 0 (by decide) dX0_scribe_1 ?_
  refine v_aload_n C.1.1 0 rfl rfl dX0_scribe_2 ?_
  refine v_iload_n C.1.1 1 rfl rfl dX0_scribe_3 ?_
  refine v_chk (fun h3 => ?_)
  refine v_callVC C.1 [.int p1] [.int 0, .ref p2] (ctX1_scribe t G l hl0 p0 p1 u) (fun _ _ => cwX1_scribe C.1 q1506 (by decide)) (recO C.1 (ci := 0) (eq_of_beq h3) (by decide) rfl) rfl rfl (by exact Nat.le_of_ble_eq_true rfl) dX0_scribe_4 (fun r2 u1 => ?_) (kcase0 (i0 := 15) C (by decide) (by decide) q1310 q1329 (fun q4 u5 => ?_) kend)
  · refine v_i2l C.1.1 dX0_scribe_7 ?_
    refine v_chk (fun h5 => ?_)
    refine v_hlast C.1 h5 dX0_scribe_8 (fun u4 => ?_)
    refine v_goto C.1.1 15 (by decide) dX0_scribe_9 ?_
    refine v_iconst C.1.1 0 (by decide) dX0_scribe_15 ?_
    exact v_hiret C.1 dX0_scribe_16
  · refine v_astore_n C.1.1 [(3, .ref q4), (0, .ref p0), (1, .int p1), (2, .ref p2)] rfl (by decide) rfl dX0_scribe_12 ?_
    refine v_iconst C.1.1 1 (by decide) dX0_scribe_13 ?_
    exact v_hiret C.1 dX0_scribe_14
theorem cwX0_scribe {t : TT} {G : GH} {l : Launch} {p : Program} {s : State} {m : MethodId} {args : Array Value} {meth : Method} {c : Code} {y0 : MethodName} {cc0 : ByteArray} {nL0 : Nat} {ret0 : Option FieldType} (C : CxH t G l p s m args meth c y0 cc0 nL0 ret0) {index lv mc ms K1 K2 : Nat} (hq : Cond.methodLink y0.cls index yX0_scribe ∈ lw_all) (hR : 425 + 1 ≤ lv) : vx_CSW (rmH lv K1 K2) s args y0.cls index yX0_scribe cX0_scribe 4 (some .int) [(0, 9, 12, 18)] (wsW_ yX0_scribe cX0_scribe 4 (some .int) [(0, 9, 12, 18)]) (rmH 425 mc ms) mc ms 3 :=
  vx_cwSW 3 C.1.2.2.2.2.1 (lw_SW hq q1504 q120 q1505) rfl rfl rfl (by decide +kernel) ⟨hR, by show 8 + (4 + 11) + 100 * 425 ≤ 100 * lv; omega⟩
def hX0_tells (p0 : Nat) (p1 : Int32) (p2 : Nat) (u : HS) : Option (OH Int32) :=
  mchk (hC u p0 == 1) <|
  hc (hX1_tells p0 p1 u) (fun r2 u1 =>
    mchk (inA u1 0 p2 24) <|
    mlet (uJ u1 p2 (0 : Int32).toNatClampNeg (Int32.toInt64 r2)) fun u4 =>
    hret 0 u4)
    (hcase 15 (fun q4 u5 =>
       hret 1 u5) <|
     hend)
theorem ctX0_tells (t : TT) (G : GH) (l : Launch) (hl0 : l.stackTraces = false) (p0 : Nat) (p1 : Int32) (p2 : Nat) (u : HS) : CtW mkI t G l yX0_tells cX0_tells 4 (some .int) [(0, 9, 12, 18)] 425 [.ref p0, .int p1, .ref p2] u (hX0_tells p0 p1 p2 u) := by
  refine ctW_of [(0, .ref p0), (1, .int p1), (2, .ref p2)] hl0 rfl (Nat.le_of_ble_eq_true rfl) rfl (fun K1 K2 p e s m args below meth c C => ?_)
  unfold hX0_tells
  refine v_aload_n C.1.1 2 rfl rfl dX0_tells_0 ?_
  refine v_iconst C.1.1 0 (by decide) dX0_tells_1 ?_
  refine v_aload_n C.1.1 0 rfl rfl dX0_tells_2 ?_
  refine v_iload_n C.1.1 1 rfl rfl dX0_tells_3 ?_
  refine v_chk (fun h3 => ?_)
  refine v_callVC C.1 [.int p1] [.int 0, .ref p2] (ctX1_tells t G l hl0 p0 p1 u) (fun _ _ => cwX1_tells C.1 q1522 (by decide)) (recO C.1 (ci := 0) (eq_of_beq h3) (by decide) rfl) rfl rfl (by exact Nat.le_of_ble_eq_true rfl) dX0_tells_4 (fun r2 u1 => ?_) (kcase0 (i0 := 15) C (by decide) (by decide) q1310 q1329 (fun q4 u5 => ?_) kend)
  · refine v_i2l C.1.1 dX0_tells_7 ?_
    refine v_chk (fun h5 => ?_)
    refine v_hlast C.1 h5 dX0_tells_8 (fun u4 => ?_)
    refine v_goto C.1.1 15 (by decide) dX0_tells_9 ?_
    refine v_iconst C.1.1 0 (by decide) dX0_tells_15 ?_
    exact v_hiret C.1 dX0_tells_16
  · refine v_astore_n C.1.1 [(3, .ref q4), (0, .ref p0), (1, .int p1), (2, .ref p2)] rfl (by decide) rfl dX0_tells_12 ?_
    refine v_iconst C.1.1 1 (by decide) dX0_tells_13 ?_
    exact v_hiret C.1 dX0_tells_14
theorem cwX0_tells {t : TT} {G : GH} {l : Launch} {p : Program} {s : State} {m : MethodId} {args : Array Value} {meth : Method} {c : Code} {y0 : MethodName} {cc0 : ByteArray} {nL0 : Nat} {ret0 : Option FieldType} (C : CxH t G l p s m args meth c y0 cc0 nL0 ret0) {index lv mc ms K1 K2 : Nat} (hq : Cond.methodLink y0.cls index yX0_tells ∈ lw_all) (hR : 425 + 1 ≤ lv) : vx_CSW (rmH lv K1 K2) s args y0.cls index yX0_tells cX0_tells 4 (some .int) [(0, 9, 12, 18)] (wsW_ yX0_tells cX0_tells 4 (some .int) [(0, 9, 12, 18)]) (rmH 425 mc ms) mc ms 3 :=
  vx_cwSW 3 C.1.2.2.2.2.1 (lw_SW hq q1520 q120 q1521) rfl rfl rfl (by decide +kernel) ⟨hR, by show 8 + (4 + 11) + 100 * 425 ≤ 100 * lv; omega⟩
def hX0_roll (p0 : Nat) (p1 : Int32) (p2 : Nat) (u : HS) : Option (OH Int32) :=
  mchk (hC u p0 == 1) <|
  hc (hX1_roll p0 p1 u) (fun r2 u1 =>
    mchk (inA u1 0 p2 24) <|
    mlet (uJ u1 p2 (0 : Int32).toNatClampNeg (Int32.toInt64 r2)) fun u4 =>
    hret 0 u4)
    (hcase 14 (fun q4 u5 =>
       hret 1 u5) <|
     hend)
theorem ctX0_roll (t : TT) (G : GH) (l : Launch) (hl0 : l.stackTraces = false) (p0 : Nat) (p1 : Int32) (p2 : Nat) (u : HS) : CtW mkI t G l yX0_roll cX0_roll 4 (some .int) [(0, 9, 12, 13)] 10 [.ref p0, .int p1, .ref p2] u (hX0_roll p0 p1 p2 u) := by
  refine ctW_of [(0, .ref p0), (1, .int p1), (2, .ref p2)] hl0 rfl (Nat.le_of_ble_eq_true rfl) rfl (fun K1 K2 p e s m args below meth c C => ?_)
  unfold hX0_roll
  refine v_aload_n C.1.1 2 rfl rfl dX0_roll_0 ?_
  refine v_iconst C.1.1 0 (by decide) dX0_roll_1 ?_
  refine v_aload_n C.1.1 0 rfl rfl dX0_roll_2 ?_
  refine v_iload_n C.1.1 1 rfl rfl dX0_roll_3 ?_
  refine v_chk (fun h3 => ?_)
  refine v_callVC C.1 [.int p1] [.int 0, .ref p2] (ctX1_roll t G l hl0 p0 p1 u) (fun _ _ => cwX1_roll C.1 q1529 (by decide)) (recO C.1 (ci := 0) (eq_of_beq h3) (by decide) rfl) rfl rfl (by exact Nat.le_of_ble_eq_true rfl) dX0_roll_4 (fun r2 u1 => ?_) (kcase0 (i0 := 14) C (by decide) (by decide) q754 q765 (fun q4 u5 => ?_) kend)
  · refine v_i2l C.1.1 dX0_roll_7 ?_
    refine v_chk (fun h5 => ?_)
    refine v_hlast C.1 h5 dX0_roll_8 (fun u4 => ?_)
    refine v_goto C.1.1 15 (by decide) dX0_roll_9 ?_
    refine v_iconst C.1.1 0 (by decide) dX0_roll_15 ?_
    exact v_hiret C.1 dX0_roll_16
  · refine v_astore_n C.1.1 [(3, .ref q4), (0, .ref p0), (1, .int p1), (2, .ref p2)] rfl (by decide) rfl dX0_roll_12 ?_
    refine v_iconst C.1.1 1 (by decide) dX0_roll_13 ?_
    exact v_hiret C.1 dX0_roll_14
theorem cwX0_roll {t : TT} {G : GH} {l : Launch} {p : Program} {s : State} {m : MethodId} {args : Array Value} {meth : Method} {c : Code} {y0 : MethodName} {cc0 : ByteArray} {nL0 : Nat} {ret0 : Option FieldType} (C : CxH t G l p s m args meth c y0 cc0 nL0 ret0) {index lv mc ms K1 K2 : Nat} (hq : Cond.methodLink y0.cls index yX0_roll ∈ lw_all) (hR : 10 + 1 ≤ lv) : vx_CSW (rmH lv K1 K2) s args y0.cls index yX0_roll cX0_roll 4 (some .int) [(0, 9, 12, 13)] (wsW_ yX0_roll cX0_roll 4 (some .int) [(0, 9, 12, 13)]) (rmH 10 mc ms) mc ms 3 :=
  vx_cwSW 3 C.1.2.2.2.2.1 (lw_SW hq q1527 q120 q1528) rfl rfl rfl (by decide +kernel) ⟨hR, by show 8 + (4 + 11) + 100 * 10 ≤ 100 * lv; omega⟩
def hX0_bargain (p0 : Nat) (p1 : Int32) (p2 : Int32) (p3 : Int32) (p4 : Nat) (u : HS) : Option (OH Int32) :=
  mchk (hC u p0 == 1) <|
  hc (hX1_bargain p0 p1 p2 p3 u) (fun r2 u1 =>
    mchk (inA u1 0 p4 24) <|
    mlet (uJ u1 p4 (0 : Int32).toNatClampNeg (Int32.toInt64 r2)) fun u4 =>
    hret 0 u4)
    (hcase 15 (fun q4 u5 =>
       hret 1 u5) <|
     hcase 14 (fun q6 u7 =>
       hret 2 u7) <|
     hend)
theorem ctX0_bargain (t : TT) (G : GH) (l : Launch) (hl0 : l.stackTraces = false) (p0 : Nat) (p1 : Int32) (p2 : Int32) (p3 : Int32) (p4 : Nat) (u : HS) : CtW mkI t G l yX0_bargain cX0_bargain 6 (some .int) [(0, 12, 15, 18), (0, 12, 19, 13)] 11 [.ref p0, .int p1, .int p2, .int p3, .ref p4] u (hX0_bargain p0 p1 p2 p3 p4 u) := by
  refine ctW_of [(0, .ref p0), (1, .int p1), (2, .int p2), (3, .int p3), (4, .ref p4)] hl0 rfl (Nat.le_of_ble_eq_true rfl) rfl (fun K1 K2 p e s m args below meth c C => ?_)
  unfold hX0_bargain
  refine v_aload C.1.1 4 rfl dX0_bargain_0 ?_
  refine v_iconst C.1.1 0 (by decide) dX0_bargain_2 ?_
  refine v_aload_n C.1.1 0 rfl rfl dX0_bargain_3 ?_
  refine v_iload_n C.1.1 1 rfl rfl dX0_bargain_4 ?_
  refine v_iload_n C.1.1 2 rfl rfl dX0_bargain_5 ?_
  refine v_iload_n C.1.1 3 rfl rfl dX0_bargain_6 ?_
  refine v_chk (fun h3 => ?_)
  refine v_callVC C.1 [.int p1, .int p2, .int p3] [.int 0, .ref p4] (ctX1_bargain t G l hl0 p0 p1 p2 p3 u) (fun _ _ => cwX1_bargain C.1 q1540 (by decide)) (recO C.1 (ci := 0) (eq_of_beq h3) (by decide) rfl) rfl rfl (by exact Nat.le_of_ble_eq_true rfl) dX0_bargain_7 (fun r2 u1 => ?_) (kcase0 (i0 := 15) C (by decide) (by decide) q1310 q1329 (fun q4 u5 => ?_) (kcase1 (i0 := 14) C (by decide) (by decide) q754 q765 (by decide) q1310 (nc_of C.1) (fun q6 u7 => ?_) kend))
  · refine v_i2l C.1.1 dX0_bargain_10 ?_
    refine v_chk (fun h5 => ?_)
    refine v_hlast C.1 h5 dX0_bargain_11 (fun u4 => ?_)
    refine v_goto C.1.1 23 (by decide) dX0_bargain_12 ?_
    refine v_iconst C.1.1 0 (by decide) dX0_bargain_23 ?_
    exact v_hiret C.1 dX0_bargain_24
  · refine v_astore C.1.1 [(5, .ref q4), (0, .ref p0), (1, .int p1), (2, .int p2), (3, .int p3), (4, .ref p4)] (by decide) rfl dX0_bargain_15 ?_
    refine v_iconst C.1.1 1 (by decide) dX0_bargain_17 ?_
    exact v_hiret C.1 dX0_bargain_18
  · refine v_astore C.1.1 [(5, .ref q6), (0, .ref p0), (1, .int p1), (2, .int p2), (3, .int p3), (4, .ref p4)] (by decide) rfl dX0_bargain_19 ?_
    refine v_iconst C.1.1 2 (by decide) dX0_bargain_21 ?_
    exact v_hiret C.1 dX0_bargain_22
theorem cwX0_bargain {t : TT} {G : GH} {l : Launch} {p : Program} {s : State} {m : MethodId} {args : Array Value} {meth : Method} {c : Code} {y0 : MethodName} {cc0 : ByteArray} {nL0 : Nat} {ret0 : Option FieldType} (C : CxH t G l p s m args meth c y0 cc0 nL0 ret0) {index lv mc ms K1 K2 : Nat} (hq : Cond.methodLink y0.cls index yX0_bargain ∈ lw_all) (hR : 11 + 1 ≤ lv) : vx_CSW (rmH lv K1 K2) s args y0.cls index yX0_bargain cX0_bargain 6 (some .int) [(0, 12, 15, 18), (0, 12, 19, 13)] (wsW_ yX0_bargain cX0_bargain 6 (some .int) [(0, 12, 15, 18), (0, 12, 19, 13)]) (rmH 11 mc ms) mc ms 5 :=
  vx_cwSW 5 C.1.2.2.2.2.1 (lw_SW hq q1538 q120 q1539) rfl rfl rfl (by decide +kernel) ⟨hR, by show 8 + (6 + 11) + 100 * 11 ≤ 100 * lv; omega⟩
def hX0_lists (p0 : Nat) (p1 : Int32) (p2 : Int32) (p3 : Int32) (p4 : Nat) (u : HS) : Option (OH Int32) :=
  mchk (hC u p0 == 1) <|
  hc (hX1_lists p0 p1 p2 p3 u) (fun r2 u1 =>
    mchk (inA u1 0 p4 24) <|
    mlet (uJ u1 p4 (0 : Int32).toNatClampNeg (Int32.toInt64 r2)) fun u4 =>
    hret 0 u4)
    (hcase 15 (fun q4 u5 =>
       hret 1 u5) <|
     hcase 14 (fun q6 u7 =>
       hret 2 u7) <|
     hend)
theorem ctX0_lists (t : TT) (G : GH) (l : Launch) (hl0 : l.stackTraces = false) (p0 : Nat) (p1 : Int32) (p2 : Int32) (p3 : Int32) (p4 : Nat) (u : HS) : CtW mkI t G l yX0_lists cX0_lists 6 (some .int) [(0, 12, 15, 18), (0, 12, 19, 13)] 11 [.ref p0, .int p1, .int p2, .int p3, .ref p4] u (hX0_lists p0 p1 p2 p3 p4 u) := by
  refine ctW_of [(0, .ref p0), (1, .int p1), (2, .int p2), (3, .int p3), (4, .ref p4)] hl0 rfl (Nat.le_of_ble_eq_true rfl) rfl (fun K1 K2 p e s m args below meth c C => ?_)
  unfold hX0_lists
  refine v_aload C.1.1 4 rfl dX0_lists_0 ?_
  refine v_iconst C.1.1 0 (by decide) dX0_lists_2 ?_
  refine v_aload_n C.1.1 0 rfl rfl dX0_lists_3 ?_
  refine v_iload_n C.1.1 1 rfl rfl dX0_lists_4 ?_
  refine v_iload_n C.1.1 2 rfl rfl dX0_lists_5 ?_
  refine v_iload_n C.1.1 3 rfl rfl dX0_lists_6 ?_
  refine v_chk (fun h3 => ?_)
  refine v_callVC C.1 [.int p1, .int p2, .int p3] [.int 0, .ref p4] (ctX1_lists t G l hl0 p0 p1 p2 p3 u) (fun _ _ => cwX1_lists C.1 q1556 (by decide)) (recO C.1 (ci := 0) (eq_of_beq h3) (by decide) rfl) rfl rfl (by exact Nat.le_of_ble_eq_true rfl) dX0_lists_7 (fun r2 u1 => ?_) (kcase0 (i0 := 15) C (by decide) (by decide) q1310 q1329 (fun q4 u5 => ?_) (kcase1 (i0 := 14) C (by decide) (by decide) q754 q765 (by decide) q1310 (nc_of C.1) (fun q6 u7 => ?_) kend))
  · refine v_i2l C.1.1 dX0_lists_10 ?_
    refine v_chk (fun h5 => ?_)
    refine v_hlast C.1 h5 dX0_lists_11 (fun u4 => ?_)
    refine v_goto C.1.1 23 (by decide) dX0_lists_12 ?_
    refine v_iconst C.1.1 0 (by decide) dX0_lists_23 ?_
    exact v_hiret C.1 dX0_lists_24
  · refine v_astore C.1.1 [(5, .ref q4), (0, .ref p0), (1, .int p1), (2, .int p2), (3, .int p3), (4, .ref p4)] (by decide) rfl dX0_lists_15 ?_
    refine v_iconst C.1.1 1 (by decide) dX0_lists_17 ?_
    exact v_hiret C.1 dX0_lists_18
  · refine v_astore C.1.1 [(5, .ref q6), (0, .ref p0), (1, .int p1), (2, .int p2), (3, .int p3), (4, .ref p4)] (by decide) rfl dX0_lists_19 ?_
    refine v_iconst C.1.1 2 (by decide) dX0_lists_21 ?_
    exact v_hiret C.1 dX0_lists_22
theorem cwX0_lists {t : TT} {G : GH} {l : Launch} {p : Program} {s : State} {m : MethodId} {args : Array Value} {meth : Method} {c : Code} {y0 : MethodName} {cc0 : ByteArray} {nL0 : Nat} {ret0 : Option FieldType} (C : CxH t G l p s m args meth c y0 cc0 nL0 ret0) {index lv mc ms K1 K2 : Nat} (hq : Cond.methodLink y0.cls index yX0_lists ∈ lw_all) (hR : 11 + 1 ≤ lv) : vx_CSW (rmH lv K1 K2) s args y0.cls index yX0_lists cX0_lists 6 (some .int) [(0, 12, 15, 18), (0, 12, 19, 13)] (wsW_ yX0_lists cX0_lists 6 (some .int) [(0, 12, 15, 18), (0, 12, 19, 13)]) (rmH 11 mc ms) mc ms 5 :=
  vx_cwSW 5 C.1.2.2.2.2.1 (lw_SW hq q1554 q120 q1555) rfl rfl rfl (by decide +kernel) ⟨hR, by show 8 + (6 + 11) + 100 * 11 ≤ 100 * lv; omega⟩
def hX0_far (p0 : Nat) (p1 : Int32) (p2 : Int32) (p3 : Nat) (u : HS) : Option (OH Int32) :=
  mchk (hC u p0 == 1) <|
  hc (hX1_far p0 p1 p2 u) (fun r2 u1 =>
    mchk (inA u1 0 p3 24) <|
    mlet (uJ u1 p3 (0 : Int32).toNatClampNeg (Int32.toInt64 r2)) fun u4 =>
    hret 0 u4)
    (hcase 15 (fun q4 u5 =>
       hret 1 u5) <|
     hend)
theorem ctX0_far (t : TT) (G : GH) (l : Launch) (hl0 : l.stackTraces = false) (p0 : Nat) (p1 : Int32) (p2 : Int32) (p3 : Nat) (u : HS) : CtW mkI t G l yX0_far cX0_far 5 (some .int) [(0, 10, 13, 18)] 11 [.ref p0, .int p1, .int p2, .ref p3] u (hX0_far p0 p1 p2 p3 u) := by
  refine ctW_of [(0, .ref p0), (1, .int p1), (2, .int p2), (3, .ref p3)] hl0 rfl (Nat.le_of_ble_eq_true rfl) rfl (fun K1 K2 p e s m args below meth c C => ?_)
  unfold hX0_far
  refine v_aload_n C.1.1 3 rfl rfl dX0_far_0 ?_
  refine v_iconst C.1.1 0 (by decide) dX0_far_1 ?_
  refine v_aload_n C.1.1 0 rfl rfl dX0_far_2 ?_
  refine v_iload_n C.1.1 1 rfl rfl dX0_far_3 ?_
  refine v_iload_n C.1.1 2 rfl rfl dX0_far_4 ?_
  refine v_chk (fun h3 => ?_)
  refine v_callVC C.1 [.int p1, .int p2] [.int 0, .ref p3] (ctX1_far t G l hl0 p0 p1 p2 u) (fun _ _ => cwX1_far C.1 q1573 (by decide)) (recO C.1 (ci := 0) (eq_of_beq h3) (by decide) rfl) rfl rfl (by exact Nat.le_of_ble_eq_true rfl) dX0_far_5 (fun r2 u1 => ?_) (kcase0 (i0 := 15) C (by decide) (by decide) q1310 q1329 (fun q4 u5 => ?_) kend)
  · refine v_i2l C.1.1 dX0_far_8 ?_
    refine v_chk (fun h5 => ?_)
    refine v_hlast C.1 h5 dX0_far_9 (fun u4 => ?_)
    refine v_goto C.1.1 17 (by decide) dX0_far_10 ?_
    refine v_iconst C.1.1 0 (by decide) dX0_far_17 ?_
    exact v_hiret C.1 dX0_far_18
  · refine v_astore C.1.1 [(4, .ref q4), (0, .ref p0), (1, .int p1), (2, .int p2), (3, .ref p3)] (by decide) rfl dX0_far_13 ?_
    refine v_iconst C.1.1 1 (by decide) dX0_far_15 ?_
    exact v_hiret C.1 dX0_far_16
theorem cwX0_far {t : TT} {G : GH} {l : Launch} {p : Program} {s : State} {m : MethodId} {args : Array Value} {meth : Method} {c : Code} {y0 : MethodName} {cc0 : ByteArray} {nL0 : Nat} {ret0 : Option FieldType} (C : CxH t G l p s m args meth c y0 cc0 nL0 ret0) {index lv mc ms K1 K2 : Nat} (hq : Cond.methodLink y0.cls index yX0_far ∈ lw_all) (hR : 11 + 1 ≤ lv) : vx_CSW (rmH lv K1 K2) s args y0.cls index yX0_far cX0_far 5 (some .int) [(0, 10, 13, 18)] (wsW_ yX0_far cX0_far 5 (some .int) [(0, 10, 13, 18)]) (rmH 11 mc ms) mc ms 4 :=
  vx_cwSW 4 C.1.2.2.2.2.1 (lw_SW hq q1571 q120 q1572) rfl rfl rfl (by decide +kernel) ⟨hR, by show 8 + (5 + 11) + 100 * 11 ≤ 100 * lv; omega⟩
def hX0_refuge (p0 : Nat) (p1 : Int32) (p2 : Nat) (u : HS) : Option (OH Int32) :=
  mchk (hC u p0 == 1) <|
  hc (hX1_refuge p0 p1 u) (fun r2 u1 =>
    mchk (inA u1 0 p2 24) <|
    mlet (uJ u1 p2 (0 : Int32).toNatClampNeg (Int32.toInt64 r2)) fun u4 =>
    hret 0 u4)
    (hcase 15 (fun q4 u5 =>
       hret 1 u5) <|
     hend)
theorem ctX0_refuge (t : TT) (G : GH) (l : Launch) (hl0 : l.stackTraces = false) (p0 : Nat) (p1 : Int32) (p2 : Nat) (u : HS) : CtW mkI t G l yX0_refuge cX0_refuge 4 (some .int) [(0, 9, 12, 18)] 11 [.ref p0, .int p1, .ref p2] u (hX0_refuge p0 p1 p2 u) := by
  refine ctW_of [(0, .ref p0), (1, .int p1), (2, .ref p2)] hl0 rfl (Nat.le_of_ble_eq_true rfl) rfl (fun K1 K2 p e s m args below meth c C => ?_)
  unfold hX0_refuge
  refine v_aload_n C.1.1 2 rfl rfl dX0_refuge_0 ?_
  refine v_iconst C.1.1 0 (by decide) dX0_refuge_1 ?_
  refine v_aload_n C.1.1 0 rfl rfl dX0_refuge_2 ?_
  refine v_iload_n C.1.1 1 rfl rfl dX0_refuge_3 ?_
  refine v_chk (fun h3 => ?_)
  refine v_callVC C.1 [.int p1] [.int 0, .ref p2] (ctX1_refuge t G l hl0 p0 p1 u) (fun _ _ => cwX1_refuge C.1 q1580 (by decide)) (recO C.1 (ci := 0) (eq_of_beq h3) (by decide) rfl) rfl rfl (by exact Nat.le_of_ble_eq_true rfl) dX0_refuge_4 (fun r2 u1 => ?_) (kcase0 (i0 := 15) C (by decide) (by decide) q1310 q1329 (fun q4 u5 => ?_) kend)
  · refine v_i2l C.1.1 dX0_refuge_7 ?_
    refine v_chk (fun h5 => ?_)
    refine v_hlast C.1 h5 dX0_refuge_8 (fun u4 => ?_)
    refine v_goto C.1.1 15 (by decide) dX0_refuge_9 ?_
    refine v_iconst C.1.1 0 (by decide) dX0_refuge_15 ?_
    exact v_hiret C.1 dX0_refuge_16
  · refine v_astore_n C.1.1 [(3, .ref q4), (0, .ref p0), (1, .int p1), (2, .ref p2)] rfl (by decide) rfl dX0_refuge_12 ?_
    refine v_iconst C.1.1 1 (by decide) dX0_refuge_13 ?_
    exact v_hiret C.1 dX0_refuge_14
theorem cwX0_refuge {t : TT} {G : GH} {l : Launch} {p : Program} {s : State} {m : MethodId} {args : Array Value} {meth : Method} {c : Code} {y0 : MethodName} {cc0 : ByteArray} {nL0 : Nat} {ret0 : Option FieldType} (C : CxH t G l p s m args meth c y0 cc0 nL0 ret0) {index lv mc ms K1 K2 : Nat} (hq : Cond.methodLink y0.cls index yX0_refuge ∈ lw_all) (hR : 11 + 1 ≤ lv) : vx_CSW (rmH lv K1 K2) s args y0.cls index yX0_refuge cX0_refuge 4 (some .int) [(0, 9, 12, 18)] (wsW_ yX0_refuge cX0_refuge 4 (some .int) [(0, 9, 12, 18)]) (rmH 11 mc ms) mc ms 3 :=
  vx_cwSW 3 C.1.2.2.2.2.1 (lw_SW hq q1578 q120 q1579) rfl rfl rfl (by decide +kernel) ⟨hR, by show 8 + (4 + 11) + 100 * 11 ≤ 100 * lv; omega⟩
def hX0_worst (p0 : Nat) (p1 : Int32) (p2 : Nat) (u : HS) : Option (OH Int32) :=
  mchk (hC u p0 == 1) <|
  hc (hX1_worst p0 p1 u) (fun r2 u1 =>
    mchk (inA u1 0 p2 24) <|
    mlet (uJ u1 p2 (0 : Int32).toNatClampNeg (Int32.toInt64 r2)) fun u4 =>
    hret 0 u4)
    (hcase 15 (fun q4 u5 =>
       hret 1 u5) <|
     hend)
theorem ctX0_worst (t : TT) (G : GH) (l : Launch) (hl0 : l.stackTraces = false) (p0 : Nat) (p1 : Int32) (p2 : Nat) (u : HS) : CtW mkI t G l yX0_worst cX0_worst 4 (some .int) [(0, 9, 12, 18)] 424 [.ref p0, .int p1, .ref p2] u (hX0_worst p0 p1 p2 u) := by
  refine ctW_of [(0, .ref p0), (1, .int p1), (2, .ref p2)] hl0 rfl (Nat.le_of_ble_eq_true rfl) rfl (fun K1 K2 p e s m args below meth c C => ?_)
  unfold hX0_worst
  refine v_aload_n C.1.1 2 rfl rfl dX0_worst_0 ?_
  refine v_iconst C.1.1 0 (by decide) dX0_worst_1 ?_
  refine v_aload_n C.1.1 0 rfl rfl dX0_worst_2 ?_
  refine v_iload_n C.1.1 1 rfl rfl dX0_worst_3 ?_
  refine v_chk (fun h3 => ?_)
  refine v_callVC C.1 [.int p1] [.int 0, .ref p2] (ctX1_worst t G l hl0 p0 p1 u) (fun _ _ => cwX1_worst C.1 q1591 (by decide)) (recO C.1 (ci := 0) (eq_of_beq h3) (by decide) rfl) rfl rfl (by exact Nat.le_of_ble_eq_true rfl) dX0_worst_4 (fun r2 u1 => ?_) (kcase0 (i0 := 15) C (by decide) (by decide) q1310 q1329 (fun q4 u5 => ?_) kend)
  · refine v_i2l C.1.1 dX0_worst_7 ?_
    refine v_chk (fun h5 => ?_)
    refine v_hlast C.1 h5 dX0_worst_8 (fun u4 => ?_)
    refine v_goto C.1.1 15 (by decide) dX0_worst_9 ?_
    refine v_iconst C.1.1 0 (by decide) dX0_worst_15 ?_
    exact v_hiret C.1 dX0_worst_16
  · refine v_astore_n C.1.1 [(3, .ref q4), (0, .ref p0), (1, .int p1), (2, .ref p2)] rfl (by decide) rfl dX0_worst_12 ?_
    refine v_iconst C.1.1 1 (by decide) dX0_worst_13 ?_
    exact v_hiret C.1 dX0_worst_14
theorem cwX0_worst {t : TT} {G : GH} {l : Launch} {p : Program} {s : State} {m : MethodId} {args : Array Value} {meth : Method} {c : Code} {y0 : MethodName} {cc0 : ByteArray} {nL0 : Nat} {ret0 : Option FieldType} (C : CxH t G l p s m args meth c y0 cc0 nL0 ret0) {index lv mc ms K1 K2 : Nat} (hq : Cond.methodLink y0.cls index yX0_worst ∈ lw_all) (hR : 424 + 1 ≤ lv) : vx_CSW (rmH lv K1 K2) s args y0.cls index yX0_worst cX0_worst 4 (some .int) [(0, 9, 12, 18)] (wsW_ yX0_worst cX0_worst 4 (some .int) [(0, 9, 12, 18)]) (rmH 424 mc ms) mc ms 3 :=
  vx_cwSW 3 C.1.2.2.2.2.1 (lw_SW hq q1589 q120 q1590) rfl rfl rfl (by decide +kernel) ⟨hR, by show 8 + (4 + 11) + 100 * 424 ≤ 100 * lv; omega⟩
def hX0_stay (p0 : Nat) (p1 : Int32) (p2 : Int32) (p3 : Nat) (u : HS) : Option (OH Int32) :=
  mchk (hC u p0 == 1) <|
  hc (hX1_stay p0 p1 p2 u) (fun r2 u1 =>
    mchk (inA u1 0 p3 24) <|
    mlet (uJ u1 p3 (0 : Int32).toNatClampNeg (Int32.toInt64 r2)) fun u4 =>
    hret 0 u4)
    (hcase 15 (fun q4 u5 =>
       hret 1 u5) <|
     hend)
theorem ctX0_stay (t : TT) (G : GH) (l : Launch) (hl0 : l.stackTraces = false) (p0 : Nat) (p1 : Int32) (p2 : Int32) (p3 : Nat) (u : HS) : CtW mkI t G l yX0_stay cX0_stay 5 (some .int) [(0, 10, 13, 18)] 426 [.ref p0, .int p1, .int p2, .ref p3] u (hX0_stay p0 p1 p2 p3 u) := by
  refine ctW_of [(0, .ref p0), (1, .int p1), (2, .int p2), (3, .ref p3)] hl0 rfl (Nat.le_of_ble_eq_true rfl) rfl (fun K1 K2 p e s m args below meth c C => ?_)
  unfold hX0_stay
  refine v_aload_n C.1.1 3 rfl rfl dX0_stay_0 ?_
  refine v_iconst C.1.1 0 (by decide) dX0_stay_1 ?_
  refine v_aload_n C.1.1 0 rfl rfl dX0_stay_2 ?_
  refine v_iload_n C.1.1 1 rfl rfl dX0_stay_3 ?_
  refine v_iload_n C.1.1 2 rfl rfl dX0_stay_4 ?_
  refine v_chk (fun h3 => ?_)
  refine v_callVC C.1 [.int p1, .int p2] [.int 0, .ref p3] (ctX1_stay t G l hl0 p0 p1 p2 u) (fun _ _ => cwX1_stay C.1 q1598 (by decide)) (recO C.1 (ci := 0) (eq_of_beq h3) (by decide) rfl) rfl rfl (by exact Nat.le_of_ble_eq_true rfl) dX0_stay_5 (fun r2 u1 => ?_) (kcase0 (i0 := 15) C (by decide) (by decide) q1310 q1329 (fun q4 u5 => ?_) kend)
  · refine v_i2l C.1.1 dX0_stay_8 ?_
    refine v_chk (fun h5 => ?_)
    refine v_hlast C.1 h5 dX0_stay_9 (fun u4 => ?_)
    refine v_goto C.1.1 17 (by decide) dX0_stay_10 ?_
    refine v_iconst C.1.1 0 (by decide) dX0_stay_17 ?_
    exact v_hiret C.1 dX0_stay_18
  · refine v_astore C.1.1 [(4, .ref q4), (0, .ref p0), (1, .int p1), (2, .int p2), (3, .ref p3)] (by decide) rfl dX0_stay_13 ?_
    refine v_iconst C.1.1 1 (by decide) dX0_stay_15 ?_
    exact v_hiret C.1 dX0_stay_16
theorem cwX0_stay {t : TT} {G : GH} {l : Launch} {p : Program} {s : State} {m : MethodId} {args : Array Value} {meth : Method} {c : Code} {y0 : MethodName} {cc0 : ByteArray} {nL0 : Nat} {ret0 : Option FieldType} (C : CxH t G l p s m args meth c y0 cc0 nL0 ret0) {index lv mc ms K1 K2 : Nat} (hq : Cond.methodLink y0.cls index yX0_stay ∈ lw_all) (hR : 426 + 1 ≤ lv) : vx_CSW (rmH lv K1 K2) s args y0.cls index yX0_stay cX0_stay 5 (some .int) [(0, 10, 13, 18)] (wsW_ yX0_stay cX0_stay 5 (some .int) [(0, 10, 13, 18)]) (rmH 426 mc ms) mc ms 4 :=
  vx_cwSW 4 C.1.2.2.2.2.1 (lw_SW hq q1596 q120 q1597) rfl rfl rfl (by decide +kernel) ⟨hR, by show 8 + (5 + 11) + 100 * 426 ≤ 100 * lv; omega⟩
def hX0_steps (p0 : Nat) (p1 : Int32) (p2 : Int32) (p3 : Nat) (u : HS) : Option (OH Int32) :=
  mchk (hC u p0 == 1) <|
  hc (hX1_steps p0 p1 p2 u) (fun r2 u1 =>
    mchk (inA u1 0 p3 24) <|
    mlet (uJ u1 p3 (0 : Int32).toNatClampNeg (Int32.toInt64 r2)) fun u4 =>
    hret 0 u4)
    (hcase 15 (fun q4 u5 =>
       hret 1 u5) <|
     hend)
theorem ctX0_steps (t : TT) (G : GH) (l : Launch) (hl0 : l.stackTraces = false) (p0 : Nat) (p1 : Int32) (p2 : Int32) (p3 : Nat) (u : HS) : CtW mkI t G l yX0_steps cX0_steps 5 (some .int) [(0, 10, 13, 18)] 11 [.ref p0, .int p1, .int p2, .ref p3] u (hX0_steps p0 p1 p2 p3 u) := by
  refine ctW_of [(0, .ref p0), (1, .int p1), (2, .int p2), (3, .ref p3)] hl0 rfl (Nat.le_of_ble_eq_true rfl) rfl (fun K1 K2 p e s m args below meth c C => ?_)
  unfold hX0_steps
  refine v_aload_n C.1.1 3 rfl rfl dX0_steps_0 ?_
  refine v_iconst C.1.1 0 (by decide) dX0_steps_1 ?_
  refine v_aload_n C.1.1 0 rfl rfl dX0_steps_2 ?_
  refine v_iload_n C.1.1 1 rfl rfl dX0_steps_3 ?_
  refine v_iload_n C.1.1 2 rfl rfl dX0_steps_4 ?_
  refine v_chk (fun h3 => ?_)
  refine v_callVC C.1 [.int p1, .int p2] [.int 0, .ref p3] (ctX1_steps t G l hl0 p0 p1 p2 u) (fun _ _ => cwX1_steps C.1 q1605 (by decide)) (recO C.1 (ci := 0) (eq_of_beq h3) (by decide) rfl) rfl rfl (by exact Nat.le_of_ble_eq_true rfl) dX0_steps_5 (fun r2 u1 => ?_) (kcase0 (i0 := 15) C (by decide) (by decide) q1310 q1329 (fun q4 u5 => ?_) kend)
  · refine v_i2l C.1.1 dX0_steps_8 ?_
    refine v_chk (fun h5 => ?_)
    refine v_hlast C.1 h5 dX0_steps_9 (fun u4 => ?_)
    refine v_goto C.1.1 17 (by decide) dX0_steps_10 ?_
    refine v_iconst C.1.1 0 (by decide) dX0_steps_17 ?_
    exact v_hiret C.1 dX0_steps_18
  · refine v_astore C.1.1 [(4, .ref q4), (0, .ref p0), (1, .int p1), (2, .int p2), (3, .ref p3)] (by decide) rfl dX0_steps_13 ?_
    refine v_iconst C.1.1 1 (by decide) dX0_steps_15 ?_
    exact v_hiret C.1 dX0_steps_16
theorem cwX0_steps {t : TT} {G : GH} {l : Launch} {p : Program} {s : State} {m : MethodId} {args : Array Value} {meth : Method} {c : Code} {y0 : MethodName} {cc0 : ByteArray} {nL0 : Nat} {ret0 : Option FieldType} (C : CxH t G l p s m args meth c y0 cc0 nL0 ret0) {index lv mc ms K1 K2 : Nat} (hq : Cond.methodLink y0.cls index yX0_steps ∈ lw_all) (hR : 11 + 1 ≤ lv) : vx_CSW (rmH lv K1 K2) s args y0.cls index yX0_steps cX0_steps 5 (some .int) [(0, 10, 13, 18)] (wsW_ yX0_steps cX0_steps 5 (some .int) [(0, 10, 13, 18)]) (rmH 11 mc ms) mc ms 4 :=
  vx_cwSW 4 C.1.2.2.2.2.1 (lw_SW hq q1603 q120 q1604) rfl rfl rfl (by decide +kernel) ⟨hR, by show 8 + (5 + 11) + 100 * 11 ≤ 100 * lv; omega⟩
end
