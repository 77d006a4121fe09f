/-! walks in mode H, printed by tools/genh.py -/
set_option maxRecDepth 100000
section
variable {t : TT} {G : GH} {l : Launch}
def hX1_when (p0 : Nat) (p1 : Int32) (p2 : Int32) (u : HS) : Option (OH (PX Int32)) :=
  mchk (hC u p0 == 1) <|
  hx (hX1_aPerson p0 p1 u) fun _ u1 =>
  hx (hX1_oneOf p2 1 u1) fun _ u3 =>
  mchk (hC u3 p0 == 1) <|
  hb (hX1_later p0 30 u3) fun r5 u4 =>
  if p2 = 0 then
    mchk (hC u4 r5 == 3) <|
    mderef (hR u4 r5 0) fun a8 =>
    mchk (inA u4 p1 a8 21) <|
    hret (.inl (hA u4 a8 p1.toNatClampNeg)) u4
  else
    mchk (hC u4 r5 == 3) <|
    mderef (hR u4 r5 1) fun a8 =>
    mchk (inA u4 p1 a8 21) <|
    hret (.inl (hA u4 a8 p1.toNatClampNeg)) u4
theorem ctX1_when (t : TT) (G : GH) (l : Launch) (hl0 : l.stackTraces = false) (p0 : Nat) (p1 : Int32) (p2 : Int32) (u : HS) : CtX mkI t G l yX1_when cX1_when 4 (some .int) 425 [.ref p0, .int p1, .int p2] u (hX1_when p0 p1 p2 u) := by
  refine ctX_of [(0, .ref p0), (1, .int p1), (2, .int p2)] hl0 rfl (Nat.le_of_ble_eq_true rfl) rfl (fun K1 K2 p e s m args below meth c C => ?_)
  unfold hX1_when
  refine v_aload_n C.1.1 0 rfl rfl dX1_when_0 ?_
  refine v_iload_n C.1.1 1 rfl rfl dX1_when_1 ?_
  refine v_chk (fun h2 => ?_)
  refine v_callVX C [.int p1] [] (ctX1_aPerson t G l hl0 p0 p1 u) (fun _ _ => cwX1_aPerson C.1 q1380 (by decide)) (recO C.1 (ci := 0) (eq_of_beq h2) (by decide) rfl) rfl rfl (by exact Nat.le_of_ble_eq_true rfl) dX1_when_2 (fun _ u1 => ?_)
  refine v_iload_n C.1.1 2 rfl rfl dX1_when_5 ?_
  refine v_iconst C.1.1 1 (by decide) dX1_when_6 ?_
  refine v_callSX C [.int p2, .int 1] [] (ctX1_oneOf t G l hl0 p2 1 u1) (fun _ _ => cwX1_oneOf C.1 q1353 (by decide)) rfl rfl (by exact Nat.le_of_ble_eq_true rfl) dX1_when_7 (fun _ u3 => ?_)
  refine v_aload_n C.1.1 0 rfl rfl dX1_when_10 ?_
  refine v_bipush C.1.1 30 (by decide) dX1_when_11 ?_
  refine v_chk (fun h6 => ?_)
  refine v_callVH C.1 [.int 30] [] (ctX1_later t G l hl0 p0 30 u3) (fun _ _ => cwX1_later C.1 q704 (by decide)) (recO C.1 (ci := 0) (eq_of_beq h6) (by decide) rfl) rfl rfl (by exact Nat.le_of_ble_eq_true rfl) dX1_when_13 (fun r5 u4 => ?_)
  refine v_astore_n C.1.1 [(3, .ref r5), (0, .ref p0), (1, .int p1), (2, .int p2)] rfl (by decide) rfl dX1_when_16 ?_
  refine v_iload_n C.1.1 3 rfl rfl dX1_when_17 ?_
  refine v_if_ne C.1.1 30 (by decide) dX1_when_18 (fun _ => ?_) (fun _ => ?_)
  · refine v_aload_n C.1.1 0 rfl rfl dX1_when_21 ?_
    refine v_chk (fun h7 => ?_)
    refine v_hget C.1 (v := va_rf (hR u4 r5 0)) 2 0 (eq_of_beq h7) (by decide) rfl in_X3 (by decide) (Or.inr ⟨_, q255⟩) (fun _ h => h) (hF_r (ci := 2) (eq_of_beq h7) (by decide)) dX1_when_22 ?_
    refine v_deref (fun a8 e9 => ?_)
    refine v_iload_n C.1.1 2 rfl rfl dX1_when_25 ?_
    refine v_chk (fun h10 => ?_)
    refine v_haiald C.1 h10 dX1_when_26 ?_
    refine v_goto C.1.1 36 (by decide) dX1_when_27 ?_
    exact v_xiret C.1 dX1_when_36
  · refine v_aload_n C.1.1 0 rfl rfl dX1_when_30 ?_
    refine v_chk (fun h7 => ?_)
    refine v_hget C.1 (v := va_rf (hR u4 r5 1)) 2 1 (eq_of_beq h7) (by decide) rfl in_X3 (by decide) (Or.inr ⟨_, q257⟩) (fun _ h => h) (hF_r (ci := 2) (eq_of_beq h7) (by decide)) dX1_when_31 ?_
    refine v_deref (fun a8 e9 => ?_)
    refine v_iload_n C.1.1 2 rfl rfl dX1_when_34 ?_
    refine v_chk (fun h10 => ?_)
    refine v_haiald C.1 h10 dX1_when_35 ?_
    exact v_xiret C.1 dX1_when_36
theorem cwX1_when {t : TT} {G : GH} {l : Launch} {p : Program} {s : State} {m : MethodId} {args : Array Value} {meth : Method} {c : Code} {y0 : MethodName} {cc0 : ByteArray} {nL0 : Nat} {ret0 : Option FieldType} (C : CxH t G l p s m args meth c y0 cc0 nL0 ret0) {index lv mc ms K1 K2 : Nat} (hq : Cond.methodLink y0.cls index yX1_when ∈ lw_all) (hR : 425 + 1 ≤ lv) : CallW (rmH lv K1 K2) s args y0.cls RX1 index yX1_when cX1_when 4 (some .int) (ws_ yX1_when cX1_when 4 (some .int)) (rmH 425 mc ms) mc ms 2 :=
  cwV 2 C.1.2.2.2.2.1 (lw_V hq q1421 q1422 q121 q1423) rfl rfl rfl (by decide +kernel) ⟨hR, by show 8 + (4 + 11) + 100 * 425 ≤ 100 * lv; omega⟩
def hX1_found_2_39 (p0 : Nat) (p1 : Int32) (k : Nat → Int32 → Int32 → HS → Option (OH (PX Int32))) (x2 : Nat) (x3 : Int32) (x4 : Int32) (u : HS) : Option (OH (PX Int32)) :=
  if x3 ≤ x4 then
    hret (.inl (-1)) u
  else
    mchk (hC u x2 == 3) <|
    hb (hX3_morning x2 u) fun r2 u1 =>
    mchk (hC u1 r2 == 3) <|
    hb (hX1_isOf (hI u1 r2 7) p1 u1) fun r6 u5 =>
    if r6 = 0 then
      k x2 x3 (x4 + 1) u5
    else
      mchk (hC u5 x2 == 3) <|
      hret (.inl ((hI u5 x2 6) - 1)) u5
theorem whX1_found_2_39 {K1 K2 : Nat} {p : Program} {e : Env} {s : State} {m : MethodId} {args : Array Value} {below : List Frame} {meth : Method} {c : Code} (hl0 : l.stackTraces = false) (C : CxX t G l p s m args meth c yX1_found_2 cX1_found_2 5 (some .int)) (p0 : Nat) (p1 : Int32) (n : Nat) (x2 : Nat) (x3 : Int32) (x4 : Int32) (u : HS) : VX mkI t G p l e 423 K1 K2 s m args below meth c 5 39 [(1, .int p1), (2, .ref x2), (3, .int x3), (4, .int x4)] [] u (ml3 (hX1_found_2_39 p0 p1) n x2 x3 x4 u) := by
  refine vl3 (L := fun x2 x3 x4 => [(1, .int p1), (2, .ref x2), (3, .int x3), (4, .int x4)]) (fun k hk x2 x3 x4 u => ?_) n x2 x3 x4 u
  unfold hX1_found_2_39
  refine v_iload C.1.1 3 rfl dX1_found_2_39 ?_
  refine v_iload_n C.1.1 2 rfl rfl dX1_found_2_41 ?_
  refine v_icmp_ge C.1.1 72 (by decide) dX1_found_2_42 (fun _ => ?_) (fun _ => ?_)
  · refine v_iconst C.1.1 (-1) (by decide) dX1_found_2_72 ?_
    exact v_xiret C.1 dX1_found_2_73
  · refine v_aload_n C.1.1 1 rfl rfl dX1_found_2_45 ?_
    refine v_chk (fun h3 => ?_)
    refine v_callVH C.1 [] [] (ctX3_morning t G l hl0 x2 u) (fun _ _ => cwX3_morning C.1 q695 (by decide)) (recO C.1 (ci := 2) (eq_of_beq h3) (by decide) rfl) rfl rfl (by exact Nat.le_of_ble_eq_true rfl) dX1_found_2_46 (fun r2 u1 => ?_)
    refine v_chk (fun h4 => ?_)
    refine v_hget C.1 (v := .int (hI u1 r2 7)) 2 7 (eq_of_beq h4) (by decide) rfl in_X3 (by decide) (Or.inr ⟨_, q271⟩) (fun _ h => h) (hF_i (ci := 2) (eq_of_beq h4) (by decide)) dX1_found_2_49 ?_
    refine v_iload_n C.1.1 0 rfl rfl dX1_found_2_52 ?_
    refine v_callSH C.1 [.int (hI u1 r2 7), .int p1] [] (ctX1_isOf t G l hl0 (hI u1 r2 7) p1 u1) (fun _ _ => cwX1_isOf C.1 q1323 (by decide)) rfl rfl (by exact Nat.le_of_ble_eq_true rfl) dX1_found_2_53 (fun r6 u5 => ?_)
    refine v_if_eq C.1.1 66 (by decide) dX1_found_2_56 (fun _ => ?_) (fun _ => ?_)
    · refine v_iinc C.1.1 1 [(4, .int (x4 + 1)), (1, .int p1), (2, .ref x2), (3, .int x3)] 3 rfl (by decide) (by decide) rfl dX1_found_2_66 ?_
      refine v_goto C.1.1 39 (by decide) dX1_found_2_69 ?_
      refine v_sub [1, 2, 3, 0] rfl ?_
      exact hk x2 x3 (x4 + 1) u5
    · refine v_aload_n C.1.1 1 rfl rfl dX1_found_2_59 ?_
      refine v_chk (fun h7 => ?_)
      refine v_hget C.1 (v := .int (hI u5 x2 6)) 2 6 (eq_of_beq h7) (by decide) rfl in_X3 (by decide) (Or.inr ⟨_, q269⟩) (fun _ h => h) (hF_i (ci := 2) (eq_of_beq h7) (by decide)) dX1_found_2_60 ?_
      refine v_iconst C.1.1 1 (by decide) dX1_found_2_63 ?_
      refine v_isub C.1.1 dX1_found_2_64 ?_
      exact v_xiret C.1 dX1_found_2_65
def hX1_found_2 (p0 : Nat) (p1 : Int32) (u : HS) : Option (OH (PX Int32)) :=
  mchk (hC u p0 == 1) <|
  hx (hX1_aPerson p0 p1 u) fun _ u1 =>
  mchk (hC u1 p0 == 1) <|
  mderef (hR u1 p0 3) fun a4 =>
  mchk (hC u1 a4 == 3) <|
  hb (hX1_isOf (hI u1 a4 7) p1 u1) fun r8 u7 =>
  if r8 = 0 then
    mchk (hC u7 p0 == 1) <|
    mderef (hR u7 p0 3) fun a10 =>
    mchk (hC u7 a10 == 3) <|
    hb (hX3_copy a10 u7) fun r13 u12 =>
    mchk (hC u12 r13 == 3) <|
    hb (hX3_ahead r13 30 u12) fun r16 u15 =>
    ml3 (hX1_found_2_39 p0 p1) FUEL r13 r16 0 u15
  else
    hret (.inl (-1)) u7
theorem ctX1_found_2 (t : TT) (G : GH) (l : Launch) (hl0 : l.stackTraces = false) (p0 : Nat) (p1 : Int32) (u : HS) : CtX mkI t G l yX1_found_2 cX1_found_2 5 (some .int) 423 [.ref p0, .int p1] u (hX1_found_2 p0 p1 u) := by
  refine ctX_of [(0, .ref p0), (1, .int p1)] hl0 rfl (Nat.le_of_ble_eq_true rfl) rfl (fun K1 K2 p e s m args below meth c C => ?_)
  unfold hX1_found_2
  refine v_aload_n C.1.1 0 rfl rfl dX1_found_2_0 ?_
  refine v_iload_n C.1.1 1 rfl rfl dX1_found_2_1 ?_
  refine v_chk (fun h2 => ?_)
  refine v_callVX C [.int p1] [] (ctX1_aPerson t G l hl0 p0 p1 u) (fun _ _ => cwX1_aPerson C.1 q1380 (by decide)) (recO C.1 (ci := 0) (eq_of_beq h2) (by decide) rfl) rfl rfl (by exact Nat.le_of_ble_eq_true rfl) dX1_found_2_2 (fun _ u1 => ?_)
  refine v_aload_n C.1.1 0 rfl rfl dX1_found_2_5 ?_
  refine v_chk (fun h3 => ?_)
  refine v_hget C.1 (v := va_rf (hR u1 p0 3)) 0 3 (eq_of_beq h3) (by decide) rfl in_X1 (by decide) (Or.inl q312) (fun _ h => h) (hF_r (ci := 0) (eq_of_beq h3) (by decide)) dX1_found_2_6 ?_
  refine v_deref (fun a4 e5 => ?_)
  refine v_chk (fun h6 => ?_)
  refine v_hget C.1 (v := .int (hI u1 a4 7)) 2 7 (eq_of_beq h6) (by decide) rfl in_X3 (by decide) (Or.inr ⟨_, q271⟩) (fun _ h => h) (hF_i (ci := 2) (eq_of_beq h6) (by decide)) dX1_found_2_9 ?_
  refine v_iload_n C.1.1 1 rfl rfl dX1_found_2_12 ?_
  refine v_callSH C.1 [.int (hI u1 a4 7), .int p1] [] (ctX1_isOf t G l hl0 (hI u1 a4 7) p1 u1) (fun _ _ => cwX1_isOf C.1 q1323 (by decide)) rfl rfl (by exact Nat.le_of_ble_eq_true rfl) dX1_found_2_13 (fun r8 u7 => ?_)
  refine v_if_eq C.1.1 21 (by decide) dX1_found_2_16 (fun _ => ?_) (fun _ => ?_)
  · refine v_aload_n C.1.1 0 rfl rfl dX1_found_2_21 ?_
    refine v_chk (fun h9 => ?_)
    refine v_hget C.1 (v := va_rf (hR u7 p0 3)) 0 3 (eq_of_beq h9) (by decide) rfl in_X1 (by decide) (Or.inl q312) (fun _ h => h) (hF_r (ci := 0) (eq_of_beq h9) (by decide)) dX1_found_2_22 ?_
    refine v_deref (fun a10 e11 => ?_)
    refine v_chk (fun h14 => ?_)
    refine v_callVH C.1 [] [] (ctX3_copy t G l hl0 a10 u7) (fun _ _ => cwX3_copy C.1 q377 (by decide)) (recO C.1 (ci := 2) (eq_of_beq h14) (by decide) rfl) rfl rfl (by exact Nat.le_of_ble_eq_true rfl) dX1_found_2_25 (fun r13 u12 => ?_)
    refine v_astore_n C.1.1 [(2, .ref r13), (0, .ref p0), (1, .int p1)] rfl (by decide) rfl dX1_found_2_28 ?_
    refine v_aload_n C.1.1 0 rfl rfl dX1_found_2_29 ?_
    refine v_bipush C.1.1 30 (by decide) dX1_found_2_30 ?_
    refine v_chk (fun h17 => ?_)
    refine v_callVH C.1 [.int 30] [] (ctX3_ahead t G l hl0 r13 30 u12) (fun _ _ => cwX3_ahead C.1 q694 (by decide)) (recO C.1 (ci := 2) (eq_of_beq h17) (by decide) rfl) rfl rfl (by exact Nat.le_of_ble_eq_true rfl) dX1_found_2_32 (fun r16 u15 => ?_)
    refine v_istore_n C.1.1 [(3, .int r16), (2, .ref r13), (0, .ref p0), (1, .int p1)] rfl (by decide) rfl dX1_found_2_35 ?_
    refine v_iconst C.1.1 0 (by decide) dX1_found_2_36 ?_
    refine v_istore C.1.1 [(4, .int 0), (3, .int r16), (2, .ref r13), (0, .ref p0), (1, .int p1)] (by decide) rfl dX1_found_2_37 ?_
    refine v_sub [4, 2, 1, 0] rfl ?_
    exact whX1_found_2_39 hl0 C p0 p1 FUEL r13 r16 0 u15
  · refine v_iconst C.1.1 (-1) (by decide) dX1_found_2_19 ?_
    exact v_xiret C.1 dX1_found_2_20
theorem cwX1_found_2 {t : TT} {G : GH} {l : Launch} {p : Program} {s : State} {m : MethodId} {args : Array Value} {meth : Method} {c : Code} {y0 : MethodName} {cc0 : ByteArray} {nL0 : Nat} {ret0 : Option FieldType} (C : CxH t G l p s m args meth c y0 cc0 nL0 ret0) {index lv mc ms K1 K2 : Nat} (hq : Cond.methodLink y0.cls index yX1_found_2 ∈ lw_all) (hR : 423 + 1 ≤ lv) : CallW (rmH lv K1 K2) s args y0.cls RX1 index yX1_found_2 cX1_found_2 5 (some .int) (ws_ yX1_found_2 cX1_found_2 5 (some .int)) (rmH 423 mc ms) mc ms 1 :=
  cwV 1 C.1.2.2.2.2.1 (lw_V hq q1428 q1429 q121 q1430) rfl rfl rfl (by decide +kernel) ⟨hR, by show 8 + (5 + 11) + 100 * 423 ≤ 100 * lv; omega⟩
def hX1_next_9 (p0 : Nat) (p1 : Int32) (s0 : Int32) (u : HS) : Option (OH (PX Int32)) :=
  hx (hX1_right s0 u) fun _ u1 =>
  mchk (hC u1 p0 == 1) <|
  hb (hX1_later p0 30 u1) fun r3 u2 =>
  mchk (hC u2 r3 == 3) <|
  mderef (hR u2 r3 5) fun a6 =>
  mchk (hC u2 a6 == 12) <|
  hb (hJ2_size a6 u2) fun r9 u8 =>
  if r9 ≤ p1 then
    hret (.inl (-1)) u8
  else
    mchk (hC u8 a6 == 12) <|
    hb (hJ2_get a6 p1 u8) fun r12 u11 =>
    mchk (hC u11 r12 == 31) <|
    mchk (hC u11 r12 == 31) <|
    hb (hJ16_intValue r12 u11) fun r16 u15 =>
    hret (.inl r16) u15
theorem whX1_next_9 {K1 K2 : Nat} {p : Program} {e : Env} {s : State} {m : MethodId} {args : Array Value} {below : List Frame} {meth : Method} {c : Code} (hl0 : l.stackTraces = false) (C : CxX t G l p s m args meth c yX1_next cX1_next 3 (some .int)) (p0 : Nat) (p1 : Int32) (s0 : Int32) (u : HS) : VX mkI t G p l e 425 K1 K2 s m args below meth c 3 9 [(0, .ref p0), (1, .int p1)] [.int s0] u (hX1_next_9 p0 p1 s0 u) := by
  unfold hX1_next_9
  refine v_callSX C [.int s0] [] (ctX1_right t G l hl0 s0 u) (fun _ _ => cwX1_right C.1 q760 (by decide)) rfl rfl (by exact Nat.le_of_ble_eq_true rfl) dX1_next_9 (fun _ u1 => ?_)
  refine v_aload_n C.1.1 0 rfl rfl dX1_next_12 ?_
  refine v_bipush C.1.1 30 (by decide) dX1_next_13 ?_
  refine v_chk (fun h4 => ?_)
  refine v_callVH C.1 [.int 30] [] (ctX1_later t G l hl0 p0 30 u1) (fun _ _ => cwX1_later C.1 q704 (by decide)) (recO C.1 (ci := 0) (eq_of_beq h4) (by decide) rfl) rfl rfl (by exact Nat.le_of_ble_eq_true rfl) dX1_next_15 (fun r3 u2 => ?_)
  refine v_chk (fun h5 => ?_)
  refine v_hget C.1 (v := va_rf (hR u2 r3 5)) 2 5 (eq_of_beq h5) (by decide) rfl in_X3 (by decide) (Or.inr ⟨_, q267⟩) (fun _ h => h) (hF_r (ci := 2) (eq_of_beq h5) (by decide)) dX1_next_18 ?_
  refine v_deref (fun a6 e7 => ?_)
  refine v_astore_n C.1.1 [(2, .ref a6), (0, .ref p0), (1, .int p1)] rfl (by decide) rfl dX1_next_21 ?_
  refine v_iload_n C.1.1 2 rfl rfl dX1_next_22 ?_
  refine v_aload_n C.1.1 0 rfl rfl dX1_next_23 ?_
  refine v_chk (fun h10 => ?_)
  refine v_callFH C.1 [] [.int p1] (ctJ2_size t G l hl0 a6 u2) (fun _ _ => cwJ2_sizeF C.1 q453 (by decide)) (eq_of_beq h10) (by decide) rfl rfl rfl (by exact Nat.le_of_ble_eq_true rfl) dX1_next_24 (fun r9 u8 => ?_)
  refine v_icmp_ge C.1.1 48 (by decide) dX1_next_29 (fun _ => ?_) (fun _ => ?_)
  · refine v_iconst C.1.1 (-1) (by decide) dX1_next_48 ?_
    exact v_xiret C.1 dX1_next_49
  · refine v_aload_n C.1.1 0 rfl rfl dX1_next_32 ?_
    refine v_iload_n C.1.1 2 rfl rfl dX1_next_33 ?_
    refine v_chk (fun h13 => ?_)
    refine v_callFH C.1 [.int p1] [] (ctJ2_get t G l hl0 a6 p1 u8) (fun _ _ => cwJ2_getF C.1 q1368 (by decide)) (eq_of_beq h13) (by decide) rfl rfl rfl (by exact Nat.le_of_ble_eq_true rfl) dX1_next_34 (fun r12 u11 => ?_)
    refine v_chk (fun h14 => ?_)
    refine v_hcastB C.1 (eq_of_beq h14) q1369 dX1_next_39 ?_
    refine v_chk (fun h17 => ?_)
    refine v_callVH C.1 [] [] (ctJ16_intValue t G l hl0 r12 u11) (fun _ _ => cwJ16_intValue C.1 q1370 (by decide)) (recB C.1 (eq_of_beq h17)) rfl rfl (by exact Nat.le_of_ble_eq_true rfl) dX1_next_42 (fun r16 u15 => ?_)
    refine v_goto C.1.1 49 (by decide) dX1_next_45 ?_
    exact v_xiret C.1 dX1_next_49
def hX1_next (p0 : Nat) (p1 : Int32) (u : HS) : Option (OH (PX Int32)) :=
  if p1 < 0 then
    hX1_next_9 p0 p1 0 u
  else
    hX1_next_9 p0 p1 1 u
theorem ctX1_next (t : TT) (G : GH) (l : Launch) (hl0 : l.stackTraces = false) (p0 : Nat) (p1 : Int32) (u : HS) : CtX mkI t G l yX1_next cX1_next 3 (some .int) 425 [.ref p0, .int p1] u (hX1_next p0 p1 u) := by
  refine ctX_of [(0, .ref p0), (1, .int p1)] hl0 rfl (Nat.le_of_ble_eq_true rfl) rfl (fun K1 K2 p e s m args below meth c C => ?_)
  unfold hX1_next
  refine v_iload_n C.1.1 1 rfl rfl dX1_next_0 ?_
  refine v_if_lt C.1.1 8 (by decide) dX1_next_1 (fun _ => ?_) (fun _ => ?_)
  · refine v_iconst C.1.1 0 (by decide) dX1_next_8 ?_
    exact whX1_next_9 hl0 C p0 p1 0 u
  · refine v_iconst C.1.1 1 (by decide) dX1_next_4 ?_
    refine v_goto C.1.1 9 (by decide) dX1_next_5 ?_
    exact whX1_next_9 hl0 C p0 p1 1 u
theorem cwX1_next {t : TT} {G : GH} {l : Launch} {p : Program} {s : State} {m : MethodId} {args : Array Value} {meth : Method} {c : Code} {y0 : MethodName} {cc0 : ByteArray} {nL0 : Nat} {ret0 : Option FieldType} (C : CxH t G l p s m args meth c y0 cc0 nL0 ret0) {index lv mc ms K1 K2 : Nat} (hq : Cond.methodLink y0.cls index yX1_next ∈ lw_all) (hR : 425 + 1 ≤ lv) : CallW (rmH lv K1 K2) s args y0.cls RX1 index yX1_next cX1_next 3 (some .int) (ws_ yX1_next cX1_next 3 (some .int)) (rmH 425 mc ms) mc ms 1 :=
  cwV 1 C.1.2.2.2.2.1 (lw_V hq q1435 q1436 q121 q1437) rfl rfl rfl (by decide +kernel) ⟨hR, by show 8 + (3 + 11) + 100 * 425 ≤ 100 * lv; omega⟩
def hX1_owes (p0 : Nat) (p1 : Int32) (p2 : Int32) (u : HS) : Option (OH (PX Int32)) :=
  mchk (hC u p0 == 1) <|
  hx (hX1_aMaster p0 p1 u) fun _ u1 =>
  hb (hX1_in p2 0 30 u1) fun r4 u3 =>
  hx (hX1_right r4 u3) fun _ u5 =>
  mchk (hC u5 p0 == 1) <|
  hb (hX1_later p0 p2 u5) fun r7 u6 =>
  mchk (hC u6 r7 == 3) <|
  mderef (hR u6 r7 3) fun a10 =>
  mchk (inA u6 p1 a10 21) <|
  hret (.inl (hA u6 a10 p1.toNatClampNeg)) u6
theorem ctX1_owes (t : TT) (G : GH) (l : Launch) (hl0 : l.stackTraces = false) (p0 : Nat) (p1 : Int32) (p2 : Int32) (u : HS) : CtX mkI t G l yX1_owes cX1_owes 3 (some .int) 425 [.ref p0, .int p1, .int p2] u (hX1_owes p0 p1 p2 u) := by
  refine ctX_of [(0, .ref p0), (1, .int p1), (2, .int p2)] hl0 rfl (Nat.le_of_ble_eq_true rfl) rfl (fun K1 K2 p e s m args below meth c C => ?_)
  unfold hX1_owes
  refine v_aload_n C.1.1 0 rfl rfl dX1_owes_0 ?_
  refine v_iload_n C.1.1 1 rfl rfl dX1_owes_1 ?_
  refine v_chk (fun h2 => ?_)
  refine v_callVX C [.int p1] [] (ctX1_aMaster t G l hl0 p0 p1 u) (fun _ _ => cwX1_aMaster C.1 q1349 (by decide)) (recO C.1 (ci := 0) (eq_of_beq h2) (by decide) rfl) rfl rfl (by exact Nat.le_of_ble_eq_true rfl) dX1_owes_2 (fun _ u1 => ?_)
  refine v_iload_n C.1.1 2 rfl rfl dX1_owes_5 ?_
  refine v_iconst C.1.1 0 (by decide) dX1_owes_6 ?_
  refine v_bipush C.1.1 30 (by decide) dX1_owes_7 ?_
  refine v_callSH C.1 [.int p2, .int 0, .int 30] [] (ctX1_in t G l hl0 p2 0 30 u1) (fun _ _ => cwX1_in C.1 q366 (by decide)) rfl rfl (by exact Nat.le_of_ble_eq_true rfl) dX1_owes_9 (fun r4 u3 => ?_)
  refine v_callSX C [.int r4] [] (ctX1_right t G l hl0 r4 u3) (fun _ _ => cwX1_right C.1 q760 (by decide)) rfl rfl (by exact Nat.le_of_ble_eq_true rfl) dX1_owes_12 (fun _ u5 => ?_)
  refine v_aload_n C.1.1 0 rfl rfl dX1_owes_15 ?_
  refine v_iload_n C.1.1 2 rfl rfl dX1_owes_16 ?_
  refine v_chk (fun h8 => ?_)
  refine v_callVH C.1 [.int p2] [] (ctX1_later t G l hl0 p0 p2 u5) (fun _ _ => cwX1_later C.1 q704 (by decide)) (recO C.1 (ci := 0) (eq_of_beq h8) (by decide) rfl) rfl rfl (by exact Nat.le_of_ble_eq_true rfl) dX1_owes_17 (fun r7 u6 => ?_)
  refine v_chk (fun h9 => ?_)
  refine v_hget C.1 (v := va_rf (hR u6 r7 3)) 2 3 (eq_of_beq h9) (by decide) rfl in_X3 (by decide) (Or.inr ⟨_, q262⟩) (fun _ h => h) (hF_r (ci := 2) (eq_of_beq h9) (by decide)) dX1_owes_20 ?_
  refine v_deref (fun a10 e11 => ?_)
  refine v_iload_n C.1.1 1 rfl rfl dX1_owes_23 ?_
  refine v_chk (fun h12 => ?_)
  refine v_haiald C.1 h12 dX1_owes_24 ?_
  exact v_xiret C.1 dX1_owes_25
theorem cwX1_owes {t : TT} {G : GH} {l : Launch} {p : Program} {s : State} {m : MethodId} {args : Array Value} {meth : Method} {c : Code} {y0 : MethodName} {cc0 : ByteArray} {nL0 : Nat} {ret0 : Option FieldType} (C : CxH t G l p s m args meth c y0 cc0 nL0 ret0) {index lv mc ms K1 K2 : Nat} (hq : Cond.methodLink y0.cls index yX1_owes ∈ lw_all) (hR : 425 + 1 ≤ lv) : CallW (rmH lv K1 K2) s args y0.cls RX1 index yX1_owes cX1_owes 3 (some .int) (ws_ yX1_owes cX1_owes 3 (some .int)) (rmH 425 mc ms) mc ms 2 :=
  cwV 2 C.1.2.2.2.2.1 (lw_V hq q1442 q1443 q121 q1444) rfl rfl rfl (by decide +kernel) ⟨hR, by show 8 + (3 + 11) + 100 * 425 ≤ 100 * lv; omega⟩
def hJ16_equals (p0 : Nat) (p1 : Nat) (u : HS) : Option (OH Int32) :=
  mchk (hC u p1 == 31) <|
  if (1 : Int32) = 0 then
    hz id 0 u
  else
    mchk (hC u p0 == 31) <|
    mchk (hC u p1 == 31) <|
    mchk (hC u p1 == 31) <|
    hb (hJ16_intValue p1 u) fun r5 u4 =>
    if (hI u p0 0) = r5 then
      hz id 1 u4
    else
      hz id 0 u4
theorem ctJ16_equals (t : TT) (G : GH) (l : Launch) (hl0 : l.stackTraces = false) (p0 : Nat) (p1 : Nat) (u : HS) : CtH mkI t G l yJ16_equals cJ16_equals 2 (some .boolean) 3 [.ref p0, .ref p1] u (hJ16_equals p0 p1 u) := by
  refine ctH_of [(0, .ref p0), (1, .ref p1)] hl0 rfl (Nat.le_of_ble_eq_true rfl) rfl (fun K1 K2 p e s m args below meth c C => ?_)
  unfold hJ16_equals
  refine v_aload_n C.1 1 rfl rfl dJ16_equals_0 ?_
  refine v_chk (fun h1 => ?_)
  refine v_hinstB C (eq_of_beq h1) q618 dJ16_equals_1 ?_
  refine v_if_eq C.1 27 (by decide) dJ16_equals_4 (fun _ => ?_) (fun _ => ?_)
  · refine v_iconst C.1 0 (by decide) dJ16_equals_27 ?_
    exact v_hzret C dJ16_equals_28
  · refine v_aload_n C.1 0 rfl rfl dJ16_equals_7 ?_
    refine v_chk (fun h2 => ?_)
    refine v_hgetB C (eq_of_beq h2) q627 dJ16_equals_8 ?_
    refine v_aload_n C.1 1 rfl rfl dJ16_equals_11 ?_
    refine v_chk (fun h3 => ?_)
    refine v_hcastB C (eq_of_beq h3) q618 dJ16_equals_12 ?_
    refine v_chk (fun h6 => ?_)
    refine v_callVH C [] [.int (hI u p0 0)] (ctJ16_intValue t G l hl0 p1 u) (fun _ _ => cwJ16_intValue C q1456 (by decide)) (recB C (eq_of_beq h6)) rfl rfl (by exact Nat.le_of_ble_eq_true rfl) dJ16_equals_15 (fun r5 u4 => ?_)
    refine v_icmp_ne C.1 25 (by decide) dJ16_equals_18 (fun _ => ?_) (fun _ => ?_)
    · refine v_iconst C.1 1 (by decide) dJ16_equals_21 ?_
      refine v_goto C.1 26 (by decide) dJ16_equals_22 ?_
      exact v_hzret C dJ16_equals_26
    · refine v_iconst C.1 0 (by decide) dJ16_equals_25 ?_
      exact v_hzret C dJ16_equals_26
theorem cwJ16_equals {t : TT} {G : GH} {l : Launch} {p : Program} {s : State} {m : MethodId} {args : Array Value} {meth : Method} {c : Code} {y0 : MethodName} {cc0 : ByteArray} {nL0 : Nat} {ret0 : Option FieldType} (C : CxH t G l p s m args meth c y0 cc0 nL0 ret0) {index lv mc ms K1 K2 : Nat} (hq : Cond.methodLink y0.cls index yJ16_equals ∈ lw_all) (hR : 3 + 1 ≤ lv) : CallW (rmH lv K1 K2) s args y0.cls RJ16 index yJ16_equals cJ16_equals 2 (some .boolean) (ws_ yJ16_equals cJ16_equals 2 (some .boolean)) (rmH 3 mc ms) mc ms 1 :=
  cwV 1 C.1.2.2.2.2.1 (lw_V hq q1453 q1454 q144 q1455) rfl rfl rfl (by decide +kernel) ⟨hR, by show 8 + (2 + 11) + 100 * 3 ≤ 100 * lv; omega⟩
def hX1_instead_98 (p0 : Nat) (p1 : Int32) (x3 : Nat) (x4 : Int32) (u : HS) : Option (OH (PX Int32)) :=
  mchk (hC u x3 == 12) <|
  hb (hJ2_get x3 x4 u) fun r2 u1 =>
  mchk (hC u1 r2 == 31) <|
  mchk (hC u1 r2 == 31) <|
  hb (hJ16_intValue r2 u1) fun r6 u5 =>
  hret (.inl r6) u5
theorem whX1_instead_98 {K1 K2 : Nat} {p : Program} {e : Env} {s : State} {m : MethodId} {args : Array Value} {below : List Frame} {meth : Method} {c : Code} (hl0 : l.stackTraces = false) (C : CxX t G l p s m args meth c yX1_instead cX1_instead 5 (some .int)) (p0 : Nat) (p1 : Int32) (x3 : Nat) (x4 : Int32) (u : HS) : VX mkI t G p l e 425 K1 K2 s m args below meth c 5 98 [(3, .ref x3), (4, .int x4)] [] u (hX1_instead_98 p0 p1 x3 x4 u) := by
  unfold hX1_instead_98
  refine v_aload_n C.1.1 0 rfl rfl dX1_instead_98 ?_
  refine v_iload C.1.1 1 rfl dX1_instead_99 ?_
  refine v_chk (fun h3 => ?_)
  refine v_callFH C.1 [.int x4] [] (ctJ2_get t G l hl0 x3 x4 u) (fun _ _ => cwJ2_getF C.1 q1368 (by decide)) (eq_of_beq h3) (by decide) rfl rfl rfl (by exact Nat.le_of_ble_eq_true rfl) dX1_instead_101 (fun r2 u1 => ?_)
  refine v_chk (fun h4 => ?_)
  refine v_hcastB C.1 (eq_of_beq h4) q1369 dX1_instead_106 ?_
  refine v_chk (fun h7 => ?_)
  refine v_callVH C.1 [] [] (ctJ16_intValue t G l hl0 r2 u1) (fun _ _ => cwJ16_intValue C.1 q1370 (by decide)) (recB C.1 (eq_of_beq h7)) rfl rfl (by exact Nat.le_of_ble_eq_true rfl) dX1_instead_109 (fun r6 u5 => ?_)
  exact v_xiret C.1 dX1_instead_112
def hX1_instead_51 (p0 : Nat) (p1 : Int32) (k : Nat → Nat → Int32 → HS → Option (OH (PX Int32))) (x2 : Nat) (x3 : Nat) (x4 : Int32) (u : HS) : Option (OH (PX Int32)) :=
  mchk (hC u x3 == 12) <|
  hb (hJ2_size x3 u) fun r2 u1 =>
  if r2 ≤ x4 then
    hret (.inl (-1)) u1
  else
    mchk (hC u1 x2 == 12) <|
    hb (hJ2_size x2 u1) fun r5 u4 =>
    if r5 ≤ x4 then
      hX1_instead_98 p0 p1 x3 x4 u4
    else
      mchk (hC u4 x3 == 12) <|
      hb (hJ2_get x3 x4 u4) fun r8 u7 =>
      mchk (hC u7 r8 == 31) <|
      mchk (hC u7 x2 == 12) <|
      hb (hJ2_get x2 x4 u7) fun r12 u11 =>
      mchk (hC u11 r8 == 31) <|
      hb (hJ16_equals r8 r12 u11) fun r15 u14 =>
      if r15 = 0 then
        hX1_instead_98 p0 p1 x3 x4 u14
      else
        k x2 x3 (x4 + 1) u14
theorem whX1_instead_51 {K1 K2 : Nat} {p : Program} {e : Env} {s : State} {m : MethodId} {args : Array Value} {below : List Frame} {meth : Method} {c : Code} (hl0 : l.stackTraces = false) (C : CxX t G l p s m args meth c yX1_instead cX1_instead 5 (some .int)) (p0 : Nat) (p1 : Int32) (n : Nat) (x2 : Nat) (x3 : Nat) (x4 : Int32) (u : HS) : VX mkI t G p l e 425 K1 K2 s m args below meth c 5 51 [(2, .ref x2), (3, .ref x3), (4, .int x4)] [] u (ml3 (hX1_instead_51 p0 p1) n x2 x3 x4 u) := by
  refine vl3 (L := fun x2 x3 x4 => [(2, .ref x2), (3, .ref x3), (4, .int x4)]) (fun k hk x2 x3 x4 u => ?_) n x2 x3 x4 u
  unfold hX1_instead_51
  refine v_iload C.1.1 2 rfl dX1_instead_51 ?_
  refine v_aload_n C.1.1 1 rfl rfl dX1_instead_53 ?_
  refine v_chk (fun h3 => ?_)
  refine v_callFH C.1 [] [.int x4] (ctJ2_size t G l hl0 x3 u) (fun _ _ => cwJ2_sizeF C.1 q453 (by decide)) (eq_of_beq h3) (by decide) rfl rfl rfl (by exact Nat.le_of_ble_eq_true rfl) dX1_instead_54 (fun r2 u1 => ?_)
  refine v_icmp_ge C.1.1 119 (by decide) dX1_instead_59 (fun _ => ?_) (fun _ => ?_)
  · refine v_iconst C.1.1 (-1) (by decide) dX1_instead_119 ?_
    exact v_xiret C.1 dX1_instead_120
  · refine v_iload C.1.1 2 rfl dX1_instead_62 ?_
    refine v_aload_n C.1.1 0 rfl rfl dX1_instead_64 ?_
    refine v_chk (fun h6 => ?_)
    refine v_callFH C.1 [] [.int x4] (ctJ2_size t G l hl0 x2 u1) (fun _ _ => cwJ2_sizeF C.1 q453 (by decide)) (eq_of_beq h6) (by decide) rfl rfl rfl (by exact Nat.le_of_ble_eq_true rfl) dX1_instead_65 (fun r5 u4 => ?_)
    refine v_icmp_ge C.1.1 98 (by decide) dX1_instead_70 (fun _ => ?_) (fun _ => ?_)
    · refine v_sub [1, 2] rfl ?_
      exact whX1_instead_98 hl0 C p0 p1 x3 x4 u4
    · refine v_aload_n C.1.1 1 rfl rfl dX1_instead_73 ?_
      refine v_iload C.1.1 2 rfl dX1_instead_74 ?_
      refine v_chk (fun h9 => ?_)
      refine v_callFH C.1 [.int x4] [] (ctJ2_get t G l hl0 x3 x4 u4) (fun _ _ => cwJ2_getF C.1 q1368 (by decide)) (eq_of_beq h9) (by decide) rfl rfl rfl (by exact Nat.le_of_ble_eq_true rfl) dX1_instead_76 (fun r8 u7 => ?_)
      refine v_chk (fun h10 => ?_)
      refine v_hcastB C.1 (eq_of_beq h10) q1369 dX1_instead_81 ?_
      refine v_aload_n C.1.1 0 rfl rfl dX1_instead_84 ?_
      refine v_iload C.1.1 2 rfl dX1_instead_85 ?_
      refine v_chk (fun h13 => ?_)
      refine v_callFH C.1 [.int x4] [.ref r8] (ctJ2_get t G l hl0 x2 x4 u7) (fun _ _ => cwJ2_getF C.1 q1368 (by decide)) (eq_of_beq h13) (by decide) rfl rfl rfl (by exact Nat.le_of_ble_eq_true rfl) dX1_instead_87 (fun r12 u11 => ?_)
      refine v_chk (fun h16 => ?_)
      refine v_callVH C.1 [.ref r12] [] (ctJ16_equals t G l hl0 r8 r12 u11) (fun _ _ => cwJ16_equals C.1 q1452 (by decide)) (recB C.1 (eq_of_beq h16)) rfl rfl (by exact Nat.le_of_ble_eq_true rfl) dX1_instead_92 (fun r15 u14 => ?_)
      refine v_if_ne C.1.1 113 (by decide) dX1_instead_95 (fun _ => ?_) (fun _ => ?_)
      · refine v_sub [1, 2] rfl ?_
        exact whX1_instead_98 hl0 C p0 p1 x3 x4 u14
      · refine v_iinc C.1.1 1 [(4, .int (x4 + 1)), (2, .ref x2), (3, .ref x3)] 2 rfl (by decide) (by decide) rfl dX1_instead_113 ?_
        refine v_goto C.1.1 51 (by decide) dX1_instead_116 ?_
        refine v_sub [1, 2, 0] rfl ?_
        exact hk x2 x3 (x4 + 1) u14
def hX1_instead (p0 : Nat) (p1 : Int32) (u : HS) : Option (OH (PX Int32)) :=
  mchk (hC u p0 == 1) <|
  hx (hX1_aPerson p0 p1 u) fun _ u1 =>
  mchk (hC u1 p0 == 1) <|
  mderef (hR u1 p0 3) fun a4 =>
  mchk (hC u1 a4 == 3) <|
  hb (hX3_isListed a4 p1 u1) fun r7 u6 =>
  if r7 = 0 then
    mchk (hC u6 p0 == 1) <|
    hb (hX1_later p0 30 u6) fun r10 u9 =>
    mchk (hC u9 r10 == 3) <|
    mderef (hR u9 r10 5) fun a13 =>
    mchk (hC u9 p0 == 1) <|
    mlet (uI u9 p0 1 p1) fun u16 =>
    mchk (hC u16 p0 == 1) <|
    hb (hX1_later p0 30 u16) fun r18 u17 =>
    mchk (hC u17 r18 == 3) <|
    mderef (hR u17 r18 5) fun a21 =>
    mchk (hC u17 p0 == 1) <|
    mlet (uI u17 p0 1 (-1)) fun u24 =>
    ml3 (hX1_instead_51 p0 p1) FUEL a13 a21 0 u24
  else
    hret (.inl (-1)) u6
theorem ctX1_instead (t : TT) (G : GH) (l : Launch) (hl0 : l.stackTraces = false) (p0 : Nat) (p1 : Int32) (u : HS) : CtX mkI t G l yX1_instead cX1_instead 5 (some .int) 425 [.ref p0, .int p1] u (hX1_instead p0 p1 u) := by
  refine ctX_of [(0, .ref p0), (1, .int p1)] hl0 rfl (Nat.le_of_ble_eq_true rfl) rfl (fun K1 K2 p e s m args below meth c C => ?_)
  unfold hX1_instead
  refine v_aload_n C.1.1 0 rfl rfl dX1_instead_0 ?_
  refine v_iload_n C.1.1 1 rfl rfl dX1_instead_1 ?_
  refine v_chk (fun h2 => ?_)
  refine v_callVX C [.int p1] [] (ctX1_aPerson t G l hl0 p0 p1 u) (fun _ _ => cwX1_aPerson C.1 q1380 (by decide)) (recO C.1 (ci := 0) (eq_of_beq h2) (by decide) rfl) rfl rfl (by exact Nat.le_of_ble_eq_true rfl) dX1_instead_2 (fun _ u1 => ?_)
  refine v_aload_n C.1.1 0 rfl rfl dX1_instead_5 ?_
  refine v_chk (fun h3 => ?_)
  refine v_hget C.1 (v := va_rf (hR u1 p0 3)) 0 3 (eq_of_beq h3) (by decide) rfl in_X1 (by decide) (Or.inl q312) (fun _ h => h) (hF_r (ci := 0) (eq_of_beq h3) (by decide)) dX1_instead_6 ?_
  refine v_deref (fun a4 e5 => ?_)
  refine v_iload_n C.1.1 1 rfl rfl dX1_instead_9 ?_
  refine v_chk (fun h8 => ?_)
  refine v_callVH C.1 [.int p1] [] (ctX3_isListed t G l hl0 a4 p1 u1) (fun _ _ => cwX3_isListed C.1 q1408 (by decide)) (recO C.1 (ci := 2) (eq_of_beq h8) (by decide) rfl) rfl rfl (by exact Nat.le_of_ble_eq_true rfl) dX1_instead_10 (fun r7 u6 => ?_)
  refine v_if_eq C.1.1 18 (by decide) dX1_instead_13 (fun _ => ?_) (fun _ => ?_)
  · refine v_aload_n C.1.1 0 rfl rfl dX1_instead_18 ?_
    refine v_bipush C.1.1 30 (by decide) dX1_instead_19 ?_
    refine v_chk (fun h11 => ?_)
    refine v_callVH C.1 [.int 30] [] (ctX1_later t G l hl0 p0 30 u6) (fun _ _ => cwX1_later C.1 q704 (by decide)) (recO C.1 (ci := 0) (eq_of_beq h11) (by decide) rfl) rfl rfl (by exact Nat.le_of_ble_eq_true rfl) dX1_instead_21 (fun r10 u9 => ?_)
    refine v_chk (fun h12 => ?_)
    refine v_hget C.1 (v := va_rf (hR u9 r10 5)) 2 5 (eq_of_beq h12) (by decide) rfl in_X3 (by decide) (Or.inr ⟨_, q267⟩) (fun _ h => h) (hF_r (ci := 2) (eq_of_beq h12) (by decide)) dX1_instead_24 ?_
    refine v_deref (fun a13 e14 => ?_)
    refine v_astore_n C.1.1 [(2, .ref a13), (0, .ref p0), (1, .int p1)] rfl (by decide) rfl dX1_instead_27 ?_
    refine v_aload_n C.1.1 1 rfl rfl dX1_instead_28 ?_
    refine v_iload_n C.1.1 2 rfl rfl dX1_instead_29 ?_
    refine v_chk (fun h15 => ?_)
    refine v_hputI C.1 0 1 (eq_of_beq h15) (by decide) rfl in_X1 tyX1 tyX1_ok nmX1 (by decide) (by decide) q308 (fun _ h => h) (Or.inl rfl) ⟨rfl, rfl⟩ dX1_instead_30 (fun u16 => ?_)
    refine v_aload_n C.1.1 1 rfl rfl dX1_instead_33 ?_
    refine v_bipush C.1.1 30 (by decide) dX1_instead_34 ?_
    refine v_chk (fun h19 => ?_)
    refine v_callVH C.1 [.int 30] [] (ctX1_later t G l hl0 p0 30 u16) (fun _ _ => cwX1_later C.1 q704 (by decide)) (recO C.1 (ci := 0) (eq_of_beq h19) (by decide) rfl) rfl rfl (by exact Nat.le_of_ble_eq_true rfl) dX1_instead_36 (fun r18 u17 => ?_)
    refine v_chk (fun h20 => ?_)
    refine v_hget C.1 (v := va_rf (hR u17 r18 5)) 2 5 (eq_of_beq h20) (by decide) rfl in_X3 (by decide) (Or.inr ⟨_, q267⟩) (fun _ h => h) (hF_r (ci := 2) (eq_of_beq h20) (by decide)) dX1_instead_39 ?_
    refine v_deref (fun a21 e22 => ?_)
    refine v_astore_n C.1.1 [(3, .ref a21), (2, .ref a13), (0, .ref p0), (1, .int p1)] rfl (by decide) rfl dX1_instead_42 ?_
    refine v_aload_n C.1.1 2 rfl rfl dX1_instead_43 ?_
    refine v_iconst C.1.1 (-1) (by decide) dX1_instead_44 ?_
    refine v_chk (fun h23 => ?_)
    refine v_hputI C.1 0 1 (eq_of_beq h23) (by decide) rfl in_X1 tyX1 tyX1_ok nmX1 (by decide) (by decide) q308 (fun _ h => h) (Or.inl rfl) ⟨rfl, rfl⟩ dX1_instead_45 (fun u24 => ?_)
    refine v_iconst C.1.1 0 (by decide) dX1_instead_48 ?_
    refine v_istore C.1.1 [(4, .int 0), (3, .ref a21), (2, .ref a13), (0, .ref p0), (1, .int p1)] (by decide) rfl dX1_instead_49 ?_
    refine v_sub [2, 1, 0] rfl ?_
    exact whX1_instead_51 hl0 C p0 p1 FUEL a13 a21 0 u24
  · refine v_iconst C.1.1 (-1) (by decide) dX1_instead_16 ?_
    exact v_xiret C.1 dX1_instead_17
theorem cwX1_instead {t : TT} {G : GH} {l : Launch} {p : Program} {s : State} {m : MethodId} {args : Array Value} {meth : Method} {c : Code} {y0 : MethodName} {cc0 : ByteArray} {nL0 : Nat} {ret0 : Option FieldType} (C : CxH t G l p s m args meth c y0 cc0 nL0 ret0) {index lv mc ms K1 K2 : Nat} (hq : Cond.methodLink y0.cls index yX1_instead ∈ lw_all) (hR : 425 + 1 ≤ lv) : CallW (rmH lv K1 K2) s args y0.cls RX1 index yX1_instead cX1_instead 5 (some .int) (ws_ yX1_instead cX1_instead 5 (some .int)) (rmH 425 mc ms) mc ms 1 :=
  cwV 1 C.1.2.2.2.2.1 (lw_V hq q1449 q1450 q121 q1451) rfl rfl rfl (by decide +kernel) ⟨hR, by show 8 + (5 + 11) + 100 * 425 ≤ 100 * lv; omega⟩
def hX1_outBy_184 (p0 : Nat) (p1 : Int32) (p2 : Int32) (k53 : Int32 → Int32 → Int32 → Int32 → HS → Option (OH Int32)) (k : Int32 → Int32 → Int32 → Int32 → Int32 → Int32 → HS → Option (OH Int32)) (x3 : Int32) (x4 : Int32) (x5 : Int32) (x6 : Int32) (x7 : Int32) (x8 : Int32) (u : HS) : Option (OH Int32) :=
  mchk (hC u p0 == 1) <|
  mderef (hR u p0 2) fun a2 =>
  mchk (hC u a2 == 2) <|
  mderef (hR u a2 0) fun a5 =>
  mchk (hC u a5 == 12) <|
  hb (hJ2_size a5 u) fun r8 u7 =>
  if r8 ≤ x8 then
    k53 x3 x4 x5 (x6 + 1) u7
  else
    hb (hX1_isOf x7 x8 u7) fun r11 u10 =>
    if r11 = 0 then
      k x3 x4 x5 x6 x7 (x8 + 1) u10
    else
      mchk (hC u10 p0 == 1) <|
      mderef (hR u10 p0 2) fun a13 =>
      mchk (hC u10 a13 == 2) <|
      hb (hX2_isSea a13 x8 u10) fun r16 u15 =>
      if r16 = 0 then
        if x3 = (-1) then
          mlet (x4 ||| ((1 : Int32) <<< (x8 &&& 31))) fun v18 =>
          k x3 v18 x5 x6 x7 (x8 + 1) u15
        else
          if x6 < x3 then
            mlet (x4 ||| ((1 : Int32) <<< (x8 &&& 31))) fun v18 =>
            k x3 v18 x5 x6 x7 (x8 + 1) u15
          else
            mchk (hC u15 p0 == 1) <|
            mderef (hR u15 p0 2) fun a19 =>
            mchk (hC u15 a19 == 2) <|
            mderef (hR u15 a19 0) fun a22 =>
            mchk (hC u15 a22 == 12) <|
            hb (hJ2_get a22 x8 u15) fun r25 u24 =>
            mchk (hC u24 r25 == 31) <|
            mchk (hC u24 r25 == 31) <|
            hb (hJ16_intValue r25 u24) fun r29 u28 =>
            if 10 ≤ ((r29 + x6) - x3) then
              k x3 x4 x5 x6 x7 (x8 + 1) u28
            else
              mlet (x4 ||| ((1 : Int32) <<< (x8 &&& 31))) fun v31 =>
              k x3 v31 x5 x6 x7 (x8 + 1) u28
      else
        hret x6 u15
theorem whX1_outBy_184 {K1 K2 : Nat} {p : Program} {e : Env} {s : State} {m : MethodId} {args : Array Value} {below : List Frame} {meth : Method} {c : Code} (hl0 : l.stackTraces = false) (C : CxH t G l p s m args meth c yX1_outBy cX1_outBy 10 (some .int)) (p0 : Nat) (p1 : Int32) (p2 : Int32) (k53 : Int32 → Int32 → Int32 → Int32 → HS → Option (OH Int32)) (hk53 : ∀ (x3 : Int32) (x4 : Int32) (x5 : Int32) (x6 : Int32) (u : HS), VH mkI t G p l e 425 K1 K2 s m args below meth c 10 53 [(0, .ref p0), (2, .int p2), (3, .int x3), (4, .int x4), (5, .int x5), (6, .int x6)] [] u (k53 x3 x4 x5 x6 u)) (n : Nat) (x3 : Int32) (x4 : Int32) (x5 : Int32) (x6 : Int32) (x7 : Int32) (x8 : Int32) (u : HS) : VH mkI t G p l e 425 K1 K2 s m args below meth c 10 184 [(0, .ref p0), (2, .int p2), (3, .int x3), (4, .int x4), (5, .int x5), (6, .int x6), (7, .int x7), (8, .int x8)] [] u (ml6 (hX1_outBy_184 p0 p1 p2 k53) n x3 x4 x5 x6 x7 x8 u) := by
  refine vl6 (L := fun x3 x4 x5 x6 x7 x8 => [(0, .ref p0), (2, .int p2), (3, .int x3), (4, .int x4), (5, .int x5), (6, .int x6), (7, .int x7), (8, .int x8)]) (fun k hk x3 x4 x5 x6 x7 x8 u => ?_) n x3 x4 x5 x6 x7 x8 u
  unfold hX1_outBy_184
  refine v_iload C.1 7 rfl dX1_outBy_184 ?_
  refine v_aload_n C.1 0 rfl rfl dX1_outBy_186 ?_
  refine v_chk (fun h1 => ?_)
  refine v_hget C (v := va_rf (hR u p0 2)) 0 2 (eq_of_beq h1) (by decide) rfl in_X1 (by decide) (Or.inl q311) (fun _ h => h) (hF_r (ci := 0) (eq_of_beq h1) (by decide)) dX1_outBy_187 ?_
  refine v_deref (fun a2 e3 => ?_)
  refine v_chk (fun h4 => ?_)
  refine v_hget C (v := va_rf (hR u a2 0)) 1 0 (eq_of_beq h4) (by decide) rfl in_X2 (by decide) (Or.inr ⟨_, q197⟩) (fun _ h => h) (hF_r (ci := 1) (eq_of_beq h4) (by decide)) dX1_outBy_190 ?_
  refine v_deref (fun a5 e6 => ?_)
  refine v_chk (fun h9 => ?_)
  refine v_callFH C [] [.int x8] (ctJ2_size t G l hl0 a5 u) (fun _ _ => cwJ2_sizeF C q453 (by decide)) (eq_of_beq h9) (by decide) rfl rfl rfl (by exact Nat.le_of_ble_eq_true rfl) dX1_outBy_193 (fun r8 u7 => ?_)
  refine v_icmp_ge C.1 285 (by decide) dX1_outBy_198 (fun _ => ?_) (fun _ => ?_)
  · refine v_iinc C.1 1 [(6, .int (x6 + 1)), (0, .ref p0), (2, .int p2), (3, .int x3), (4, .int x4), (5, .int x5), (7, .int x7), (8, .int x8)] 5 rfl (by decide) (by decide) rfl dX1_outBy_285 ?_
    refine v_goto C.1 53 (by decide) dX1_outBy_288 ?_
    refine v_sub [1, 2, 3, 4, 5, 0] rfl ?_
    exact hk53 x3 x4 x5 (x6 + 1) u7
  · refine v_iload C.1 6 rfl dX1_outBy_201 ?_
    refine v_iload C.1 7 rfl dX1_outBy_203 ?_
    refine v_callSH C [.int x7, .int x8] [] (ctX1_isOf t G l hl0 x7 x8 u7) (fun _ _ => cwX1_isOf C q1323 (by decide)) rfl rfl (by exact Nat.le_of_ble_eq_true rfl) dX1_outBy_205 (fun r11 u10 => ?_)
    refine v_if_ne C.1 214 (by decide) dX1_outBy_208 (fun _ => ?_) (fun _ => ?_)
    · refine v_goto C.1 279 (by decide) dX1_outBy_211 ?_
      refine v_iinc C.1 1 [(8, .int (x8 + 1)), (0, .ref p0), (2, .int p2), (3, .int x3), (4, .int x4), (5, .int x5), (6, .int x6), (7, .int x7)] 7 rfl (by decide) (by decide) rfl dX1_outBy_279 ?_
      refine v_goto C.1 184 (by decide) dX1_outBy_282 ?_
      refine v_sub [1, 2, 3, 4, 5, 6, 7, 0] rfl ?_
      exact hk x3 x4 x5 x6 x7 (x8 + 1) u10
    · refine v_aload_n C.1 0 rfl rfl dX1_outBy_214 ?_
      refine v_chk (fun h12 => ?_)
      refine v_hget C (v := va_rf (hR u10 p0 2)) 0 2 (eq_of_beq h12) (by decide) rfl in_X1 (by decide) (Or.inl q311) (fun _ h => h) (hF_r (ci := 0) (eq_of_beq h12) (by decide)) dX1_outBy_215 ?_
      refine v_deref (fun a13 e14 => ?_)
      refine v_iload C.1 7 rfl dX1_outBy_218 ?_
      refine v_chk (fun h17 => ?_)
      refine v_callVH C [.int x8] [] (ctX2_isSea t G l hl0 a13 x8 u10) (fun _ _ => cwX2_isSea C q1468 (by decide)) (recO C (ci := 1) (eq_of_beq h17) (by decide) rfl) rfl rfl (by exact Nat.le_of_ble_eq_true rfl) dX1_outBy_220 (fun r16 u15 => ?_)
      refine v_if_eq C.1 229 (by decide) dX1_outBy_223 (fun _ => ?_) (fun _ => ?_)
      · refine v_iload_n C.1 2 rfl rfl dX1_outBy_229 ?_
        refine v_iconst C.1 (-1) (by decide) dX1_outBy_230 ?_
        refine v_icmp_eq C.1 270 (by decide) dX1_outBy_231 (fun _ => ?_) (fun _ => ?_)
        · refine v_iload C.1 3 rfl dX1_outBy_270 ?_
          refine v_iconst C.1 1 (by decide) dX1_outBy_272 ?_
          refine v_iload C.1 7 rfl dX1_outBy_273 ?_
          refine v_ishl C.1 dX1_outBy_275 ?_
          refine v_ior C.1 dX1_outBy_276 ?_
          refine v_topi (fun v18 => ?_)
          refine v_istore C.1 [(4, .int v18), (0, .ref p0), (2, .int p2), (3, .int x3), (5, .int x5), (6, .int x6), (7, .int x7), (8, .int x8)] (by decide) rfl dX1_outBy_277 ?_
          refine v_iinc C.1 1 [(8, .int (x8 + 1)), (4, .int v18), (0, .ref p0), (2, .int p2), (3, .int x3), (5, .int x5), (6, .int x6), (7, .int x7)] 7 rfl (by decide) (by decide) rfl dX1_outBy_279 ?_
          refine v_goto C.1 184 (by decide) dX1_outBy_282 ?_
          refine v_sub [2, 3, 4, 1, 5, 6, 7, 0] rfl ?_
          exact hk x3 v18 x5 x6 x7 (x8 + 1) u15
        · refine v_iload_n C.1 2 rfl rfl dX1_outBy_234 ?_
          refine v_iload C.1 5 rfl dX1_outBy_235 ?_
          refine v_icmp_gt C.1 270 (by decide) dX1_outBy_237 (fun _ => ?_) (fun _ => ?_)
          · refine v_iload C.1 3 rfl dX1_outBy_270 ?_
            refine v_iconst C.1 1 (by decide) dX1_outBy_272 ?_
            refine v_iload C.1 7 rfl dX1_outBy_273 ?_
            refine v_ishl C.1 dX1_outBy_275 ?_
            refine v_ior C.1 dX1_outBy_276 ?_
            refine v_topi (fun v18 => ?_)
            refine v_istore C.1 [(4, .int v18), (0, .ref p0), (2, .int p2), (3, .int x3), (5, .int x5), (6, .int x6), (7, .int x7), (8, .int x8)] (by decide) rfl dX1_outBy_277 ?_
            refine v_iinc C.1 1 [(8, .int (x8 + 1)), (4, .int v18), (0, .ref p0), (2, .int p2), (3, .int x3), (5, .int x5), (6, .int x6), (7, .int x7)] 7 rfl (by decide) (by decide) rfl dX1_outBy_279 ?_
            refine v_goto C.1 184 (by decide) dX1_outBy_282 ?_
            refine v_sub [2, 3, 4, 1, 5, 6, 7, 0] rfl ?_
            exact hk x3 v18 x5 x6 x7 (x8 + 1) u15
          · refine v_aload_n C.1 0 rfl rfl dX1_outBy_240 ?_
            refine v_chk (fun h18 => ?_)
            refine v_hget C (v := va_rf (hR u15 p0 2)) 0 2 (eq_of_beq h18) (by decide) rfl in_X1 (by decide) (Or.inl q311) (fun _ h => h) (hF_r (ci := 0) (eq_of_beq h18) (by decide)) dX1_outBy_241 ?_
            refine v_deref (fun a19 e20 => ?_)
            refine v_chk (fun h21 => ?_)
            refine v_hget C (v := va_rf (hR u15 a19 0)) 1 0 (eq_of_beq h21) (by decide) rfl in_X2 (by decide) (Or.inr ⟨_, q197⟩) (fun _ h => h) (hF_r (ci := 1) (eq_of_beq h21) (by decide)) dX1_outBy_244 ?_
            refine v_deref (fun a22 e23 => ?_)
            refine v_iload C.1 7 rfl dX1_outBy_247 ?_
            refine v_chk (fun h26 => ?_)
            refine v_callFH C [.int x8] [] (ctJ2_get t G l hl0 a22 x8 u15) (fun _ _ => cwJ2_getF C q1368 (by decide)) (eq_of_beq h26) (by decide) rfl rfl rfl (by exact Nat.le_of_ble_eq_true rfl) dX1_outBy_249 (fun r25 u24 => ?_)
            refine v_chk (fun h27 => ?_)
            refine v_hcastB C (eq_of_beq h27) q1369 dX1_outBy_254 ?_
            refine v_chk (fun h30 => ?_)
            refine v_callVH C [] [] (ctJ16_intValue t G l hl0 r25 u24) (fun _ _ => cwJ16_intValue C q1370 (by decide)) (recB C (eq_of_beq h30)) rfl rfl (by exact Nat.le_of_ble_eq_true rfl) dX1_outBy_257 (fun r29 u28 => ?_)
            refine v_iload C.1 5 rfl dX1_outBy_260 ?_
            refine v_iadd C.1 dX1_outBy_262 ?_
            refine v_iload_n C.1 2 rfl rfl dX1_outBy_263 ?_
            refine v_isub C.1 dX1_outBy_264 ?_
            refine v_bipush C.1 10 (by decide) dX1_outBy_265 ?_
            refine v_icmp_ge C.1 279 (by decide) dX1_outBy_267 (fun _ => ?_) (fun _ => ?_)
            · refine v_iinc C.1 1 [(8, .int (x8 + 1)), (0, .ref p0), (2, .int p2), (3, .int x3), (4, .int x4), (5, .int x5), (6, .int x6), (7, .int x7)] 7 rfl (by decide) (by decide) rfl dX1_outBy_279 ?_
              refine v_goto C.1 184 (by decide) dX1_outBy_282 ?_
              refine v_sub [1, 2, 3, 4, 5, 6, 7, 0] rfl ?_
              exact hk x3 x4 x5 x6 x7 (x8 + 1) u28
            · refine v_iload C.1 3 rfl dX1_outBy_270 ?_
              refine v_iconst C.1 1 (by decide) dX1_outBy_272 ?_
              refine v_iload C.1 7 rfl dX1_outBy_273 ?_
              refine v_ishl C.1 dX1_outBy_275 ?_
              refine v_ior C.1 dX1_outBy_276 ?_
              refine v_topi (fun v31 => ?_)
              refine v_istore C.1 [(4, .int v31), (0, .ref p0), (2, .int p2), (3, .int x3), (5, .int x5), (6, .int x6), (7, .int x7), (8, .int x8)] (by decide) rfl dX1_outBy_277 ?_
              refine v_iinc C.1 1 [(8, .int (x8 + 1)), (4, .int v31), (0, .ref p0), (2, .int p2), (3, .int x3), (5, .int x5), (6, .int x6), (7, .int x7)] 7 rfl (by decide) (by decide) rfl dX1_outBy_279 ?_
              refine v_goto C.1 184 (by decide) dX1_outBy_282 ?_
              refine v_sub [2, 3, 4, 1, 5, 6, 7, 0] rfl ?_
              exact hk x3 v31 x5 x6 x7 (x8 + 1) u28
      · refine v_iload C.1 5 rfl dX1_outBy_226 ?_
        exact v_hiret C dX1_outBy_228
def hX1_outBy_147 (p0 : Nat) (p1 : Int32) (p2 : Int32) (k53 : Int32 → Int32 → Int32 → Int32 → HS → Option (OH Int32)) (k67 : Int32 → Int32 → Int32 → Int32 → Int32 → Int32 → HS → Option (OH Int32)) (x3 : Int32) (x4 : Int32) (x5 : Int32) (x6 : Int32) (x7 : Int32) (x8 : Int32) (x9 : Nat) (u : HS) : Option (OH Int32) :=
  mchk (hC u x9 == 7) <|
  hb (hX1_isOf x4 (hI u x9 1) u) fun r3 u2 =>
  if r3 = 0 then
    k67 x3 x4 x5 x6 x7 (x8 + 1) u2
  else
    mchk (hC u2 x9 == 7) <|
    mlet (x7 ||| ((1 : Int32) <<< ((hI u2 x9 0) &&& 31))) fun v5 =>
    k67 x3 x4 x5 x6 v5 (x8 + 1) u2
theorem whX1_outBy_147 {K1 K2 : Nat} {p : Program} {e : Env} {s : State} {m : MethodId} {args : Array Value} {below : List Frame} {meth : Method} {c : Code} (hl0 : l.stackTraces = false) (C : CxH t G l p s m args meth c yX1_outBy cX1_outBy 10 (some .int)) (p0 : Nat) (p1 : Int32) (p2 : Int32) (k53 : Int32 → Int32 → Int32 → Int32 → HS → Option (OH Int32)) (k67 : Int32 → Int32 → Int32 → Int32 → Int32 → Int32 → HS → Option (OH Int32)) (hk53 : ∀ (x3 : Int32) (x4 : Int32) (x5 : Int32) (x6 : Int32) (u : HS), VH mkI t G p l e 425 K1 K2 s m args below meth c 10 53 [(0, .ref p0), (2, .int p2), (3, .int x3), (4, .int x4), (5, .int x5), (6, .int x6)] [] u (k53 x3 x4 x5 x6 u)) (hk67 : ∀ (x3 : Int32) (x4 : Int32) (x5 : Int32) (x6 : Int32) (x7 : Int32) (x8 : Int32) (u : HS), VH mkI t G p l e 425 K1 K2 s m args below meth c 10 67 [(0, .ref p0), (2, .int p2), (3, .int x3), (4, .int x4), (5, .int x5), (6, .int x6), (7, .int x7), (8, .int x8)] [] u (k67 x3 x4 x5 x6 x7 x8 u)) (x3 : Int32) (x4 : Int32) (x5 : Int32) (x6 : Int32) (x7 : Int32) (x8 : Int32) (x9 : Nat) (u : HS) : VH mkI t G p l e 425 K1 K2 s m args below meth c 10 147 [(0, .ref p0), (2, .int p2), (3, .int x3), (4, .int x4), (5, .int x5), (6, .int x6), (7, .int x7), (8, .int x8), (9, .ref x9)] [] u (hX1_outBy_147 p0 p1 p2 k53 k67 x3 x4 x5 x6 x7 x8 x9 u) := by
  unfold hX1_outBy_147
  refine v_iload C.1 3 rfl dX1_outBy_147 ?_
  refine v_aload C.1 8 rfl dX1_outBy_149 ?_
  refine v_chk (fun h1 => ?_)
  refine v_hget C (v := .int (hI u x9 1)) 6 1 (eq_of_beq h1) (by decide) rfl in_X7 (by decide) (Or.inr ⟨_, q1092⟩) (fun _ h => h) (hF_i (ci := 6) (eq_of_beq h1) (by decide)) dX1_outBy_151 ?_
  refine v_callSH C [.int x4, .int (hI u x9 1)] [] (ctX1_isOf t G l hl0 x4 (hI u x9 1) u) (fun _ _ => cwX1_isOf C q1323 (by decide)) rfl rfl (by exact Nat.le_of_ble_eq_true rfl) dX1_outBy_154 (fun r3 u2 => ?_)
  refine v_if_eq C.1 172 (by decide) dX1_outBy_157 (fun _ => ?_) (fun _ => ?_)
  · refine v_iinc C.1 1 [(8, .int (x8 + 1)), (0, .ref p0), (2, .int p2), (3, .int x3), (4, .int x4), (5, .int x5), (6, .int x6), (7, .int x7), (9, .ref x9)] 7 rfl (by decide) (by decide) rfl dX1_outBy_172 ?_
    refine v_goto C.1 67 (by decide) dX1_outBy_175 ?_
    refine v_sub [1, 2, 3, 4, 5, 6, 7, 0] rfl ?_
    exact hk67 x3 x4 x5 x6 x7 (x8 + 1) u2
  · refine v_iload C.1 6 rfl dX1_outBy_160 ?_
    refine v_iconst C.1 1 (by decide) dX1_outBy_162 ?_
    refine v_aload C.1 8 rfl dX1_outBy_163 ?_
    refine v_chk (fun h4 => ?_)
    refine v_hget C (v := .int (hI u2 x9 0)) 6 0 (eq_of_beq h4) (by decide) rfl in_X7 (by decide) (Or.inr ⟨_, q1090⟩) (fun _ h => h) (hF_i (ci := 6) (eq_of_beq h4) (by decide)) dX1_outBy_165 ?_
    refine v_ishl C.1 dX1_outBy_168 ?_
    refine v_ior C.1 dX1_outBy_169 ?_
    refine v_topi (fun v5 => ?_)
    refine v_istore C.1 [(7, .int v5), (0, .ref p0), (2, .int p2), (3, .int x3), (4, .int x4), (5, .int x5), (6, .int x6), (8, .int x8), (9, .ref x9)] (by decide) rfl dX1_outBy_170 ?_
    refine v_iinc C.1 1 [(8, .int (x8 + 1)), (7, .int v5), (0, .ref p0), (2, .int p2), (3, .int x3), (4, .int x4), (5, .int x5), (6, .int x6), (9, .ref x9)] 7 rfl (by decide) (by decide) rfl dX1_outBy_172 ?_
    refine v_goto C.1 67 (by decide) dX1_outBy_175 ?_
    refine v_sub [2, 3, 4, 5, 6, 7, 1, 0] rfl ?_
    exact hk67 x3 x4 x5 x6 v5 (x8 + 1) u2
def hX1_outBy_122 (p0 : Nat) (p1 : Int32) (p2 : Int32) (k53 : Int32 → Int32 → Int32 → Int32 → HS → Option (OH Int32)) (k67 : Int32 → Int32 → Int32 → Int32 → Int32 → Int32 → HS → Option (OH Int32)) (x3 : Int32) (x4 : Int32) (x5 : Int32) (x6 : Int32) (x7 : Int32) (x8 : Int32) (x9 : Nat) (u : HS) : Option (OH Int32) :=
  mchk (hC u x9 == 7) <|
  hb (hX1_isOf x4 (hI u x9 0) u) fun r3 u2 =>
  if r3 = 0 then
    hX1_outBy_147 p0 p1 p2 k53 k67 x3 x4 x5 x6 x7 x8 x9 u2
  else
    mchk (hC u2 x9 == 7) <|
    mlet (x7 ||| ((1 : Int32) <<< ((hI u2 x9 1) &&& 31))) fun v5 =>
    hX1_outBy_147 p0 p1 p2 k53 k67 x3 x4 x5 x6 v5 x8 x9 u2
theorem whX1_outBy_122 {K1 K2 : Nat} {p : Program} {e : Env} {s : State} {m : MethodId} {args : Array Value} {below : List Frame} {meth : Method} {c : Code} (hl0 : l.stackTraces = false) (C : CxH t G l p s m args meth c yX1_outBy cX1_outBy 10 (some .int)) (p0 : Nat) (p1 : Int32) (p2 : Int32) (k53 : Int32 → Int32 → Int32 → Int32 → HS → Option (OH Int32)) (k67 : Int32 → Int32 → Int32 → Int32 → Int32 → Int32 → HS → Option (OH Int32)) (hk53 : ∀ (x3 : Int32) (x4 : Int32) (x5 : Int32) (x6 : Int32) (u : HS), VH mkI t G p l e 425 K1 K2 s m args below meth c 10 53 [(0, .ref p0), (2, .int p2), (3, .int x3), (4, .int x4), (5, .int x5), (6, .int x6)] [] u (k53 x3 x4 x5 x6 u)) (hk67 : ∀ (x3 : Int32) (x4 : Int32) (x5 : Int32) (x6 : Int32) (x7 : Int32) (x8 : Int32) (u : HS), VH mkI t G p l e 425 K1 K2 s m args below meth c 10 67 [(0, .ref p0), (2, .int p2), (3, .int x3), (4, .int x4), (5, .int x5), (6, .int x6), (7, .int x7), (8, .int x8)] [] u (k67 x3 x4 x5 x6 x7 x8 u)) (x3 : Int32) (x4 : Int32) (x5 : Int32) (x6 : Int32) (x7 : Int32) (x8 : Int32) (x9 : Nat) (u : HS) : VH mkI t G p l e 425 K1 K2 s m args below meth c 10 122 [(0, .ref p0), (2, .int p2), (3, .int x3), (4, .int x4), (5, .int x5), (6, .int x6), (7, .int x7), (8, .int x8), (9, .ref x9)] [] u (hX1_outBy_122 p0 p1 p2 k53 k67 x3 x4 x5 x6 x7 x8 x9 u) := by
  unfold hX1_outBy_122
  refine v_iload C.1 3 rfl dX1_outBy_122 ?_
  refine v_aload C.1 8 rfl dX1_outBy_124 ?_
  refine v_chk (fun h1 => ?_)
  refine v_hget C (v := .int (hI u x9 0)) 6 0 (eq_of_beq h1) (by decide) rfl in_X7 (by decide) (Or.inr ⟨_, q1090⟩) (fun _ h => h) (hF_i (ci := 6) (eq_of_beq h1) (by decide)) dX1_outBy_126 ?_
  refine v_callSH C [.int x4, .int (hI u x9 0)] [] (ctX1_isOf t G l hl0 x4 (hI u x9 0) u) (fun _ _ => cwX1_isOf C q1323 (by decide)) rfl rfl (by exact Nat.le_of_ble_eq_true rfl) dX1_outBy_129 (fun r3 u2 => ?_)
  refine v_if_eq C.1 147 (by decide) dX1_outBy_132 (fun _ => ?_) (fun _ => ?_)
  · exact whX1_outBy_147 hl0 C p0 p1 p2 k53 k67 hk53 hk67 x3 x4 x5 x6 x7 x8 x9 u2
  · refine v_iload C.1 6 rfl dX1_outBy_135 ?_
    refine v_iconst C.1 1 (by decide) dX1_outBy_137 ?_
    refine v_aload C.1 8 rfl dX1_outBy_138 ?_
    refine v_chk (fun h4 => ?_)
    refine v_hget C (v := .int (hI u2 x9 1)) 6 1 (eq_of_beq h4) (by decide) rfl in_X7 (by decide) (Or.inr ⟨_, q1092⟩) (fun _ h => h) (hF_i (ci := 6) (eq_of_beq h4) (by decide)) dX1_outBy_140 ?_
    refine v_ishl C.1 dX1_outBy_143 ?_
    refine v_ior C.1 dX1_outBy_144 ?_
    refine v_topi (fun v5 => ?_)
    refine v_istore C.1 [(7, .int v5), (0, .ref p0), (2, .int p2), (3, .int x3), (4, .int x4), (5, .int x5), (6, .int x6), (8, .int x8), (9, .ref x9)] (by decide) rfl dX1_outBy_145 ?_
    refine v_sub [1, 2, 3, 4, 5, 6, 0, 7, 8] rfl ?_
    exact whX1_outBy_147 hl0 C p0 p1 p2 k53 k67 hk53 hk67 x3 x4 x5 x6 v5 x8 x9 u2
def hX1_outBy_67 (p0 : Nat) (p1 : Int32) (p2 : Int32) (k53 : Int32 → Int32 → Int32 → Int32 → HS → Option (OH Int32)) (k : Int32 → Int32 → Int32 → Int32 → Int32 → Int32 → HS → Option (OH Int32)) (x3 : Int32) (x4 : Int32) (x5 : Int32) (x6 : Int32) (x7 : Int32) (x8 : Int32) (u : HS) : Option (OH Int32) :=
  mchk (hC u p0 == 1) <|
  mderef (hR u p0 2) fun a2 =>
  mchk (hC u a2 == 2) <|
  mderef (hR u a2 2) fun a5 =>
  mchk (hC u a5 == 12) <|
  hb (hJ2_size a5 u) fun r8 u7 =>
  if r8 ≤ x8 then
    ml6 (hX1_outBy_184 p0 p1 p2 k53) FUEL x3 0 x5 x6 x7 0 u7
  else
    mchk (hC u7 p0 == 1) <|
    mderef (hR u7 p0 2) fun a11 =>
    mchk (hC u7 a11 == 2) <|
    mderef (hR u7 a11 2) fun a14 =>
    mchk (hC u7 a14 == 12) <|
    hb (hJ2_get a14 x8 u7) fun r17 u16 =>
    mchk (hC u16 r17 == 7) <|
    mchk (hC u16 r17 == 7) <|
    if x6 < (hI u16 r17 2) then
      hX1_outBy_122 p0 p1 p2 k53 k x3 x4 x5 x6 x7 x8 r17 u16
    else
      if x8 = p2 then
        hX1_outBy_122 p0 p1 p2 k53 k x3 x4 x5 x6 x7 x8 r17 u16
      else
        k x3 x4 x5 x6 x7 (x8 + 1) u16
theorem whX1_outBy_67 {K1 K2 : Nat} {p : Program} {e : Env} {s : State} {m : MethodId} {args : Array Value} {below : List Frame} {meth : Method} {c : Code} (hl0 : l.stackTraces = false) (C : CxH t G l p s m args meth c yX1_outBy cX1_outBy 10 (some .int)) (p0 : Nat) (p1 : Int32) (p2 : Int32) (k53 : Int32 → Int32 → Int32 → Int32 → HS → Option (OH Int32)) (hk53 : ∀ (x3 : Int32) (x4 : Int32) (x5 : Int32) (x6 : Int32) (u : HS), VH mkI t G p l e 425 K1 K2 s m args below meth c 10 53 [(0, .ref p0), (2, .int p2), (3, .int x3), (4, .int x4), (5, .int x5), (6, .int x6)] [] u (k53 x3 x4 x5 x6 u)) (n : Nat) (x3 : Int32) (x4 : Int32) (x5 : Int32) (x6 : Int32) (x7 : Int32) (x8 : Int32) (u : HS) : VH mkI t G p l e 425 K1 K2 s m args below meth c 10 67 [(0, .ref p0), (2, .int p2), (3, .int x3), (4, .int x4), (5, .int x5), (6, .int x6), (7, .int x7), (8, .int x8)] [] u (ml6 (hX1_outBy_67 p0 p1 p2 k53) n x3 x4 x5 x6 x7 x8 u) := by
  refine vl6 (L := fun x3 x4 x5 x6 x7 x8 => [(0, .ref p0), (2, .int p2), (3, .int x3), (4, .int x4), (5, .int x5), (6, .int x6), (7, .int x7), (8, .int x8)]) (fun k hk x3 x4 x5 x6 x7 x8 u => ?_) n x3 x4 x5 x6 x7 x8 u
  unfold hX1_outBy_67
  refine v_iload C.1 7 rfl dX1_outBy_67 ?_
  refine v_aload_n C.1 0 rfl rfl dX1_outBy_69 ?_
  refine v_chk (fun h1 => ?_)
  refine v_hget C (v := va_rf (hR u p0 2)) 0 2 (eq_of_beq h1) (by decide) rfl in_X1 (by decide) (Or.inl q311) (fun _ h => h) (hF_r (ci := 0) (eq_of_beq h1) (by decide)) dX1_outBy_70 ?_
  refine v_deref (fun a2 e3 => ?_)
  refine v_chk (fun h4 => ?_)
  refine v_hget C (v := va_rf (hR u a2 2)) 1 2 (eq_of_beq h4) (by decide) rfl in_X2 (by decide) (Or.inr ⟨_, q205⟩) (fun _ h => h) (hF_r (ci := 1) (eq_of_beq h4) (by decide)) dX1_outBy_73 ?_
  refine v_deref (fun a5 e6 => ?_)
  refine v_chk (fun h9 => ?_)
  refine v_callFH C [] [.int x8] (ctJ2_size t G l hl0 a5 u) (fun _ _ => cwJ2_sizeF C q453 (by decide)) (eq_of_beq h9) (by decide) rfl rfl rfl (by exact Nat.le_of_ble_eq_true rfl) dX1_outBy_76 (fun r8 u7 => ?_)
  refine v_icmp_ge C.1 178 (by decide) dX1_outBy_81 (fun _ => ?_) (fun _ => ?_)
  · refine v_iconst C.1 0 (by decide) dX1_outBy_178 ?_
    refine v_istore C.1 [(4, .int 0), (0, .ref p0), (2, .int p2), (3, .int x3), (5, .int x5), (6, .int x6), (7, .int x7), (8, .int x8)] (by decide) rfl dX1_outBy_179 ?_
    refine v_iconst C.1 0 (by decide) dX1_outBy_181 ?_
    refine v_istore C.1 [(8, .int 0), (4, .int 0), (0, .ref p0), (2, .int p2), (3, .int x3), (5, .int x5), (6, .int x6), (7, .int x7)] (by decide) rfl dX1_outBy_182 ?_
    refine v_sub [2, 3, 4, 1, 5, 6, 7, 0] rfl ?_
    exact whX1_outBy_184 hl0 C p0 p1 p2 k53 hk53 FUEL x3 0 x5 x6 x7 0 u7
  · refine v_aload_n C.1 0 rfl rfl dX1_outBy_84 ?_
    refine v_chk (fun h10 => ?_)
    refine v_hget C (v := va_rf (hR u7 p0 2)) 0 2 (eq_of_beq h10) (by decide) rfl in_X1 (by decide) (Or.inl q311) (fun _ h => h) (hF_r (ci := 0) (eq_of_beq h10) (by decide)) dX1_outBy_85 ?_
    refine v_deref (fun a11 e12 => ?_)
    refine v_chk (fun h13 => ?_)
    refine v_hget C (v := va_rf (hR u7 a11 2)) 1 2 (eq_of_beq h13) (by decide) rfl in_X2 (by decide) (Or.inr ⟨_, q205⟩) (fun _ h => h) (hF_r (ci := 1) (eq_of_beq h13) (by decide)) dX1_outBy_88 ?_
    refine v_deref (fun a14 e15 => ?_)
    refine v_iload C.1 7 rfl dX1_outBy_91 ?_
    refine v_chk (fun h18 => ?_)
    refine v_callFH C [.int x8] [] (ctJ2_get t G l hl0 a14 x8 u7) (fun _ _ => cwJ2_getF C q1368 (by decide)) (eq_of_beq h18) (by decide) rfl rfl rfl (by exact Nat.le_of_ble_eq_true rfl) dX1_outBy_93 (fun r17 u16 => ?_)
    refine v_chk (fun h19 => ?_)
    refine v_hcastS C 6 (eq_of_beq h19) (by decide) rfl q1371 dX1_outBy_98 ?_
    refine v_astore C.1 [(9, .ref r17), (0, .ref p0), (2, .int p2), (3, .int x3), (4, .int x4), (5, .int x5), (6, .int x6), (7, .int x7), (8, .int x8)] (by decide) rfl dX1_outBy_101 ?_
    refine v_iload C.1 6 rfl dX1_outBy_103 ?_
    refine v_aload C.1 0 rfl dX1_outBy_105 ?_
    refine v_chk (fun h20 => ?_)
    refine v_hget C (v := .int (hI u16 r17 2)) 6 2 (eq_of_beq h20) (by decide) rfl in_X7 (by decide) (Or.inr ⟨_, q1094⟩) (fun _ h => h) (hF_i (ci := 6) (eq_of_beq h20) (by decide)) dX1_outBy_107 ?_
    refine v_icmp_lt C.1 122 (by decide) dX1_outBy_110 (fun _ => ?_) (fun _ => ?_)
    · refine v_sub [1, 2, 3, 4, 5, 6, 7, 8, 0] rfl ?_
      exact whX1_outBy_122 hl0 C p0 p1 p2 k53 k hk53 hk x3 x4 x5 x6 x7 x8 r17 u16
    · refine v_iload C.1 8 rfl dX1_outBy_113 ?_
      refine v_iload_n C.1 2 rfl rfl dX1_outBy_115 ?_
      refine v_icmp_eq C.1 122 (by decide) dX1_outBy_116 (fun _ => ?_) (fun _ => ?_)
      · refine v_sub [1, 2, 3, 4, 5, 6, 7, 8, 0] rfl ?_
        exact whX1_outBy_122 hl0 C p0 p1 p2 k53 k hk53 hk x3 x4 x5 x6 x7 x8 r17 u16
      · refine v_goto C.1 172 (by decide) dX1_outBy_119 ?_
        refine v_iinc C.1 1 [(8, .int (x8 + 1)), (9, .ref r17), (0, .ref p0), (2, .int p2), (3, .int x3), (4, .int x4), (5, .int x5), (6, .int x6), (7, .int x7)] 8 rfl (by decide) (by decide) rfl dX1_outBy_172 ?_
        refine v_goto C.1 67 (by decide) dX1_outBy_175 ?_
        refine v_sub [2, 3, 4, 5, 6, 7, 8, 0] rfl ?_
        exact hk x3 x4 x5 x6 x7 (x8 + 1) u16
def hX1_outBy_53 (p0 : Nat) (p1 : Int32) (p2 : Int32) (k : Int32 → Int32 → Int32 → Int32 → HS → Option (OH Int32)) (x3 : Int32) (x4 : Int32) (x5 : Int32) (x6 : Int32) (u : HS) : Option (OH Int32) :=
  if x5 < x6 then
    hret (-1) u
  else
    ml6 (hX1_outBy_67 p0 p1 p2 k) FUEL x3 x4 x5 x6 x4 0 u
theorem whX1_outBy_53 {K1 K2 : Nat} {p : Program} {e : Env} {s : State} {m : MethodId} {args : Array Value} {below : List Frame} {meth : Method} {c : Code} (hl0 : l.stackTraces = false) (C : CxH t G l p s m args meth c yX1_outBy cX1_outBy 10 (some .int)) (p0 : Nat) (p1 : Int32) (p2 : Int32) (n : Nat) (x3 : Int32) (x4 : Int32) (x5 : Int32) (x6 : Int32) (u : HS) : VH mkI t G p l e 425 K1 K2 s m args below meth c 10 53 [(0, .ref p0), (2, .int p2), (3, .int x3), (4, .int x4), (5, .int x5), (6, .int x6)] [] u (ml4 (hX1_outBy_53 p0 p1 p2) n x3 x4 x5 x6 u) := by
  refine vl4 (L := fun x3 x4 x5 x6 => [(0, .ref p0), (2, .int p2), (3, .int x3), (4, .int x4), (5, .int x5), (6, .int x6)]) (fun k hk x3 x4 x5 x6 u => ?_) n x3 x4 x5 x6 u
  unfold hX1_outBy_53
  refine v_iload C.1 5 rfl dX1_outBy_53 ?_
  refine v_iload C.1 4 rfl dX1_outBy_55 ?_
  refine v_icmp_gt C.1 291 (by decide) dX1_outBy_57 (fun _ => ?_) (fun _ => ?_)
  · refine v_iconst C.1 (-1) (by decide) dX1_outBy_291 ?_
    exact v_hiret C dX1_outBy_292
  · refine v_iload C.1 3 rfl dX1_outBy_60 ?_
    refine v_istore C.1 [(7, .int x4), (0, .ref p0), (2, .int p2), (3, .int x3), (4, .int x4), (5, .int x5), (6, .int x6)] (by decide) rfl dX1_outBy_62 ?_
    refine v_iconst C.1 0 (by decide) dX1_outBy_64 ?_
    refine v_istore C.1 [(8, .int 0), (7, .int x4), (0, .ref p0), (2, .int p2), (3, .int x3), (4, .int x4), (5, .int x5), (6, .int x6)] (by decide) rfl dX1_outBy_65 ?_
    refine v_sub [2, 3, 4, 5, 6, 7, 1, 0] rfl ?_
    exact whX1_outBy_67 hl0 C p0 p1 p2 k hk FUEL x3 x4 x5 x6 x4 0 u
def hX1_outBy (p0 : Nat) (p1 : Int32) (p2 : Int32) (u : HS) : Option (OH Int32) :=
  mchk (hC u p0 == 1) <|
  hb (hX1_later p0 30 u) fun r2 u1 =>
  mchk (hC u1 r2 == 3) <|
  mderef (hR u1 r2 0) fun a5 =>
  mchk (inA u1 p1 a5 21) <|
  mlet (hA u1 a5 p1.toNatClampNeg) fun v8 =>
  mchk (hC u1 p0 == 1) <|
  mderef (hR u1 p0 3) fun a10 =>
  mchk (hC u1 a10 == 3) <|
  mderef (hR u1 a10 2) fun a13 =>
  mchk (inA u1 p1 a13 21) <|
  mlet ((1 : Int32) <<< ((hA u1 a13 p1.toNatClampNeg) &&& 31)) fun v16 =>
  mchk (hC u1 p0 == 1) <|
  mderef (hR u1 p0 3) fun a18 =>
  mchk (hC u1 a18 == 3) <|
  mchk (hC u1 p0 == 1) <|
  mderef (hR u1 p0 3) fun a22 =>
  mchk (hC u1 a22 == 3) <|
  hb (hX3_ahead a22 30 u1) fun r25 u24 =>
  mlet ((hI u1 a18 6) + r25) fun v27 =>
  mchk (hC u24 p0 == 1) <|
  mderef (hR u24 p0 3) fun a29 =>
  mchk (hC u24 a29 == 3) <|
  mlet (hI u24 a29 6) fun v32 =>
  ml4 (hX1_outBy_53 p0 p1 p2) FUEL v8 v16 v27 v32 u24
theorem ctX1_outBy (t : TT) (G : GH) (l : Launch) (hl0 : l.stackTraces = false) (p0 : Nat) (p1 : Int32) (p2 : Int32) (u : HS) : CtH mkI t G l yX1_outBy cX1_outBy 10 (some .int) 425 [.ref p0, .int p1, .int p2] u (hX1_outBy p0 p1 p2 u) := by
  refine ctH_of [(0, .ref p0), (1, .int p1), (2, .int p2)] hl0 rfl (Nat.le_of_ble_eq_true rfl) rfl (fun K1 K2 p e s m args below meth c C => ?_)
  unfold hX1_outBy
  refine v_aload_n C.1 0 rfl rfl dX1_outBy_0 ?_
  refine v_bipush C.1 30 (by decide) dX1_outBy_1 ?_
  refine v_chk (fun h3 => ?_)
  refine v_callVH C [.int 30] [] (ctX1_later t G l hl0 p0 30 u) (fun _ _ => cwX1_later C q704 (by decide)) (recO C (ci := 0) (eq_of_beq h3) (by decide) rfl) rfl rfl (by exact Nat.le_of_ble_eq_true rfl) dX1_outBy_3 (fun r2 u1 => ?_)
  refine v_chk (fun h4 => ?_)
  refine v_hget C (v := va_rf (hR u1 r2 0)) 2 0 (eq_of_beq h4) (by decide) rfl in_X3 (by decide) (Or.inr ⟨_, q255⟩) (fun _ h => h) (hF_r (ci := 2) (eq_of_beq h4) (by decide)) dX1_outBy_6 ?_
  refine v_deref (fun a5 e6 => ?_)
  refine v_iload_n C.1 1 rfl rfl dX1_outBy_9 ?_
  refine v_chk (fun h7 => ?_)
  refine v_haiald C h7 dX1_outBy_10 ?_
  refine v_topi (fun v8 => ?_)
  refine v_istore_n C.1 [(3, .int v8), (0, .ref p0), (1, .int p1), (2, .int p2)] rfl (by decide) rfl dX1_outBy_11 ?_
  refine v_iconst C.1 1 (by decide) dX1_outBy_12 ?_
  refine v_aload_n C.1 1 rfl rfl dX1_outBy_13 ?_
  refine v_chk (fun h9 => ?_)
  refine v_hget C (v := va_rf (hR u1 p0 3)) 0 3 (eq_of_beq h9) (by decide) rfl in_X1 (by decide) (Or.inl q312) (fun _ h => h) (hF_r (ci := 0) (eq_of_beq h9) (by decide)) dX1_outBy_14 ?_
  refine v_deref (fun a10 e11 => ?_)
  refine v_chk (fun h12 => ?_)
  refine v_hget C (v := va_rf (hR u1 a10 2)) 2 2 (eq_of_beq h12) (by decide) rfl in_X3 (by decide) (Or.inr ⟨_, q259⟩) (fun _ h => h) (hF_r (ci := 2) (eq_of_beq h12) (by decide)) dX1_outBy_17 ?_
  refine v_deref (fun a13 e14 => ?_)
  refine v_iload_n C.1 2 rfl rfl dX1_outBy_20 ?_
  refine v_chk (fun h15 => ?_)
  refine v_haiald C h15 dX1_outBy_21 ?_
  refine v_ishl C.1 dX1_outBy_22 ?_
  refine v_topi (fun v16 => ?_)
  refine v_istore C.1 [(4, .int v16), (3, .int v8), (0, .ref p0), (1, .int p1), (2, .int p2)] (by decide) rfl dX1_outBy_23 ?_
  refine v_aload_n C.1 2 rfl rfl dX1_outBy_25 ?_
  refine v_chk (fun h17 => ?_)
  refine v_hget C (v := va_rf (hR u1 p0 3)) 0 3 (eq_of_beq h17) (by decide) rfl in_X1 (by decide) (Or.inl q312) (fun _ h => h) (hF_r (ci := 0) (eq_of_beq h17) (by decide)) dX1_outBy_26 ?_
  refine v_deref (fun a18 e19 => ?_)
  refine v_chk (fun h20 => ?_)
  refine v_hget C (v := .int (hI u1 a18 6)) 2 6 (eq_of_beq h20) (by decide) rfl in_X3 (by decide) (Or.inr ⟨_, q269⟩) (fun _ h => h) (hF_i (ci := 2) (eq_of_beq h20) (by decide)) dX1_outBy_29 ?_
  refine v_aload_n C.1 2 rfl rfl dX1_outBy_32 ?_
  refine v_chk (fun h21 => ?_)
  refine v_hget C (v := va_rf (hR u1 p0 3)) 0 3 (eq_of_beq h21) (by decide) rfl in_X1 (by decide) (Or.inl q312) (fun _ h => h) (hF_r (ci := 0) (eq_of_beq h21) (by decide)) dX1_outBy_33 ?_
  refine v_deref (fun a22 e23 => ?_)
  refine v_bipush C.1 30 (by decide) dX1_outBy_36 ?_
  refine v_chk (fun h26 => ?_)
  refine v_callVH C [.int 30] [.int (hI u1 a18 6)] (ctX3_ahead t G l hl0 a22 30 u1) (fun _ _ => cwX3_ahead C q694 (by decide)) (recO C (ci := 2) (eq_of_beq h26) (by decide) rfl) rfl rfl (by exact Nat.le_of_ble_eq_true rfl) dX1_outBy_38 (fun r25 u24 => ?_)
  refine v_iadd C.1 dX1_outBy_41 ?_
  refine v_topi (fun v27 => ?_)
  refine v_istore C.1 [(5, .int v27), (4, .int v16), (3, .int v8), (0, .ref p0), (1, .int p1), (2, .int p2)] (by decide) rfl dX1_outBy_42 ?_
  refine v_aload_n C.1 3 rfl rfl dX1_outBy_44 ?_
  refine v_chk (fun h28 => ?_)
  refine v_hget C (v := va_rf (hR u24 p0 3)) 0 3 (eq_of_beq h28) (by decide) rfl in_X1 (by decide) (Or.inl q312) (fun _ h => h) (hF_r (ci := 0) (eq_of_beq h28) (by decide)) dX1_outBy_45 ?_
  refine v_deref (fun a29 e30 => ?_)
  refine v_chk (fun h31 => ?_)
  refine v_hget C (v := .int (hI u24 a29 6)) 2 6 (eq_of_beq h31) (by decide) rfl in_X3 (by decide) (Or.inr ⟨_, q269⟩) (fun _ h => h) (hF_i (ci := 2) (eq_of_beq h31) (by decide)) dX1_outBy_48 ?_
  refine v_topi (fun v32 => ?_)
  refine v_istore C.1 [(6, .int v32), (5, .int v27), (4, .int v16), (3, .int v8), (0, .ref p0), (1, .int p1), (2, .int p2)] (by decide) rfl dX1_outBy_51 ?_
  refine v_sub [4, 6, 3, 2, 1, 0] rfl ?_
  exact whX1_outBy_53 hl0 C p0 p1 p2 FUEL v8 v16 v27 v32 u24
theorem cwX1_outBy {t : TT} {G : GH} {l : Launch} {p : Program} {s : State} {m : MethodId} {args : Array Value} {meth : Method} {c : Code} {y0 : MethodName} {cc0 : ByteArray} {nL0 : Nat} {ret0 : Option FieldType} (C : CxH t G l p s m args meth c y0 cc0 nL0 ret0) {index lv mc ms K1 K2 : Nat} (hq : Cond.methodLink y0.cls index yX1_outBy ∈ lw_all) (hR : 425 + 1 ≤ lv) : CallW (rmH lv K1 K2) s args y0.cls RX1 index yX1_outBy cX1_outBy 10 (some .int) (ws_ yX1_outBy cX1_outBy 10 (some .int)) (rmH 425 mc ms) mc ms 2 :=
  cwV 2 C.1.2.2.2.2.1 (lw_V hq q1466 qs43 q121 q1467) rfl rfl rfl (by decide +kernel) ⟨hR, by show 8 + (10 + 11) + 100 * 425 ≤ 100 * lv; omega⟩
def hX1_out (p0 : Nat) (p1 : Int32) (u : HS) : Option (OH (PX Int32)) :=
  mchk (hC u p0 == 1) <|
  hx (hX1_aPerson p0 p1 u) fun _ u1 =>
  mchk (hC u1 p0 == 1) <|
  mderef (hR u1 p0 3) fun a4 =>
  mchk (hC u1 a4 == 3) <|
  hb (hX1_isOf (hI u1 a4 7) p1 u1) fun r8 u7 =>
  if r8 = 0 then
    mchk (hC u7 p0 == 1) <|
    hb (hX1_outBy p0 p1 (-1) u7) fun r10 u9 =>
    hret (.inl r10) u9
  else
    hret (.inl (-1)) u7
theorem ctX1_out (t : TT) (G : GH) (l : Launch) (hl0 : l.stackTraces = false) (p0 : Nat) (p1 : Int32) (u : HS) : CtX mkI t G l yX1_out cX1_out 2 (some .int) 426 [.ref p0, .int p1] u (hX1_out p0 p1 u) := by
  refine ctX_of [(0, .ref p0), (1, .int p1)] hl0 rfl (Nat.le_of_ble_eq_true rfl) rfl (fun K1 K2 p e s m args below meth c C => ?_)
  unfold hX1_out
  refine v_aload_n C.1.1 0 rfl rfl dX1_out_0 ?_
  refine v_iload_n C.1.1 1 rfl rfl dX1_out_1 ?_
  refine v_chk (fun h2 => ?_)
  refine v_callVX C [.int p1] [] (ctX1_aPerson t G l hl0 p0 p1 u) (fun _ _ => cwX1_aPerson C.1 q1380 (by decide)) (recO C.1 (ci := 0) (eq_of_beq h2) (by decide) rfl) rfl rfl (by exact Nat.le_of_ble_eq_true rfl) dX1_out_2 (fun _ u1 => ?_)
  refine v_aload_n C.1.1 0 rfl rfl dX1_out_5 ?_
  refine v_chk (fun h3 => ?_)
  refine v_hget C.1 (v := va_rf (hR u1 p0 3)) 0 3 (eq_of_beq h3) (by decide) rfl in_X1 (by decide) (Or.inl q312) (fun _ h => h) (hF_r (ci := 0) (eq_of_beq h3) (by decide)) dX1_out_6 ?_
  refine v_deref (fun a4 e5 => ?_)
  refine v_chk (fun h6 => ?_)
  refine v_hget C.1 (v := .int (hI u1 a4 7)) 2 7 (eq_of_beq h6) (by decide) rfl in_X3 (by decide) (Or.inr ⟨_, q271⟩) (fun _ h => h) (hF_i (ci := 2) (eq_of_beq h6) (by decide)) dX1_out_9 ?_
  refine v_iload_n C.1.1 1 rfl rfl dX1_out_12 ?_
  refine v_callSH C.1 [.int (hI u1 a4 7), .int p1] [] (ctX1_isOf t G l hl0 (hI u1 a4 7) p1 u1) (fun _ _ => cwX1_isOf C.1 q1323 (by decide)) rfl rfl (by exact Nat.le_of_ble_eq_true rfl) dX1_out_13 (fun r8 u7 => ?_)
  refine v_if_eq C.1.1 23 (by decide) dX1_out_16 (fun _ => ?_) (fun _ => ?_)
  · refine v_aload_n C.1.1 0 rfl rfl dX1_out_23 ?_
    refine v_iload_n C.1.1 1 rfl rfl dX1_out_24 ?_
    refine v_iconst C.1.1 (-1) (by decide) dX1_out_25 ?_
    refine v_chk (fun h11 => ?_)
    refine v_callVH C.1 [.int p1, .int (-1)] [] (ctX1_outBy t G l hl0 p0 p1 (-1) u7) (fun _ _ => cwX1_outBy C.1 q1464 (by decide)) (recO C.1 (ci := 0) (eq_of_beq h11) (by decide) rfl) rfl rfl (by exact Nat.le_of_ble_eq_true rfl) dX1_out_26 (fun r10 u9 => ?_)
    exact v_xiret C.1 dX1_out_29
  · refine v_iconst C.1.1 (-1) (by decide) dX1_out_19 ?_
    refine v_goto C.1.1 29 (by decide) dX1_out_20 ?_
    exact v_xiret C.1 dX1_out_29
theorem cwX1_out {t : TT} {G : GH} {l : Launch} {p : Program} {s : State} {m : MethodId} {args : Array Value} {meth : Method} {c : Code} {y0 : MethodName} {cc0 : ByteArray} {nL0 : Nat} {ret0 : Option FieldType} (C : CxH t G l p s m args meth c y0 cc0 nL0 ret0) {index lv mc ms K1 K2 : Nat} (hq : Cond.methodLink y0.cls index yX1_out ∈ lw_all) (hR : 426 + 1 ≤ lv) : CallW (rmH lv K1 K2) s args y0.cls RX1 index yX1_out cX1_out 2 (some .int) (ws_ yX1_out cX1_out 2 (some .int)) (rmH 426 mc ms) mc ms 1 :=
  cwV 1 C.1.2.2.2.2.1 (lw_V hq q1461 q1462 q121 q1463) rfl rfl rfl (by decide +kernel) ⟨hR, by show 8 + (2 + 11) + 100 * 426 ≤ 100 * lv; omega⟩
def hX1_gate_33 (p0 : Nat) (p1 : Int32) (k : Int32 → HS → Option (OH (PX Int32))) (x2 : Int32) (u : HS) : Option (OH (PX Int32)) :=
  mchk (hC u p0 == 1) <|
  mderef (hR u p0 2) fun a2 =>
  mchk (hC u a2 == 2) <|
  mderef (hR u a2 2) fun a5 =>
  mchk (hC u a5 == 12) <|
  hb (hJ2_size a5 u) fun r8 u7 =>
  if r8 ≤ x2 then
    hret (.inl (-1)) u7
  else
    mchk (hC u7 p0 == 1) <|
    hb (hX1_outBy p0 p1 x2 u7) fun r11 u10 =>
    if r11 = (-1) then
      k (x2 + 1) u10
    else
      hret (.inl x2) u10
theorem whX1_gate_33 {K1 K2 : Nat} {p : Program} {e : Env} {s : State} {m : MethodId} {args : Array Value} {below : List Frame} {meth : Method} {c : Code} (hl0 : l.stackTraces = false) (C : CxX t G l p s m args meth c yX1_gate cX1_gate 3 (some .int)) (p0 : Nat) (p1 : Int32) (n : Nat) (x2 : Int32) (u : HS) : VX mkI t G p l e 426 K1 K2 s m args below meth c 3 33 [(0, .ref p0), (1, .int p1), (2, .int x2)] [] u (ml1 (hX1_gate_33 p0 p1) n x2 u) := by
  refine vl1 (L := fun x2 => [(0, .ref p0), (1, .int p1), (2, .int x2)]) (fun k hk x2 u => ?_) n x2 u
  unfold hX1_gate_33
  refine v_iload_n C.1.1 2 rfl rfl dX1_gate_33 ?_
  refine v_aload_n C.1.1 0 rfl rfl dX1_gate_34 ?_
  refine v_chk (fun h1 => ?_)
  refine v_hget C.1 (v := va_rf (hR u p0 2)) 0 2 (eq_of_beq h1) (by decide) rfl in_X1 (by decide) (Or.inl q311) (fun _ h => h) (hF_r (ci := 0) (eq_of_beq h1) (by decide)) dX1_gate_35 ?_
  refine v_deref (fun a2 e3 => ?_)
  refine v_chk (fun h4 => ?_)
  refine v_hget C.1 (v := va_rf (hR u a2 2)) 1 2 (eq_of_beq h4) (by decide) rfl in_X2 (by decide) (Or.inr ⟨_, q205⟩) (fun _ h => h) (hF_r (ci := 1) (eq_of_beq h4) (by decide)) dX1_gate_38 ?_
  refine v_deref (fun a5 e6 => ?_)
  refine v_chk (fun h9 => ?_)
  refine v_callFH C.1 [] [.int x2] (ctJ2_size t G l hl0 a5 u) (fun _ _ => cwJ2_sizeF C.1 q453 (by decide)) (eq_of_beq h9) (by decide) rfl rfl rfl (by exact Nat.le_of_ble_eq_true rfl) dX1_gate_41 (fun r8 u7 => ?_)
  refine v_icmp_ge C.1.1 67 (by decide) dX1_gate_46 (fun _ => ?_) (fun _ => ?_)
  · refine v_iconst C.1.1 (-1) (by decide) dX1_gate_67 ?_
    exact v_xiret C.1 dX1_gate_68
  · refine v_aload_n C.1.1 0 rfl rfl dX1_gate_49 ?_
    refine v_iload_n C.1.1 1 rfl rfl dX1_gate_50 ?_
    refine v_iload_n C.1.1 2 rfl rfl dX1_gate_51 ?_
    refine v_chk (fun h12 => ?_)
    refine v_callVH C.1 [.int p1, .int x2] [] (ctX1_outBy t G l hl0 p0 p1 x2 u7) (fun _ _ => cwX1_outBy C.1 q1464 (by decide)) (recO C.1 (ci := 0) (eq_of_beq h12) (by decide) rfl) rfl rfl (by exact Nat.le_of_ble_eq_true rfl) dX1_gate_52 (fun r11 u10 => ?_)
    refine v_iconst C.1.1 (-1) (by decide) dX1_gate_55 ?_
    refine v_icmp_eq C.1.1 61 (by decide) dX1_gate_56 (fun _ => ?_) (fun _ => ?_)
    · refine v_iinc C.1.1 1 [(2, .int (x2 + 1)), (0, .ref p0), (1, .int p1)] 2 rfl (by decide) (by decide) rfl dX1_gate_61 ?_
      refine v_goto C.1.1 33 (by decide) dX1_gate_64 ?_
      refine v_sub [1, 2, 0] rfl ?_
      exact hk (x2 + 1) u10
    · refine v_iload_n C.1.1 2 rfl rfl dX1_gate_59 ?_
      exact v_xiret C.1 dX1_gate_60
def hX1_gate (p0 : Nat) (p1 : Int32) (u : HS) : Option (OH (PX Int32)) :=
  mchk (hC u p0 == 1) <|
  hx (hX1_aPerson p0 p1 u) fun _ u1 =>
  mchk (hC u1 p0 == 1) <|
  mderef (hR u1 p0 3) fun a4 =>
  mchk (hC u1 a4 == 3) <|
  hb (hX1_isOf (hI u1 a4 7) p1 u1) fun r8 u7 =>
  if r8 = 0 then
    mchk (hC u7 p0 == 1) <|
    hb (hX1_outBy p0 p1 (-1) u7) fun r10 u9 =>
    if r10 = (-1) then
      ml1 (hX1_gate_33 p0 p1) FUEL 0 u9
    else
      hret (.inl (-1)) u9
  else
    hret (.inl (-1)) u7
theorem ctX1_gate (t : TT) (G : GH) (l : Launch) (hl0 : l.stackTraces = false) (p0 : Nat) (p1 : Int32) (u : HS) : CtX mkI t G l yX1_gate cX1_gate 3 (some .int) 426 [.ref p0, .int p1] u (hX1_gate p0 p1 u) := by
  refine ctX_of [(0, .ref p0), (1, .int p1)] hl0 rfl (Nat.le_of_ble_eq_true rfl) rfl (fun K1 K2 p e s m args below meth c C => ?_)
  unfold hX1_gate
  refine v_aload_n C.1.1 0 rfl rfl dX1_gate_0 ?_
  refine v_iload_n C.1.1 1 rfl rfl dX1_gate_1 ?_
  refine v_chk (fun h2 => ?_)
  refine v_callVX C [.int p1] [] (ctX1_aPerson t G l hl0 p0 p1 u) (fun _ _ => cwX1_aPerson C.1 q1380 (by decide)) (recO C.1 (ci := 0) (eq_of_beq h2) (by decide) rfl) rfl rfl (by exact Nat.le_of_ble_eq_true rfl) dX1_gate_2 (fun _ u1 => ?_)
  refine v_aload_n C.1.1 0 rfl rfl dX1_gate_5 ?_
  refine v_chk (fun h3 => ?_)
  refine v_hget C.1 (v := va_rf (hR u1 p0 3)) 0 3 (eq_of_beq h3) (by decide) rfl in_X1 (by decide) (Or.inl q312) (fun _ h => h) (hF_r (ci := 0) (eq_of_beq h3) (by decide)) dX1_gate_6 ?_
  refine v_deref (fun a4 e5 => ?_)
  refine v_chk (fun h6 => ?_)
  refine v_hget C.1 (v := .int (hI u1 a4 7)) 2 7 (eq_of_beq h6) (by decide) rfl in_X3 (by decide) (Or.inr ⟨_, q271⟩) (fun _ h => h) (hF_i (ci := 2) (eq_of_beq h6) (by decide)) dX1_gate_9 ?_
  refine v_iload_n C.1.1 1 rfl rfl dX1_gate_12 ?_
  refine v_callSH C.1 [.int (hI u1 a4 7), .int p1] [] (ctX1_isOf t G l hl0 (hI u1 a4 7) p1 u1) (fun _ _ => cwX1_isOf C.1 q1323 (by decide)) rfl rfl (by exact Nat.le_of_ble_eq_true rfl) dX1_gate_13 (fun r8 u7 => ?_)
  refine v_if_ne C.1.1 29 (by decide) dX1_gate_16 (fun _ => ?_) (fun _ => ?_)
  · refine v_aload_n C.1.1 0 rfl rfl dX1_gate_19 ?_
    refine v_iload_n C.1.1 1 rfl rfl dX1_gate_20 ?_
    refine v_iconst C.1.1 (-1) (by decide) dX1_gate_21 ?_
    refine v_chk (fun h11 => ?_)
    refine v_callVH C.1 [.int p1, .int (-1)] [] (ctX1_outBy t G l hl0 p0 p1 (-1) u7) (fun _ _ => cwX1_outBy C.1 q1464 (by decide)) (recO C.1 (ci := 0) (eq_of_beq h11) (by decide) rfl) rfl rfl (by exact Nat.le_of_ble_eq_true rfl) dX1_gate_22 (fun r10 u9 => ?_)
    refine v_iconst C.1.1 (-1) (by decide) dX1_gate_25 ?_
    refine v_icmp_eq C.1.1 31 (by decide) dX1_gate_26 (fun _ => ?_) (fun _ => ?_)
    · refine v_iconst C.1.1 0 (by decide) dX1_gate_31 ?_
      refine v_istore_n C.1.1 [(2, .int 0), (0, .ref p0), (1, .int p1)] rfl (by decide) rfl dX1_gate_32 ?_
      refine v_sub [1, 2, 0] rfl ?_
      exact whX1_gate_33 hl0 C p0 p1 FUEL 0 u9
    · refine v_iconst C.1.1 (-1) (by decide) dX1_gate_29 ?_
      exact v_xiret C.1 dX1_gate_30
  · refine v_iconst C.1.1 (-1) (by decide) dX1_gate_29 ?_
    exact v_xiret C.1 dX1_gate_30
theorem cwX1_gate {t : TT} {G : GH} {l : Launch} {p : Program} {s : State} {m : MethodId} {args : Array Value} {meth : Method} {c : Code} {y0 : MethodName} {cc0 : ByteArray} {nL0 : Nat} {ret0 : Option FieldType} (C : CxH t G l p s m args meth c y0 cc0 nL0 ret0) {index lv mc ms K1 K2 : Nat} (hq : Cond.methodLink y0.cls index yX1_gate ∈ lw_all) (hR : 426 + 1 ≤ lv) : CallW (rmH lv K1 K2) s args y0.cls RX1 index yX1_gate cX1_gate 3 (some .int) (ws_ yX1_gate cX1_gate 3 (some .int)) (rmH 426 mc ms) mc ms 1 :=
  cwV 1 C.1.2.2.2.2.1 (lw_V hq q1473 q1474 q121 q1475) rfl rfl rfl (by decide +kernel) ⟨hR, by show 8 + (3 + 11) + 100 * 426 ≤ 100 * lv; omega⟩
def hX1_chance (p0 : Nat) (p1 : Int32) (p2 : Int32) (u : HS) : Option (OH Int32) :=
  if p2 = 0 then
    hret 10 u
  else
    mchk (hC u p0 == 1) <|
    mderef (hR u p0 2) fun a2 =>
    mchk (hC u a2 == 2) <|
    hb (hX2_isSea a2 p1 u) fun r5 u4 =>
    if r5 = 0 then
      mchk (hC u4 p0 == 1) <|
      mderef (hR u4 p0 2) fun a8 =>
      mchk (hC u4 a8 == 2) <|
      mderef (hR u4 a8 0) fun a11 =>
      mchk (hC u4 a11 == 12) <|
      hb (hJ2_get a11 p1 u4) fun r14 u13 =>
      mchk (hC u13 r14 == 31) <|
      mchk (hC u13 r14 == 31) <|
      hb (hJ16_intValue r14 u13) fun r18 u17 =>
      hret ((10 : Int32) - r18) u17
    else
      hret 10 u4
theorem ctX1_chance (t : TT) (G : GH) (l : Launch) (hl0 : l.stackTraces = false) (p0 : Nat) (p1 : Int32) (p2 : Int32) (u : HS) : CtH mkI t G l yX1_chance cX1_chance 3 (some .int) 6 [.ref p0, .int p1, .int p2] u (hX1_chance p0 p1 p2 u) := by
  refine ctH_of [(0, .ref p0), (1, .int p1), (2, .int p2)] hl0 rfl (Nat.le_of_ble_eq_true rfl) rfl (fun K1 K2 p e s m args below meth c C => ?_)
  unfold hX1_chance
  refine v_iload_n C.1 2 rfl rfl dX1_chance_0 ?_
  refine v_if_eq C.1 15 (by decide) dX1_chance_1 (fun _ => ?_) (fun _ => ?_)
  · refine v_bipush C.1 10 (by decide) dX1_chance_15 ?_
    refine v_goto C.1 42 (by decide) dX1_chance_17 ?_
    exact v_hiret C dX1_chance_42
  · refine v_aload_n C.1 0 rfl rfl dX1_chance_4 ?_
    refine v_chk (fun h1 => ?_)
    refine v_hget C (v := va_rf (hR u p0 2)) 0 2 (eq_of_beq h1) (by decide) rfl in_X1 (by decide) (Or.inl q311) (fun _ h => h) (hF_r (ci := 0) (eq_of_beq h1) (by decide)) dX1_chance_5 ?_
    refine v_deref (fun a2 e3 => ?_)
    refine v_iload_n C.1 1 rfl rfl dX1_chance_8 ?_
    refine v_chk (fun h6 => ?_)
    refine v_callVH C [.int p1] [] (ctX2_isSea t G l hl0 a2 p1 u) (fun _ _ => cwX2_isSea C q1468 (by decide)) (recO C (ci := 1) (eq_of_beq h6) (by decide) rfl) rfl rfl (by exact Nat.le_of_ble_eq_true rfl) dX1_chance_9 (fun r5 u4 => ?_)
    refine v_if_eq C.1 20 (by decide) dX1_chance_12 (fun _ => ?_) (fun _ => ?_)
    · refine v_bipush C.1 10 (by decide) dX1_chance_20 ?_
      refine v_aload_n C.1 0 rfl rfl dX1_chance_22 ?_
      refine v_chk (fun h7 => ?_)
      refine v_hget C (v := va_rf (hR u4 p0 2)) 0 2 (eq_of_beq h7) (by decide) rfl in_X1 (by decide) (Or.inl q311) (fun _ h => h) (hF_r (ci := 0) (eq_of_beq h7) (by decide)) dX1_chance_23 ?_
      refine v_deref (fun a8 e9 => ?_)
      refine v_chk (fun h10 => ?_)
      refine v_hget C (v := va_rf (hR u4 a8 0)) 1 0 (eq_of_beq h10) (by decide) rfl in_X2 (by decide) (Or.inr ⟨_, q197⟩) (fun _ h => h) (hF_r (ci := 1) (eq_of_beq h10) (by decide)) dX1_chance_26 ?_
      refine v_deref (fun a11 e12 => ?_)
      refine v_iload_n C.1 1 rfl rfl dX1_chance_29 ?_
      refine v_chk (fun h15 => ?_)
      refine v_callFH C [.int p1] [.int 10] (ctJ2_get t G l hl0 a11 p1 u4) (fun _ _ => cwJ2_getF C q1368 (by decide)) (eq_of_beq h15) (by decide) rfl rfl rfl (by exact Nat.le_of_ble_eq_true rfl) dX1_chance_30 (fun r14 u13 => ?_)
      refine v_chk (fun h16 => ?_)
      refine v_hcastB C (eq_of_beq h16) q1369 dX1_chance_35 ?_
      refine v_chk (fun h19 => ?_)
      refine v_callVH C [] [.int 10] (ctJ16_intValue t G l hl0 r14 u13) (fun _ _ => cwJ16_intValue C q1370 (by decide)) (recB C (eq_of_beq h19)) rfl rfl (by exact Nat.le_of_ble_eq_true rfl) dX1_chance_38 (fun r18 u17 => ?_)
      refine v_isub C.1 dX1_chance_41 ?_
      exact v_hiret C dX1_chance_42
    · refine v_bipush C.1 10 (by decide) dX1_chance_15 ?_
      refine v_goto C.1 42 (by decide) dX1_chance_17 ?_
      exact v_hiret C dX1_chance_42
theorem cwX1_chance {t : TT} {G : GH} {l : Launch} {p : Program} {s : State} {m : MethodId} {args : Array Value} {meth : Method} {c : Code} {y0 : MethodName} {cc0 : ByteArray} {nL0 : Nat} {ret0 : Option FieldType} (C : CxH t G l p s m args meth c y0 cc0 nL0 ret0) {index lv mc ms K1 K2 : Nat} (hq : Cond.methodLink y0.cls index yX1_chance ∈ lw_all) (hR : 6 + 1 ≤ lv) : CallW (rmH lv K1 K2) s args y0.cls RX1 index yX1_chance cX1_chance 3 (some .int) (ws_ yX1_chance cX1_chance 3 (some .int)) (rmH 6 mc ms) mc ms 2 :=
  cwV 2 C.1.2.2.2.2.1 (lw_V hq q1485 qs44 q121 q1486) rfl rfl rfl (by decide +kernel) ⟨hR, by show 8 + (3 + 11) + 100 * 6 ≤ 100 * lv; omega⟩
def hX1_surest_194 (p0 : Nat) (p1 : Int32) (p2 : Int32) (k98 : Int32 → Int32 → Nat → Int32 → HS → Option (OH (PX Int32))) (k174 : Int32 → Int32 → Int32 → Nat → Nat → Int32 → HS → Option (OH (PX Int32))) (k : Int32 → Int32 → Int32 → Nat → Nat → Int32 → Int32 → HS → Option (OH (PX Int32))) (x3 : Int32) (x4 : Int32) (x6 : Int32) (x7 : Nat) (x8 : Nat) (x9 : Int32) (x10 : Int32) (u : HS) : Option (OH (PX Int32)) :=
  mchk (hC u p0 == 1) <|
  mderef (hR u p0 2) fun a2 =>
  mchk (hC u a2 == 2) <|
  mderef (hR u a2 2) fun a5 =>
  mchk (hC u a5 == 12) <|
  hb (hJ2_size a5 u) fun r8 u7 =>
  if r8 ≤ x10 then
    k174 x3 x4 x6 x7 x8 (x9 + 1) u7
  else
    mchk (hC u7 p0 == 1) <|
    mderef (hR u7 p0 2) fun a11 =>
    mchk (hC u7 a11 == 2) <|
    hb (hX2_isSea a11 x9 u7) fun r14 u13 =>
    if r14 = 0 then
      mchk (hC u13 p0 == 1) <|
      mderef (hR u13 p0 2) fun a17 =>
      mchk (hC u13 a17 == 2) <|
      mderef (hR u13 a17 2) fun a20 =>
      mchk (hC u13 a20 == 12) <|
      hb (hJ2_get a20 x10 u13) fun r23 u22 =>
      mchk (hC u22 r23 == 7) <|
      mchk (hC u22 r23 == 7) <|
      if (hI u22 r23 2) ≤ x6 then
        k x3 x4 x6 x7 x8 x9 (x10 + 1) u22
      else
        mchk (hC u22 r23 == 7) <|
        hb (hX7_from r23 x9 u22) fun r28 u27 =>
        if r28 = (-1) then
          k x3 x4 x6 x7 x8 x9 (x10 + 1) u27
        else
          mchk (inA u27 x9 x8 21) <|
          mchk (hC u27 r23 == 7) <|
          hb (hX7_from r23 x9 u27) fun r32 u31 =>
          mchk (inA u31 r32 x7 21) <|
          mchk (inA u31 x9 x8 21) <|
          mlet (uA u31 x8 x9.toNatClampNeg (iMax (hA u27 x8 x9.toNatClampNeg) (hA u31 x7 r32.toNatClampNeg))) fun u35 =>
          k x3 x4 x6 x7 x8 x9 (x10 + 1) u35
    else
      k174 x3 x4 x6 x7 x8 (x9 + 1) u13
theorem whX1_surest_194 {K1 K2 : Nat} {p : Program} {e : Env} {s : State} {m : MethodId} {args : Array Value} {below : List Frame} {meth : Method} {c : Code} (hl0 : l.stackTraces = false) (C : CxX t G l p s m args meth c yX1_surest cX1_surest 12 (some .int)) (p0 : Nat) (p1 : Int32) (p2 : Int32) (k98 : Int32 → Int32 → Nat → Int32 → HS → Option (OH (PX Int32))) (k174 : Int32 → Int32 → Int32 → Nat → Nat → Int32 → HS → Option (OH (PX Int32))) (hk98 : ∀ (x3 : Int32) (x4 : Int32) (x5 : Nat) (x6 : Int32) (u : HS), VX mkI t G p l e 425 K1 K2 s m args below meth c 12 98 [(0, .ref p0), (1, .int p1), (3, .int x3), (4, .int x4), (5, .ref x5), (6, .int x6)] [] u (k98 x3 x4 x5 x6 u)) (hk174 : ∀ (x3 : Int32) (x4 : Int32) (x6 : Int32) (x7 : Nat) (x8 : Nat) (x9 : Int32) (u : HS), VX mkI t G p l e 425 K1 K2 s m args below meth c 12 174 [(0, .ref p0), (1, .int p1), (3, .int x3), (4, .int x4), (6, .int x6), (7, .ref x7), (8, .ref x8), (9, .int x9)] [] u (k174 x3 x4 x6 x7 x8 x9 u)) (n : Nat) (x3 : Int32) (x4 : Int32) (x6 : Int32) (x7 : Nat) (x8 : Nat) (x9 : Int32) (x10 : Int32) (u : HS) : VX mkI t G p l e 425 K1 K2 s m args below meth c 12 194 [(0, .ref p0), (1, .int p1), (3, .int x3), (4, .int x4), (6, .int x6), (7, .ref x7), (8, .ref x8), (9, .int x9), (10, .int x10)] [] u (ml7 (hX1_surest_194 p0 p1 p2 k98 k174) n x3 x4 x6 x7 x8 x9 x10 u) := by
  refine vl7 (L := fun x3 x4 x6 x7 x8 x9 x10 => [(0, .ref p0), (1, .int p1), (3, .int x3), (4, .int x4), (6, .int x6), (7, .ref x7), (8, .ref x8), (9, .int x9), (10, .int x10)]) (fun k hk x3 x4 x6 x7 x8 x9 x10 u => ?_) n x3 x4 x6 x7 x8 x9 x10 u
  unfold hX1_surest_194
  refine v_iload C.1.1 8 rfl dX1_surest_194 ?_
  refine v_aload_n C.1.1 0 rfl rfl dX1_surest_196 ?_
  refine v_chk (fun h1 => ?_)
  refine v_hget C.1 (v := va_rf (hR u p0 2)) 0 2 (eq_of_beq h1) (by decide) rfl in_X1 (by decide) (Or.inl q311) (fun _ h => h) (hF_r (ci := 0) (eq_of_beq h1) (by decide)) dX1_surest_197 ?_
  refine v_deref (fun a2 e3 => ?_)
  refine v_chk (fun h4 => ?_)
  refine v_hget C.1 (v := va_rf (hR u a2 2)) 1 2 (eq_of_beq h4) (by decide) rfl in_X2 (by decide) (Or.inr ⟨_, q205⟩) (fun _ h => h) (hF_r (ci := 1) (eq_of_beq h4) (by decide)) dX1_surest_200 ?_
  refine v_deref (fun a5 e6 => ?_)
  refine v_chk (fun h9 => ?_)
  refine v_callFH C.1 [] [.int x10] (ctJ2_size t G l hl0 a5 u) (fun _ _ => cwJ2_sizeF C.1 q453 (by decide)) (eq_of_beq h9) (by decide) rfl rfl rfl (by exact Nat.le_of_ble_eq_true rfl) dX1_surest_203 (fun r8 u7 => ?_)
  refine v_icmp_ge C.1.1 292 (by decide) dX1_surest_208 (fun _ => ?_) (fun _ => ?_)
  · refine v_iinc C.1.1 1 [(9, .int (x9 + 1)), (0, .ref p0), (1, .int p1), (3, .int x3), (4, .int x4), (6, .int x6), (7, .ref x7), (8, .ref x8), (10, .int x10)] 7 rfl (by decide) (by decide) rfl dX1_surest_292 ?_
    refine v_goto C.1.1 174 (by decide) dX1_surest_295 ?_
    refine v_sub [1, 2, 3, 4, 5, 6, 7, 0] rfl ?_
    exact hk174 x3 x4 x6 x7 x8 (x9 + 1) u7
  · refine v_aload_n C.1.1 0 rfl rfl dX1_surest_211 ?_
    refine v_chk (fun h10 => ?_)
    refine v_hget C.1 (v := va_rf (hR u7 p0 2)) 0 2 (eq_of_beq h10) (by decide) rfl in_X1 (by decide) (Or.inl q311) (fun _ h => h) (hF_r (ci := 0) (eq_of_beq h10) (by decide)) dX1_surest_212 ?_
    refine v_deref (fun a11 e12 => ?_)
    refine v_iload C.1.1 7 rfl dX1_surest_215 ?_
    refine v_chk (fun h15 => ?_)
    refine v_callVH C.1 [.int x9] [] (ctX2_isSea t G l hl0 a11 x9 u7) (fun _ _ => cwX2_isSea C.1 q1468 (by decide)) (recO C.1 (ci := 1) (eq_of_beq h15) (by decide) rfl) rfl rfl (by exact Nat.le_of_ble_eq_true rfl) dX1_surest_217 (fun r14 u13 => ?_)
    refine v_if_ne C.1.1 292 (by decide) dX1_surest_220 (fun _ => ?_) (fun _ => ?_)
    · refine v_aload_n C.1.1 0 rfl rfl dX1_surest_223 ?_
      refine v_chk (fun h16 => ?_)
      refine v_hget C.1 (v := va_rf (hR u13 p0 2)) 0 2 (eq_of_beq h16) (by decide) rfl in_X1 (by decide) (Or.inl q311) (fun _ h => h) (hF_r (ci := 0) (eq_of_beq h16) (by decide)) dX1_surest_224 ?_
      refine v_deref (fun a17 e18 => ?_)
      refine v_chk (fun h19 => ?_)
      refine v_hget C.1 (v := va_rf (hR u13 a17 2)) 1 2 (eq_of_beq h19) (by decide) rfl in_X2 (by decide) (Or.inr ⟨_, q205⟩) (fun _ h => h) (hF_r (ci := 1) (eq_of_beq h19) (by decide)) dX1_surest_227 ?_
      refine v_deref (fun a20 e21 => ?_)
      refine v_iload C.1.1 8 rfl dX1_surest_230 ?_
      refine v_chk (fun h24 => ?_)
      refine v_callFH C.1 [.int x10] [] (ctJ2_get t G l hl0 a20 x10 u13) (fun _ _ => cwJ2_getF C.1 q1368 (by decide)) (eq_of_beq h24) (by decide) rfl rfl rfl (by exact Nat.le_of_ble_eq_true rfl) dX1_surest_232 (fun r23 u22 => ?_)
      refine v_chk (fun h25 => ?_)
      refine v_hcastS C.1 6 (eq_of_beq h25) (by decide) rfl q1371 dX1_surest_237 ?_
      refine v_astore C.1.1 [(11, .ref r23), (0, .ref p0), (1, .int p1), (3, .int x3), (4, .int x4), (6, .int x6), (7, .ref x7), (8, .ref x8), (9, .int x9), (10, .int x10)] (by decide) rfl dX1_surest_240 ?_
      refine v_iload C.1.1 5 rfl dX1_surest_242 ?_
      refine v_aload C.1.1 0 rfl dX1_surest_244 ?_
      refine v_chk (fun h26 => ?_)
      refine v_hget C.1 (v := .int (hI u22 r23 2)) 6 2 (eq_of_beq h26) (by decide) rfl in_X7 (by decide) (Or.inr ⟨_, q1094⟩) (fun _ h => h) (hF_i (ci := 6) (eq_of_beq h26) (by decide)) dX1_surest_246 ?_
      refine v_icmp_ge C.1.1 286 (by decide) dX1_surest_249 (fun _ => ?_) (fun _ => ?_)
      · refine v_iinc C.1.1 1 [(10, .int (x10 + 1)), (11, .ref r23), (0, .ref p0), (1, .int p1), (3, .int x3), (4, .int x4), (6, .int x6), (7, .ref x7), (8, .ref x8), (9, .int x9)] 9 rfl (by decide) (by decide) rfl dX1_surest_286 ?_
        refine v_goto C.1.1 194 (by decide) dX1_surest_289 ?_
        refine v_sub [2, 3, 4, 5, 6, 7, 8, 9, 0] rfl ?_
        exact hk x3 x4 x6 x7 x8 x9 (x10 + 1) u22
      · refine v_aload C.1.1 0 rfl dX1_surest_252 ?_
        refine v_iload C.1.1 8 rfl dX1_surest_254 ?_
        refine v_chk (fun h29 => ?_)
        refine v_callVH C.1 [.int x9] [] (ctX7_from t G l hl0 r23 x9 u22) (fun _ _ => cwX7_from C.1 q1372 (by decide)) (recO C.1 (ci := 6) (eq_of_beq h29) (by decide) rfl) rfl rfl (by exact Nat.le_of_ble_eq_true rfl) dX1_surest_256 (fun r28 u27 => ?_)
        refine v_iconst C.1.1 (-1) (by decide) dX1_surest_259 ?_
        refine v_icmp_eq C.1.1 286 (by decide) dX1_surest_260 (fun _ => ?_) (fun _ => ?_)
        · refine v_iinc C.1.1 1 [(10, .int (x10 + 1)), (11, .ref r23), (0, .ref p0), (1, .int p1), (3, .int x3), (4, .int x4), (6, .int x6), (7, .ref x7), (8, .ref x8), (9, .int x9)] 9 rfl (by decide) (by decide) rfl dX1_surest_286 ?_
          refine v_goto C.1.1 194 (by decide) dX1_surest_289 ?_
          refine v_sub [2, 3, 4, 5, 6, 7, 8, 9, 0] rfl ?_
          exact hk x3 x4 x6 x7 x8 x9 (x10 + 1) u27
        · refine v_aload C.1.1 7 rfl dX1_surest_263 ?_
          refine v_iload C.1.1 8 rfl dX1_surest_265 ?_
          refine v_aload C.1.1 7 rfl dX1_surest_267 ?_
          refine v_iload C.1.1 8 rfl dX1_surest_269 ?_
          refine v_chk (fun h30 => ?_)
          refine v_haiald C.1 h30 dX1_surest_271 ?_
          refine v_aload C.1.1 6 rfl dX1_surest_272 ?_
          refine v_aload C.1.1 0 rfl dX1_surest_274 ?_
          refine v_iload C.1.1 8 rfl dX1_surest_276 ?_
          refine v_chk (fun h33 => ?_)
          refine v_callVH C.1 [.int x9] [.ref x7, .int (hA u27 x8 x9.toNatClampNeg), .int x9, .ref x8] (ctX7_from t G l hl0 r23 x9 u27) (fun _ _ => cwX7_from C.1 q1372 (by decide)) (recO C.1 (ci := 6) (eq_of_beq h33) (by decide) rfl) rfl rfl (by exact Nat.le_of_ble_eq_true rfl) dX1_surest_278 (fun r32 u31 => ?_)
          refine v_chk (fun h34 => ?_)
          refine v_haiald C.1 h34 dX1_surest_281 ?_
          refine v_mmax C.1 q1487 q409 q133 q410 (by exact Nat.le_of_ble_eq_true rfl) (by exact Nat.le_of_ble_eq_true rfl) dX1_surest_282 ?_
          refine v_chk (fun h36 => ?_)
          refine v_haiast C.1 h36 dX1_surest_285 (fun u35 => ?_)
          refine v_iinc C.1.1 1 [(10, .int (x10 + 1)), (11, .ref r23), (0, .ref p0), (1, .int p1), (3, .int x3), (4, .int x4), (6, .int x6), (7, .ref x7), (8, .ref x8), (9, .int x9)] 9 rfl (by decide) (by decide) rfl dX1_surest_286 ?_
          refine v_goto C.1.1 194 (by decide) dX1_surest_289 ?_
          refine v_sub [2, 3, 4, 5, 6, 7, 8, 9, 0] rfl ?_
          exact hk x3 x4 x6 x7 x8 x9 (x10 + 1) u35
    · refine v_iinc C.1.1 1 [(9, .int (x9 + 1)), (0, .ref p0), (1, .int p1), (3, .int x3), (4, .int x4), (6, .int x6), (7, .ref x7), (8, .ref x8), (10, .int x10)] 7 rfl (by decide) (by decide) rfl dX1_surest_292 ?_
      refine v_goto C.1.1 174 (by decide) dX1_surest_295 ?_
      refine v_sub [1, 2, 3, 4, 5, 6, 7, 0] rfl ?_
      exact hk174 x3 x4 x6 x7 x8 (x9 + 1) u13
def hX1_surest_174 (p0 : Nat) (p1 : Int32) (p2 : Int32) (k98 : Int32 → Int32 → Nat → Int32 → HS → Option (OH (PX Int32))) (k : Int32 → Int32 → Int32 → Nat → Nat → Int32 → HS → Option (OH (PX Int32))) (x3 : Int32) (x4 : Int32) (x6 : Int32) (x7 : Nat) (x8 : Nat) (x9 : Int32) (u : HS) : Option (OH (PX Int32)) :=
  if x4 ≤ x9 then
    k98 x3 x4 x8 (x6 + (-1)) u
  else
    mchk (inA u x9 x7 21) <|
    mchk (inA u x9 x8 21) <|
    mlet (uA u x8 x9.toNatClampNeg (hA u x7 x9.toNatClampNeg)) fun u2 =>
    ml7 (hX1_surest_194 p0 p1 p2 k98 k) FUEL x3 x4 x6 x7 x8 x9 0 u2
theorem whX1_surest_174 {K1 K2 : Nat} {p : Program} {e : Env} {s : State} {m : MethodId} {args : Array Value} {below : List Frame} {meth : Method} {c : Code} (hl0 : l.stackTraces = false) (C : CxX t G l p s m args meth c yX1_surest cX1_surest 12 (some .int)) (p0 : Nat) (p1 : Int32) (p2 : Int32) (k98 : Int32 → Int32 → Nat → Int32 → HS → Option (OH (PX Int32))) (hk98 : ∀ (x3 : Int32) (x4 : Int32) (x5 : Nat) (x6 : Int32) (u : HS), VX mkI t G p l e 425 K1 K2 s m args below meth c 12 98 [(0, .ref p0), (1, .int p1), (3, .int x3), (4, .int x4), (5, .ref x5), (6, .int x6)] [] u (k98 x3 x4 x5 x6 u)) (n : Nat) (x3 : Int32) (x4 : Int32) (x6 : Int32) (x7 : Nat) (x8 : Nat) (x9 : Int32) (u : HS) : VX mkI t G p l e 425 K1 K2 s m args below meth c 12 174 [(0, .ref p0), (1, .int p1), (3, .int x3), (4, .int x4), (6, .int x6), (7, .ref x7), (8, .ref x8), (9, .int x9)] [] u (ml6 (hX1_surest_174 p0 p1 p2 k98) n x3 x4 x6 x7 x8 x9 u) := by
  refine vl6 (L := fun x3 x4 x6 x7 x8 x9 => [(0, .ref p0), (1, .int p1), (3, .int x3), (4, .int x4), (6, .int x6), (7, .ref x7), (8, .ref x8), (9, .int x9)]) (fun k hk x3 x4 x6 x7 x8 x9 u => ?_) n x3 x4 x6 x7 x8 x9 u
  unfold hX1_surest_174
  refine v_iload C.1.1 7 rfl dX1_surest_174 ?_
  refine v_iload C.1.1 3 rfl dX1_surest_176 ?_
  refine v_icmp_ge C.1.1 298 (by decide) dX1_surest_178 (fun _ => ?_) (fun _ => ?_)
  · refine v_aload C.1.1 6 rfl dX1_surest_298 ?_
    refine v_astore C.1.1 [(5, .ref x8), (0, .ref p0), (1, .int p1), (3, .int x3), (4, .int x4), (6, .int x6), (7, .ref x7), (8, .ref x8), (9, .int x9)] (by decide) rfl dX1_surest_300 ?_
    refine v_iinc C.1.1 (-1) [(6, .int (x6 + (-1))), (5, .ref x8), (0, .ref p0), (1, .int p1), (3, .int x3), (4, .int x4), (7, .ref x7), (8, .ref x8), (9, .int x9)] 5 rfl (by decide) (by decide) rfl dX1_surest_302 ?_
    refine v_goto C.1.1 98 (by decide) dX1_surest_305 ?_
    refine v_sub [2, 3, 4, 5, 1, 0] rfl ?_
    exact hk98 x3 x4 x8 (x6 + (-1)) u
  · refine v_aload C.1.1 6 rfl dX1_surest_181 ?_
    refine v_iload C.1.1 7 rfl dX1_surest_183 ?_
    refine v_aload C.1.1 5 rfl dX1_surest_185 ?_
    refine v_iload C.1.1 7 rfl dX1_surest_187 ?_
    refine v_chk (fun h1 => ?_)
    refine v_haiald C.1 h1 dX1_surest_189 ?_
    refine v_chk (fun h3 => ?_)
    refine v_haiast C.1 h3 dX1_surest_190 (fun u2 => ?_)
    refine v_iconst C.1.1 0 (by decide) dX1_surest_191 ?_
    refine v_istore C.1.1 [(10, .int 0), (0, .ref p0), (1, .int p1), (3, .int x3), (4, .int x4), (6, .int x6), (7, .ref x7), (8, .ref x8), (9, .int x9)] (by decide) rfl dX1_surest_192 ?_
    refine v_sub [1, 2, 3, 4, 5, 6, 7, 8, 0] rfl ?_
    exact whX1_surest_194 hl0 C p0 p1 p2 k98 k hk98 hk FUEL x3 x4 x6 x7 x8 x9 0 u2
def hX1_surest_160 (p0 : Nat) (p1 : Int32) (p2 : Int32) (k98 : Int32 → Int32 → Nat → Int32 → HS → Option (OH (PX Int32))) (k125 : Int32 → Int32 → Nat → Int32 → Nat → Nat → Int32 → HS → Option (OH (PX Int32))) (x3 : Int32) (x4 : Int32) (x5 : Nat) (x6 : Int32) (x7 : Nat) (x8 : Nat) (x9 : Int32) (s0 : Nat) (s1 : Int32) (s2 : Int32) (s3 : Nat) (s4 : Int32) (s5 : Int32) (u : HS) : Option (OH (PX Int32)) :=
  mchk (hC u s3 == 1) <|
  hb (hX1_chance s3 s4 s5 u) fun r2 u1 =>
  mchk (inA u1 s1 s0 21) <|
  mlet (uA u1 s0 s1.toNatClampNeg (s2 * r2)) fun u4 =>
  k125 x3 x4 x5 x6 x7 x8 (x9 + 1) u4
theorem whX1_surest_160 {K1 K2 : Nat} {p : Program} {e : Env} {s : State} {m : MethodId} {args : Array Value} {below : List Frame} {meth : Method} {c : Code} (hl0 : l.stackTraces = false) (C : CxX t G l p s m args meth c yX1_surest cX1_surest 12 (some .int)) (p0 : Nat) (p1 : Int32) (p2 : Int32) (k98 : Int32 → Int32 → Nat → Int32 → HS → Option (OH (PX Int32))) (k125 : Int32 → Int32 → Nat → Int32 → Nat → Nat → Int32 → HS → Option (OH (PX Int32))) (hk98 : ∀ (x3 : Int32) (x4 : Int32) (x5 : Nat) (x6 : Int32) (u : HS), VX mkI t G p l e 425 K1 K2 s m args below meth c 12 98 [(0, .ref p0), (1, .int p1), (3, .int x3), (4, .int x4), (5, .ref x5), (6, .int x6)] [] u (k98 x3 x4 x5 x6 u)) (hk125 : ∀ (x3 : Int32) (x4 : Int32) (x5 : Nat) (x6 : Int32) (x7 : Nat) (x8 : Nat) (x9 : Int32) (u : HS), VX mkI t G p l e 425 K1 K2 s m args below meth c 12 125 [(0, .ref p0), (1, .int p1), (3, .int x3), (4, .int x4), (5, .ref x5), (6, .int x6), (7, .ref x7), (8, .ref x8), (9, .int x9)] [] u (k125 x3 x4 x5 x6 x7 x8 x9 u)) (x3 : Int32) (x4 : Int32) (x5 : Nat) (x6 : Int32) (x7 : Nat) (x8 : Nat) (x9 : Int32) (s0 : Nat) (s1 : Int32) (s2 : Int32) (s3 : Nat) (s4 : Int32) (s5 : Int32) (u : HS) : VX mkI t G p l e 425 K1 K2 s m args below meth c 12 160 [(0, .ref p0), (1, .int p1), (3, .int x3), (4, .int x4), (5, .ref x5), (6, .int x6), (7, .ref x7), (8, .ref x8), (9, .int x9)] [.int s5, .int s4, .ref s3, .int s2, .int s1, .ref s0] u (hX1_surest_160 p0 p1 p2 k98 k125 x3 x4 x5 x6 x7 x8 x9 s0 s1 s2 s3 s4 s5 u) := by
  unfold hX1_surest_160
  refine v_chk (fun h3 => ?_)
  refine v_callVH C.1 [.int s4, .int s5] [.int s2, .int s1, .ref s0] (ctX1_chance t G l hl0 s3 s4 s5 u) (fun _ _ => cwX1_chance C.1 q1483 (by decide)) (recO C.1 (ci := 0) (eq_of_beq h3) (by decide) rfl) rfl rfl (by exact Nat.le_of_ble_eq_true rfl) dX1_surest_160 (fun r2 u1 => ?_)
  refine v_imul C.1.1 dX1_surest_163 ?_
  refine v_chk (fun h5 => ?_)
  refine v_haiast C.1 h5 dX1_surest_164 (fun u4 => ?_)
  refine v_iinc C.1.1 1 [(9, .int (x9 + 1)), (0, .ref p0), (1, .int p1), (3, .int x3), (4, .int x4), (5, .ref x5), (6, .int x6), (7, .ref x7), (8, .ref x8)] 8 rfl (by decide) (by decide) rfl dX1_surest_165 ?_
  refine v_goto C.1.1 125 (by decide) dX1_surest_168 ?_
  refine v_sub [1, 2, 3, 4, 5, 6, 7, 8, 0] rfl ?_
  exact hk125 x3 x4 x5 x6 x7 x8 (x9 + 1) u4
def hX1_surest_125 (p0 : Nat) (p1 : Int32) (p2 : Int32) (k98 : Int32 → Int32 → Nat → Int32 → HS → Option (OH (PX Int32))) (k : Int32 → Int32 → Nat → Int32 → Nat → Nat → Int32 → HS → Option (OH (PX Int32))) (x3 : Int32) (x4 : Int32) (x5 : Nat) (x6 : Int32) (x7 : Nat) (x8 : Nat) (x9 : Int32) (u : HS) : Option (OH (PX Int32)) :=
  if x4 ≤ x9 then
    ml6 (hX1_surest_174 p0 p1 p2 k98) FUEL x3 x4 x6 x7 x8 0 u
  else
    mchk (inA u x9 x5 21) <|
    if x3 = (-1) then
      hX1_surest_160 p0 p1 p2 k98 k x3 x4 x5 x6 x7 x8 x9 x7 x9 (hA u x5 x9.toNatClampNeg) p0 x9 0 u
    else
      if x6 < x3 then
        hX1_surest_160 p0 p1 p2 k98 k x3 x4 x5 x6 x7 x8 x9 x7 x9 (hA u x5 x9.toNatClampNeg) p0 x9 0 u
      else
        hX1_surest_160 p0 p1 p2 k98 k x3 x4 x5 x6 x7 x8 x9 x7 x9 (hA u x5 x9.toNatClampNeg) p0 x9 1 u
theorem whX1_surest_125 {K1 K2 : Nat} {p : Program} {e : Env} {s : State} {m : MethodId} {args : Array Value} {below : List Frame} {meth : Method} {c : Code} (hl0 : l.stackTraces = false) (C : CxX t G l p s m args meth c yX1_surest cX1_surest 12 (some .int)) (p0 : Nat) (p1 : Int32) (p2 : Int32) (k98 : Int32 → Int32 → Nat → Int32 → HS → Option (OH (PX Int32))) (hk98 : ∀ (x3 : Int32) (x4 : Int32) (x5 : Nat) (x6 : Int32) (u : HS), VX mkI t G p l e 425 K1 K2 s m args below meth c 12 98 [(0, .ref p0), (1, .int p1), (3, .int x3), (4, .int x4), (5, .ref x5), (6, .int x6)] [] u (k98 x3 x4 x5 x6 u)) (n : Nat) (x3 : Int32) (x4 : Int32) (x5 : Nat) (x6 : Int32) (x7 : Nat) (x8 : Nat) (x9 : Int32) (u : HS) : VX mkI t G p l e 425 K1 K2 s m args below meth c 12 125 [(0, .ref p0), (1, .int p1), (3, .int x3), (4, .int x4), (5, .ref x5), (6, .int x6), (7, .ref x7), (8, .ref x8), (9, .int x9)] [] u (ml7 (hX1_surest_125 p0 p1 p2 k98) n x3 x4 x5 x6 x7 x8 x9 u) := by
  refine vl7 (L := fun x3 x4 x5 x6 x7 x8 x9 => [(0, .ref p0), (1, .int p1), (3, .int x3), (4, .int x4), (5, .ref x5), (6, .int x6), (7, .ref x7), (8, .ref x8), (9, .int x9)]) (fun k hk x3 x4 x5 x6 x7 x8 x9 u => ?_) n x3 x4 x5 x6 x7 x8 x9 u
  unfold hX1_surest_125
  refine v_iload C.1.1 8 rfl dX1_surest_125 ?_
  refine v_iload C.1.1 3 rfl dX1_surest_127 ?_
  refine v_icmp_ge C.1.1 171 (by decide) dX1_surest_129 (fun _ => ?_) (fun _ => ?_)
  · refine v_iconst C.1.1 0 (by decide) dX1_surest_171 ?_
    refine v_istore C.1.1 [(9, .int 0), (0, .ref p0), (1, .int p1), (3, .int x3), (4, .int x4), (5, .ref x5), (6, .int x6), (7, .ref x7), (8, .ref x8)] (by decide) rfl dX1_surest_172 ?_
    refine v_sub [1, 2, 3, 4, 6, 7, 8, 0] rfl ?_
    exact whX1_surest_174 hl0 C p0 p1 p2 k98 hk98 FUEL x3 x4 x6 x7 x8 0 u
  · refine v_aload C.1.1 6 rfl dX1_surest_132 ?_
    refine v_iload C.1.1 8 rfl dX1_surest_134 ?_
    refine v_aload C.1.1 4 rfl dX1_surest_136 ?_
    refine v_iload C.1.1 8 rfl dX1_surest_138 ?_
    refine v_chk (fun h1 => ?_)
    refine v_haiald C.1 h1 dX1_surest_140 ?_
    refine v_aload_n C.1.1 0 rfl rfl dX1_surest_141 ?_
    refine v_iload C.1.1 8 rfl dX1_surest_142 ?_
    refine v_iload_n C.1.1 2 rfl rfl dX1_surest_144 ?_
    refine v_iconst C.1.1 (-1) (by decide) dX1_surest_145 ?_
    refine v_icmp_eq C.1.1 159 (by decide) dX1_surest_146 (fun _ => ?_) (fun _ => ?_)
    · refine v_iconst C.1.1 0 (by decide) dX1_surest_159 ?_
      exact whX1_surest_160 hl0 C p0 p1 p2 k98 k hk98 hk x3 x4 x5 x6 x7 x8 x9 x7 x9 (hA u x5 x9.toNatClampNeg) p0 x9 0 u
    · refine v_iload_n C.1.1 2 rfl rfl dX1_surest_149 ?_
      refine v_iload C.1.1 5 rfl dX1_surest_150 ?_
      refine v_icmp_gt C.1.1 159 (by decide) dX1_surest_152 (fun _ => ?_) (fun _ => ?_)
      · refine v_iconst C.1.1 0 (by decide) dX1_surest_159 ?_
        exact whX1_surest_160 hl0 C p0 p1 p2 k98 k hk98 hk x3 x4 x5 x6 x7 x8 x9 x7 x9 (hA u x5 x9.toNatClampNeg) p0 x9 0 u
      · refine v_iconst C.1.1 1 (by decide) dX1_surest_155 ?_
        refine v_goto C.1.1 160 (by decide) dX1_surest_156 ?_
        exact whX1_surest_160 hl0 C p0 p1 p2 k98 k hk98 hk x3 x4 x5 x6 x7 x8 x9 x7 x9 (hA u x5 x9.toNatClampNeg) p0 x9 1 u
def hX1_surest_98 (p0 : Nat) (p1 : Int32) (p2 : Int32) (k : Int32 → Int32 → Nat → Int32 → HS → Option (OH (PX Int32))) (x3 : Int32) (x4 : Int32) (x5 : Nat) (x6 : Int32) (u : HS) : Option (OH (PX Int32)) :=
  mchk (hC u p0 == 1) <|
  mderef (hR u p0 3) fun a2 =>
  mchk (hC u a2 == 3) <|
  if x6 < (hI u a2 6) then
    mchk (hC u p0 == 1) <|
    mderef (hR u p0 3) fun a6 =>
    mchk (hC u a6 == 3) <|
    mderef (hR u a6 2) fun a9 =>
    mchk (inA u p1 a9 21) <|
    mchk (inA u (hA u a9 p1.toNatClampNeg) x5 21) <|
    hret (.inl (hA u x5 (hA u a9 p1.toNatClampNeg).toNatClampNeg)) u
  else
    mchk (!(decide (x4 < 0)) && decide (x4.toNatClampNeg ≤ 60000000)) <|
    mlet (hZ u) fun a5 =>
    addc 1 (x4.toNatClampNeg) <|
    mlet (nA u 1 (x4.toNatClampNeg)) fun u7 =>
    mchk (!(decide (x4 < 0)) && decide (x4.toNatClampNeg ≤ 60000000)) <|
    mlet (hZ u7) fun a9 =>
    addc 1 (x4.toNatClampNeg) <|
    mlet (nA u7 1 (x4.toNatClampNeg)) fun u11 =>
    ml7 (hX1_surest_125 p0 p1 p2 k) FUEL x3 x4 x5 x6 a5 a9 0 u11
theorem whX1_surest_98 {K1 K2 : Nat} {p : Program} {e : Env} {s : State} {m : MethodId} {args : Array Value} {below : List Frame} {meth : Method} {c : Code} (hl0 : l.stackTraces = false) (C : CxX t G l p s m args meth c yX1_surest cX1_surest 12 (some .int)) (p0 : Nat) (p1 : Int32) (p2 : Int32) (n : Nat) (x3 : Int32) (x4 : Int32) (x5 : Nat) (x6 : Int32) (u : HS) : VX mkI t G p l e 425 K1 K2 s m args below meth c 12 98 [(0, .ref p0), (1, .int p1), (3, .int x3), (4, .int x4), (5, .ref x5), (6, .int x6)] [] u (ml4 (hX1_surest_98 p0 p1 p2) n x3 x4 x5 x6 u) := by
  refine vl4 (L := fun x3 x4 x5 x6 => [(0, .ref p0), (1, .int p1), (3, .int x3), (4, .int x4), (5, .ref x5), (6, .int x6)]) (fun k hk x3 x4 x5 x6 u => ?_) n x3 x4 x5 x6 u
  unfold hX1_surest_98
  refine v_iload C.1.1 5 rfl dX1_surest_98 ?_
  refine v_aload_n C.1.1 0 rfl rfl dX1_surest_100 ?_
  refine v_chk (fun h1 => ?_)
  refine v_hget C.1 (v := va_rf (hR u p0 3)) 0 3 (eq_of_beq h1) (by decide) rfl in_X1 (by decide) (Or.inl q312) (fun _ h => h) (hF_r (ci := 0) (eq_of_beq h1) (by decide)) dX1_surest_101 ?_
  refine v_deref (fun a2 e3 => ?_)
  refine v_chk (fun h4 => ?_)
  refine v_hget C.1 (v := .int (hI u a2 6)) 2 6 (eq_of_beq h4) (by decide) rfl in_X3 (by decide) (Or.inr ⟨_, q269⟩) (fun _ h => h) (hF_i (ci := 2) (eq_of_beq h4) (by decide)) dX1_surest_104 ?_
  refine v_icmp_lt C.1.1 308 (by decide) dX1_surest_107 (fun _ => ?_) (fun _ => ?_)
  · refine v_aload C.1.1 4 rfl dX1_surest_308 ?_
    refine v_aload_n C.1.1 0 rfl rfl dX1_surest_310 ?_
    refine v_chk (fun h5 => ?_)
    refine v_hget C.1 (v := va_rf (hR u p0 3)) 0 3 (eq_of_beq h5) (by decide) rfl in_X1 (by decide) (Or.inl q312) (fun _ h => h) (hF_r (ci := 0) (eq_of_beq h5) (by decide)) dX1_surest_311 ?_
    refine v_deref (fun a6 e7 => ?_)
    refine v_chk (fun h8 => ?_)
    refine v_hget C.1 (v := va_rf (hR u a6 2)) 2 2 (eq_of_beq h8) (by decide) rfl in_X3 (by decide) (Or.inr ⟨_, q259⟩) (fun _ h => h) (hF_r (ci := 2) (eq_of_beq h8) (by decide)) dX1_surest_314 ?_
    refine v_deref (fun a9 e10 => ?_)
    refine v_iload_n C.1.1 1 rfl rfl dX1_surest_317 ?_
    refine v_chk (fun h11 => ?_)
    refine v_haiald C.1 h11 dX1_surest_318 ?_
    refine v_chk (fun h12 => ?_)
    refine v_haiald C.1 h12 dX1_surest_319 ?_
    exact v_xiret C.1 dX1_surest_320
  · refine v_iload C.1.1 3 rfl dX1_surest_110 ?_
    refine v_chk (fun h8 => ?_)
    refine v_letE (fun a5 e6 => ?_)
    refine v_hnewa C.1 1 e6 (by decide) rfl q195 (nb_0 h8) rfl (nb_1 h8) dX1_surest_112 (fun u7 => ?_)
    refine v_astore C.1.1 [(7, .ref a5), (0, .ref p0), (1, .int p1), (3, .int x3), (4, .int x4), (5, .ref x5), (6, .int x6)] (by decide) rfl dX1_surest_114 ?_
    refine v_iload C.1.1 4 rfl dX1_surest_116 ?_
    refine v_chk (fun h12 => ?_)
    refine v_letE (fun a9 e10 => ?_)
    refine v_hnewa C.1 1 e10 (by decide) rfl q195 (nb_0 h12) rfl (nb_1 h12) dX1_surest_118 (fun u11 => ?_)
    refine v_astore C.1.1 [(8, .ref a9), (7, .ref a5), (0, .ref p0), (1, .int p1), (3, .int x3), (4, .int x4), (5, .ref x5), (6, .int x6)] (by decide) rfl dX1_surest_120 ?_
    refine v_iconst C.1.1 0 (by decide) dX1_surest_122 ?_
    refine v_istore C.1.1 [(9, .int 0), (8, .ref a9), (7, .ref a5), (0, .ref p0), (1, .int p1), (3, .int x3), (4, .int x4), (5, .ref x5), (6, .int x6)] (by decide) rfl dX1_surest_123 ?_
    refine v_sub [3, 4, 5, 6, 7, 8, 2, 1, 0] rfl ?_
    exact whX1_surest_125 hl0 C p0 p1 p2 k hk FUEL x3 x4 x5 x6 a5 a9 0 u11
def hX1_surest_66 (p0 : Nat) (p1 : Int32) (p2 : Int32) (k : Int32 → Int32 → Nat → Int32 → HS → Option (OH (PX Int32))) (x3 : Int32) (x4 : Int32) (x5 : Nat) (x6 : Int32) (u : HS) : Option (OH (PX Int32)) :=
  if x4 ≤ x6 then
    mchk (hC u p0 == 1) <|
    mderef (hR u p0 3) fun a2 =>
    mchk (hC u a2 == 3) <|
    mlet (((hI u a2 6) + p2) - 1) fun v5 =>
    ml4 (hX1_surest_98 p0 p1 p2) FUEL x3 x4 x5 v5 u
  else
    mchk (inA u x6 x5 21) <|
    mlet (uA u x5 x6.toNatClampNeg 1) fun u1 =>
    k x3 x4 x5 (x6 + 1) u1
theorem whX1_surest_66 {K1 K2 : Nat} {p : Program} {e : Env} {s : State} {m : MethodId} {args : Array Value} {below : List Frame} {meth : Method} {c : Code} (hl0 : l.stackTraces = false) (C : CxX t G l p s m args meth c yX1_surest cX1_surest 12 (some .int)) (p0 : Nat) (p1 : Int32) (p2 : Int32) (n : Nat) (x3 : Int32) (x4 : Int32) (x5 : Nat) (x6 : Int32) (u : HS) : VX mkI t G p l e 425 K1 K2 s m args below meth c 12 66 [(0, .ref p0), (1, .int p1), (2, .int p2), (3, .int x3), (4, .int x4), (5, .ref x5), (6, .int x6)] [] u (ml4 (hX1_surest_66 p0 p1 p2) n x3 x4 x5 x6 u) := by
  refine vl4 (L := fun x3 x4 x5 x6 => [(0, .ref p0), (1, .int p1), (2, .int p2), (3, .int x3), (4, .int x4), (5, .ref x5), (6, .int x6)]) (fun k hk x3 x4 x5 x6 u => ?_) n x3 x4 x5 x6 u
  unfold hX1_surest_66
  refine v_iload C.1.1 6 rfl dX1_surest_66 ?_
  refine v_iload C.1.1 4 rfl dX1_surest_68 ?_
  refine v_icmp_ge C.1.1 85 (by decide) dX1_surest_70 (fun _ => ?_) (fun _ => ?_)
  · refine v_aload_n C.1.1 0 rfl rfl dX1_surest_85 ?_
    refine v_chk (fun h1 => ?_)
    refine v_hget C.1 (v := va_rf (hR u p0 3)) 0 3 (eq_of_beq h1) (by decide) rfl in_X1 (by decide) (Or.inl q312) (fun _ h => h) (hF_r (ci := 0) (eq_of_beq h1) (by decide)) dX1_surest_86 ?_
    refine v_deref (fun a2 e3 => ?_)
    refine v_chk (fun h4 => ?_)
    refine v_hget C.1 (v := .int (hI u a2 6)) 2 6 (eq_of_beq h4) (by decide) rfl in_X3 (by decide) (Or.inr ⟨_, q269⟩) (fun _ h => h) (hF_i (ci := 2) (eq_of_beq h4) (by decide)) dX1_surest_89 ?_
    refine v_iload_n C.1.1 2 rfl rfl dX1_surest_92 ?_
    refine v_iadd C.1.1 dX1_surest_93 ?_
    refine v_iconst C.1.1 1 (by decide) dX1_surest_94 ?_
    refine v_isub C.1.1 dX1_surest_95 ?_
    refine v_topi (fun v5 => ?_)
    refine v_istore C.1.1 [(6, .int v5), (0, .ref p0), (1, .int p1), (2, .int p2), (3, .int x3), (4, .int x4), (5, .ref x5)] (by decide) rfl dX1_surest_96 ?_
    refine v_sub [1, 2, 4, 5, 6, 0] rfl ?_
    exact whX1_surest_98 hl0 C p0 p1 p2 FUEL x3 x4 x5 v5 u
  · refine v_aload C.1.1 5 rfl dX1_surest_73 ?_
    refine v_iload C.1.1 6 rfl dX1_surest_75 ?_
    refine v_iconst C.1.1 1 (by decide) dX1_surest_77 ?_
    refine v_chk (fun h2 => ?_)
    refine v_haiast C.1 h2 dX1_surest_78 (fun u1 => ?_)
    refine v_iinc C.1.1 1 [(6, .int (x6 + 1)), (0, .ref p0), (1, .int p1), (2, .int p2), (3, .int x3), (4, .int x4), (5, .ref x5)] 6 rfl (by decide) (by decide) rfl dX1_surest_79 ?_
    refine v_goto C.1.1 66 (by decide) dX1_surest_82 ?_
    refine v_sub [1, 2, 3, 4, 5, 6, 0] rfl ?_
    exact hk x3 x4 x5 (x6 + 1) u1
def hX1_surest (p0 : Nat) (p1 : Int32) (p2 : Int32) (u : HS) : Option (OH (PX Int32)) :=
  mchk (hC u p0 == 1) <|
  hx (hX1_aPerson p0 p1 u) fun _ u1 =>
  hb (hX1_in p2 1 9 u1) fun r4 u3 =>
  hx (hX1_right r4 u3) fun _ u5 =>
  mchk (hC u5 p0 == 1) <|
  mderef (hR u5 p0 3) fun a7 =>
  mchk (hC u5 a7 == 3) <|
  hb (hX1_isOf (hI u5 a7 7) p1 u5) fun r11 u10 =>
  if r11 = 0 then
    mchk (hC u10 p0 == 1) <|
    hb (hX1_later p0 30 u10) fun r13 u12 =>
    mchk (hC u12 r13 == 3) <|
    mderef (hR u12 r13 0) fun a16 =>
    mchk (inA u12 p1 a16 21) <|
    mlet (hA u12 a16 p1.toNatClampNeg) fun v19 =>
    mchk (hC u12 p0 == 1) <|
    mderef (hR u12 p0 2) fun a21 =>
    mchk (hC u12 a21 == 2) <|
    mderef (hR u12 a21 0) fun a24 =>
    mchk (hC u12 a24 == 12) <|
    hb (hJ2_size a24 u12) fun r27 u26 =>
    mchk (!(decide (r27 < 0)) && decide (r27.toNatClampNeg ≤ 60000000)) <|
    mlet (hZ u26) fun a29 =>
    addc 1 (r27.toNatClampNeg) <|
    mlet (nA u26 1 (r27.toNatClampNeg)) fun u31 =>
    ml4 (hX1_surest_66 p0 p1 p2) FUEL v19 r27 a29 0 u31
  else
    hret (.inl 0) u10
theorem ctX1_surest (t : TT) (G : GH) (l : Launch) (hl0 : l.stackTraces = false) (p0 : Nat) (p1 : Int32) (p2 : Int32) (u : HS) : CtX mkI t G l yX1_surest cX1_surest 12 (some .int) 425 [.ref p0, .int p1, .int p2] u (hX1_surest p0 p1 p2 u) := by
  refine ctX_of [(0, .ref p0), (1, .int p1), (2, .int p2)] hl0 rfl (Nat.le_of_ble_eq_true rfl) rfl (fun K1 K2 p e s m args below meth c C => ?_)
  unfold hX1_surest
  refine v_aload_n C.1.1 0 rfl rfl dX1_surest_0 ?_
  refine v_iload_n C.1.1 1 rfl rfl dX1_surest_1 ?_
  refine v_chk (fun h2 => ?_)
  refine v_callVX C [.int p1] [] (ctX1_aPerson t G l hl0 p0 p1 u) (fun _ _ => cwX1_aPerson C.1 q1380 (by decide)) (recO C.1 (ci := 0) (eq_of_beq h2) (by decide) rfl) rfl rfl (by exact Nat.le_of_ble_eq_true rfl) dX1_surest_2 (fun _ u1 => ?_)
  refine v_iload_n C.1.1 2 rfl rfl dX1_surest_5 ?_
  refine v_iconst C.1.1 1 (by decide) dX1_surest_6 ?_
  refine v_bipush C.1.1 9 (by decide) dX1_surest_7 ?_
  refine v_callSH C.1 [.int p2, .int 1, .int 9] [] (ctX1_in t G l hl0 p2 1 9 u1) (fun _ _ => cwX1_in C.1 q366 (by decide)) rfl rfl (by exact Nat.le_of_ble_eq_true rfl) dX1_surest_9 (fun r4 u3 => ?_)
  refine v_callSX C [.int r4] [] (ctX1_right t G l hl0 r4 u3) (fun _ _ => cwX1_right C.1 q760 (by decide)) rfl rfl (by exact Nat.le_of_ble_eq_true rfl) dX1_surest_12 (fun _ u5 => ?_)
  refine v_aload_n C.1.1 0 rfl rfl dX1_surest_15 ?_
  refine v_chk (fun h6 => ?_)
  refine v_hget C.1 (v := va_rf (hR u5 p0 3)) 0 3 (eq_of_beq h6) (by decide) rfl in_X1 (by decide) (Or.inl q312) (fun _ h => h) (hF_r (ci := 0) (eq_of_beq h6) (by decide)) dX1_surest_16 ?_
  refine v_deref (fun a7 e8 => ?_)
  refine v_chk (fun h9 => ?_)
  refine v_hget C.1 (v := .int (hI u5 a7 7)) 2 7 (eq_of_beq h9) (by decide) rfl in_X3 (by decide) (Or.inr ⟨_, q271⟩) (fun _ h => h) (hF_i (ci := 2) (eq_of_beq h9) (by decide)) dX1_surest_19 ?_
  refine v_iload_n C.1.1 1 rfl rfl dX1_surest_22 ?_
  refine v_callSH C.1 [.int (hI u5 a7 7), .int p1] [] (ctX1_isOf t G l hl0 (hI u5 a7 7) p1 u5) (fun _ _ => cwX1_isOf C.1 q1323 (by decide)) rfl rfl (by exact Nat.le_of_ble_eq_true rfl) dX1_surest_23 (fun r11 u10 => ?_)
  refine v_if_eq C.1.1 31 (by decide) dX1_surest_26 (fun _ => ?_) (fun _ => ?_)
  · refine v_aload_n C.1.1 0 rfl rfl dX1_surest_31 ?_
    refine v_bipush C.1.1 30 (by decide) dX1_surest_32 ?_
    refine v_chk (fun h14 => ?_)
    refine v_callVH C.1 [.int 30] [] (ctX1_later t G l hl0 p0 30 u10) (fun _ _ => cwX1_later C.1 q704 (by decide)) (recO C.1 (ci := 0) (eq_of_beq h14) (by decide) rfl) rfl rfl (by exact Nat.le_of_ble_eq_true rfl) dX1_surest_34 (fun r13 u12 => ?_)
    refine v_chk (fun h15 => ?_)
    refine v_hget C.1 (v := va_rf (hR u12 r13 0)) 2 0 (eq_of_beq h15) (by decide) rfl in_X3 (by decide) (Or.inr ⟨_, q255⟩) (fun _ h => h) (hF_r (ci := 2) (eq_of_beq h15) (by decide)) dX1_surest_37 ?_
    refine v_deref (fun a16 e17 => ?_)
    refine v_iload_n C.1.1 1 rfl rfl dX1_surest_40 ?_
    refine v_chk (fun h18 => ?_)
    refine v_haiald C.1 h18 dX1_surest_41 ?_
    refine v_topi (fun v19 => ?_)
    refine v_istore_n C.1.1 [(3, .int v19), (0, .ref p0), (1, .int p1), (2, .int p2)] rfl (by decide) rfl dX1_surest_42 ?_
    refine v_aload_n C.1.1 1 rfl rfl dX1_surest_43 ?_
    refine v_chk (fun h20 => ?_)
    refine v_hget C.1 (v := va_rf (hR u12 p0 2)) 0 2 (eq_of_beq h20) (by decide) rfl in_X1 (by decide) (Or.inl q311) (fun _ h => h) (hF_r (ci := 0) (eq_of_beq h20) (by decide)) dX1_surest_44 ?_
    refine v_deref (fun a21 e22 => ?_)
    refine v_chk (fun h23 => ?_)
    refine v_hget C.1 (v := va_rf (hR u12 a21 0)) 1 0 (eq_of_beq h23) (by decide) rfl in_X2 (by decide) (Or.inr ⟨_, q197⟩) (fun _ h => h) (hF_r (ci := 1) (eq_of_beq h23) (by decide)) dX1_surest_47 ?_
    refine v_deref (fun a24 e25 => ?_)
    refine v_chk (fun h28 => ?_)
    refine v_callFH C.1 [] [] (ctJ2_size t G l hl0 a24 u12) (fun _ _ => cwJ2_sizeF C.1 q453 (by decide)) (eq_of_beq h28) (by decide) rfl rfl rfl (by exact Nat.le_of_ble_eq_true rfl) dX1_surest_50 (fun r27 u26 => ?_)
    refine v_istore C.1.1 [(4, .int r27), (3, .int v19), (0, .ref p0), (1, .int p1), (2, .int p2)] (by decide) rfl dX1_surest_55 ?_
    refine v_iload C.1.1 0 rfl dX1_surest_57 ?_
    refine v_chk (fun h32 => ?_)
    refine v_letE (fun a29 e30 => ?_)
    refine v_hnewa C.1 1 e30 (by decide) rfl q195 (nb_0 h32) rfl (nb_1 h32) dX1_surest_59 (fun u31 => ?_)
    refine v_astore C.1.1 [(5, .ref a29), (4, .int r27), (3, .int v19), (0, .ref p0), (1, .int p1), (2, .int p2)] (by decide) rfl dX1_surest_61 ?_
    refine v_iconst C.1.1 0 (by decide) dX1_surest_63 ?_
    refine v_istore C.1.1 [(6, .int 0), (5, .ref a29), (4, .int r27), (3, .int v19), (0, .ref p0), (1, .int p1), (2, .int p2)] (by decide) rfl dX1_surest_64 ?_
    refine v_sub [4, 5, 6, 3, 2, 1, 0] rfl ?_
    exact whX1_surest_66 hl0 C p0 p1 p2 FUEL v19 r27 a29 0 u31
  · refine v_iconst C.1.1 0 (by decide) dX1_surest_29 ?_
    exact v_xiret C.1 dX1_surest_30
theorem cwX1_surest {t : TT} {G : GH} {l : Launch} {p : Program} {s : State} {m : MethodId} {args : Array Value} {meth : Method} {c : Code} {y0 : MethodName} {cc0 : ByteArray} {nL0 : Nat} {ret0 : Option FieldType} (C : CxH t G l p s m args meth c y0 cc0 nL0 ret0) {index lv mc ms K1 K2 : Nat} (hq : Cond.methodLink y0.cls index yX1_surest ∈ lw_all) (hR : 425 + 1 ≤ lv) : CallW (rmH lv K1 K2) s args y0.cls RX1 index yX1_surest cX1_surest 12 (some .int) (ws_ yX1_surest cX1_surest 12 (some .int)) (rmH 425 mc ms) mc ms 2 :=
  cwV 2 C.1.2.2.2.2.1 (lw_V hq q1480 q1481 q121 q1482) rfl rfl rfl (by decide +kernel) ⟨hR, by show 8 + (12 + 11) + 100 * 425 ≤ 100 * lv; omega⟩
def hX1_close_28 (p0 : Nat) (p1 : Int32) (k : Int32 → HS → Option (OH (PX Int32))) (x2 : Int32) (u : HS) : Option (OH (PX Int32)) :=
  mchk (hC u p0 == 1) <|
  mderef (hR u p0 3) fun a2 =>
  mchk (hC u a2 == 3) <|
  if x2 < (hI u a2 6) then
    hret (.inl (-1)) u
  else
    mchk (hC u p0 == 1) <|
    hb (hX1_deadBy p0 x2 u) fun r6 u5 =>
    hb (hJ16_bitCount r6 u5) fun r9 u8 =>
    if p1 < r9 then
      k (x2 + (-1)) u8
    else
      hret (.inl x2) u8
theorem whX1_close_28 {K1 K2 : Nat} {p : Program} {e : Env} {s : State} {m : MethodId} {args : Array Value} {below : List Frame} {meth : Method} {c : Code} (hl0 : l.stackTraces = false) (C : CxX t G l p s m args meth c yX1_close cX1_close 3 (some .int)) (p0 : Nat) (p1 : Int32) (n : Nat) (x2 : Int32) (u : HS) : VX mkI t G p l e 424 K1 K2 s m args below meth c 3 28 [(0, .ref p0), (1, .int p1), (2, .int x2)] [] u (ml1 (hX1_close_28 p0 p1) n x2 u) := by
  refine vl1 (L := fun x2 => [(0, .ref p0), (1, .int p1), (2, .int x2)]) (fun k hk x2 u => ?_) n x2 u
  unfold hX1_close_28
  refine v_iload_n C.1.1 2 rfl rfl dX1_close_28 ?_
  refine v_aload_n C.1.1 0 rfl rfl dX1_close_29 ?_
  refine v_chk (fun h1 => ?_)
  refine v_hget C.1 (v := va_rf (hR u p0 3)) 0 3 (eq_of_beq h1) (by decide) rfl in_X1 (by decide) (Or.inl q312) (fun _ h => h) (hF_r (ci := 0) (eq_of_beq h1) (by decide)) dX1_close_30 ?_
  refine v_deref (fun a2 e3 => ?_)
  refine v_chk (fun h4 => ?_)
  refine v_hget C.1 (v := .int (hI u a2 6)) 2 6 (eq_of_beq h4) (by decide) rfl in_X3 (by decide) (Or.inr ⟨_, q269⟩) (fun _ h => h) (hF_i (ci := 2) (eq_of_beq h4) (by decide)) dX1_close_33 ?_
  refine v_icmp_lt C.1.1 59 (by decide) dX1_close_36 (fun _ => ?_) (fun _ => ?_)
  · refine v_iconst C.1.1 (-1) (by decide) dX1_close_59 ?_
    exact v_xiret C.1 dX1_close_60
  · refine v_aload_n C.1.1 0 rfl rfl dX1_close_39 ?_
    refine v_iload_n C.1.1 2 rfl rfl dX1_close_40 ?_
    refine v_chk (fun h7 => ?_)
    refine v_callVH C.1 [.int x2] [] (ctX1_deadBy t G l hl0 p0 x2 u) (fun _ _ => cwX1_deadBy C.1 q690 (by decide)) (recO C.1 (ci := 0) (eq_of_beq h7) (by decide) rfl) rfl rfl (by exact Nat.le_of_ble_eq_true rfl) dX1_close_41 (fun r6 u5 => ?_)
    refine v_callSH C.1 [.int r6] [] (ctJ16_bitCount t G l hl0 r6 u5) (fun _ _ => cwJ16_bitCount C.1 q1495 (by decide)) rfl rfl (by exact Nat.le_of_ble_eq_true rfl) dX1_close_44 (fun r9 u8 => ?_)
    refine v_iload_n C.1.1 1 rfl rfl dX1_close_47 ?_
    refine v_icmp_gt C.1.1 53 (by decide) dX1_close_48 (fun _ => ?_) (fun _ => ?_)
    · refine v_iinc C.1.1 (-1) [(2, .int (x2 + (-1))), (0, .ref p0), (1, .int p1)] 2 rfl (by decide) (by decide) rfl dX1_close_53 ?_
      refine v_goto C.1.1 28 (by decide) dX1_close_56 ?_
      refine v_sub [1, 2, 0] rfl ?_
      exact hk (x2 + (-1)) u8
    · refine v_iload_n C.1.1 2 rfl rfl dX1_close_51 ?_
      exact v_xiret C.1 dX1_close_52
def hX1_close (p0 : Nat) (p1 : Int32) (u : HS) : Option (OH (PX Int32)) :=
  hb (hX1_in p1 0 9 u) fun r2 u1 =>
  hx (hX1_right r2 u1) fun _ u3 =>
  mchk (hC u3 p0 == 1) <|
  mderef (hR u3 p0 3) fun a5 =>
  mchk (hC u3 a5 == 3) <|
  mchk (hC u3 p0 == 1) <|
  mderef (hR u3 p0 3) fun a9 =>
  mchk (hC u3 a9 == 3) <|
  hb (hX3_ahead a9 30 u3) fun r12 u11 =>
  mlet ((hI u3 a5 6) + r12) fun v14 =>
  ml1 (hX1_close_28 p0 p1) FUEL v14 u11
theorem ctX1_close (t : TT) (G : GH) (l : Launch) (hl0 : l.stackTraces = false) (p0 : Nat) (p1 : Int32) (u : HS) : CtX mkI t G l yX1_close cX1_close 3 (some .int) 424 [.ref p0, .int p1] u (hX1_close p0 p1 u) := by
  refine ctX_of [(0, .ref p0), (1, .int p1)] hl0 rfl (Nat.le_of_ble_eq_true rfl) rfl (fun K1 K2 p e s m args below meth c C => ?_)
  unfold hX1_close
  refine v_iload_n C.1.1 1 rfl rfl dX1_close_0 ?_
  refine v_iconst C.1.1 0 (by decide) dX1_close_1 ?_
  refine v_bipush C.1.1 9 (by decide) dX1_close_2 ?_
  refine v_callSH C.1 [.int p1, .int 0, .int 9] [] (ctX1_in t G l hl0 p1 0 9 u) (fun _ _ => cwX1_in C.1 q366 (by decide)) rfl rfl (by exact Nat.le_of_ble_eq_true rfl) dX1_close_4 (fun r2 u1 => ?_)
  refine v_callSX C [.int r2] [] (ctX1_right t G l hl0 r2 u1) (fun _ _ => cwX1_right C.1 q760 (by decide)) rfl rfl (by exact Nat.le_of_ble_eq_true rfl) dX1_close_7 (fun _ u3 => ?_)
  refine v_aload_n C.1.1 0 rfl rfl dX1_close_10 ?_
  refine v_chk (fun h4 => ?_)
  refine v_hget C.1 (v := va_rf (hR u3 p0 3)) 0 3 (eq_of_beq h4) (by decide) rfl in_X1 (by decide) (Or.inl q312) (fun _ h => h) (hF_r (ci := 0) (eq_of_beq h4) (by decide)) dX1_close_11 ?_
  refine v_deref (fun a5 e6 => ?_)
  refine v_chk (fun h7 => ?_)
  refine v_hget C.1 (v := .int (hI u3 a5 6)) 2 6 (eq_of_beq h7) (by decide) rfl in_X3 (by decide) (Or.inr ⟨_, q269⟩) (fun _ h => h) (hF_i (ci := 2) (eq_of_beq h7) (by decide)) dX1_close_14 ?_
  refine v_aload_n C.1.1 0 rfl rfl dX1_close_17 ?_
  refine v_chk (fun h8 => ?_)
  refine v_hget C.1 (v := va_rf (hR u3 p0 3)) 0 3 (eq_of_beq h8) (by decide) rfl in_X1 (by decide) (Or.inl q312) (fun _ h => h) (hF_r (ci := 0) (eq_of_beq h8) (by decide)) dX1_close_18 ?_
  refine v_deref (fun a9 e10 => ?_)
  refine v_bipush C.1.1 30 (by decide) dX1_close_21 ?_
  refine v_chk (fun h13 => ?_)
  refine v_callVH C.1 [.int 30] [.int (hI u3 a5 6)] (ctX3_ahead t G l hl0 a9 30 u3) (fun _ _ => cwX3_ahead C.1 q694 (by decide)) (recO C.1 (ci := 2) (eq_of_beq h13) (by decide) rfl) rfl rfl (by exact Nat.le_of_ble_eq_true rfl) dX1_close_23 (fun r12 u11 => ?_)
  refine v_iadd C.1.1 dX1_close_26 ?_
  refine v_topi (fun v14 => ?_)
  refine v_istore_n C.1.1 [(2, .int v14), (0, .ref p0), (1, .int p1)] rfl (by decide) rfl dX1_close_27 ?_
  refine v_sub [1, 2, 0] rfl ?_
  exact whX1_close_28 hl0 C p0 p1 FUEL v14 u11
theorem cwX1_close {t : TT} {G : GH} {l : Launch} {p : Program} {s : State} {m : MethodId} {args : Array Value} {meth : Method} {c : Code} {y0 : MethodName} {cc0 : ByteArray} {nL0 : Nat} {ret0 : Option FieldType} (C : CxH t G l p s m args meth c y0 cc0 nL0 ret0) {index lv mc ms K1 K2 : Nat} (hq : Cond.methodLink y0.cls index yX1_close ∈ lw_all) (hR : 424 + 1 ≤ lv) : CallW (rmH lv K1 K2) s args y0.cls RX1 index yX1_close cX1_close 3 (some .int) (ws_ yX1_close cX1_close 3 (some .int)) (rmH 424 mc ms) mc ms 1 :=
  cwV 1 C.1.2.2.2.2.1 (lw_V hq q1492 q1493 q121 q1494) rfl rfl rfl (by decide +kernel) ⟨hR, by show 8 + (3 + 11) + 100 * 424 ≤ 100 * lv; omega⟩
def hX1_see_61 (p0 : Nat) (p1 : Int32) (p2 : Int32) (p3 : Int32) (s0 : Nat) (s1 : Nat) (s2 : Nat) (s3 : Int32) (s4 : Int32) (u : HS) : Option (OH (PX Int32)) :=
  mchk (inA u s3 s2 21) <|
  mlet (uA u s2 s3.toNatClampNeg s4) fun u1 =>
  mchk (hC u1 s0 == 12) <|
  hb (hJ2_add s0 s1 u1) fun r4 u3 =>
  mchk (hC u3 p0 == 1) <|
  mderef (hR u3 p0 9) fun a7 =>
  mchk (hC u3 a7 == 12) <|
  hb (hJ2_size a7 u3) fun r10 u9 =>
  hret (.inl r10) u9
theorem whX1_see_61 {K1 K2 : Nat} {p : Program} {e : Env} {s : State} {m : MethodId} {args : Array Value} {below : List Frame} {meth : Method} {c : Code} (hl0 : l.stackTraces = false) (C : CxX t G l p s m args meth c yX1_see cX1_see 4 (some .int)) (p0 : Nat) (p1 : Int32) (p2 : Int32) (p3 : Int32) (s0 : Nat) (s1 : Nat) (s2 : Nat) (s3 : Int32) (s4 : Int32) (u : HS) : VX mkI t G p l e 10 K1 K2 s m args below meth c 4 61 [(0, .ref p0)] [.int s4, .int s3, .ref s2, .ref s1, .ref s0] u (hX1_see_61 p0 p1 p2 p3 s0 s1 s2 s3 s4 u) := by
  unfold hX1_see_61
  refine v_chk (fun h2 => ?_)
  refine v_haiast C.1 h2 dX1_see_61 (fun u1 => ?_)
  refine v_chk (fun h5 => ?_)
  refine v_callFH C.1 [.ref s1] [] (ctJ2_add t G l hl0 s0 s1 u1) (fun _ _ => cwJ2_addF C.1 q384 (by decide)) (eq_of_beq h5) (by decide) rfl rfl rfl (by exact Nat.le_of_ble_eq_true rfl) dX1_see_62 (fun r4 u3 => ?_)
  refine v_pop C.1.1 rfl dX1_see_67 ?_
  refine v_aload_n C.1.1 0 rfl rfl dX1_see_68 ?_
  refine v_chk (fun h6 => ?_)
  refine v_hget C.1 (v := va_rf (hR u3 p0 9)) 0 9 (eq_of_beq h6) (by decide) rfl in_X1 (by decide) (Or.inl q319) (fun _ h => h) (hF_r (ci := 0) (eq_of_beq h6) (by decide)) dX1_see_69 ?_
  refine v_deref (fun a7 e8 => ?_)
  refine v_chk (fun h11 => ?_)
  refine v_callFH C.1 [] [] (ctJ2_size t G l hl0 a7 u3) (fun _ _ => cwJ2_sizeF C.1 q453 (by decide)) (eq_of_beq h11) (by decide) rfl rfl rfl (by exact Nat.le_of_ble_eq_true rfl) dX1_see_72 (fun r10 u9 => ?_)
  exact v_xiret C.1 dX1_see_77
def hX1_see_29 (p0 : Nat) (p1 : Int32) (p2 : Int32) (p3 : Int32) (u : HS) : Option (OH (PX Int32)) :=
  mchk (hC u p0 == 1) <|
  hb (hX1_refuse p0 2 u) fun r2 u1 =>
  hret (.inl r2) u1
theorem whX1_see_29 {K1 K2 : Nat} {p : Program} {e : Env} {s : State} {m : MethodId} {args : Array Value} {below : List Frame} {meth : Method} {c : Code} (hl0 : l.stackTraces = false) (C : CxX t G l p s m args meth c yX1_see cX1_see 4 (some .int)) (p0 : Nat) (p1 : Int32) (p2 : Int32) (p3 : Int32) (u : HS) : VX mkI t G p l e 10 K1 K2 s m args below meth c 4 29 [(0, .ref p0)] [] u (hX1_see_29 p0 p1 p2 p3 u) := by
  unfold hX1_see_29
  refine v_aload_n C.1.1 0 rfl rfl dX1_see_29 ?_
  refine v_iconst C.1.1 2 (by decide) dX1_see_30 ?_
  refine v_chk (fun h3 => ?_)
  refine v_callVH C.1 [.int 2] [] (ctX1_refuse t G l hl0 p0 2 u) (fun _ _ => cwX1_refuse C.1 q369 (by decide)) (recO C.1 (ci := 0) (eq_of_beq h3) (by decide) rfl) rfl rfl (by exact Nat.le_of_ble_eq_true rfl) dX1_see_31 (fun r2 u1 => ?_)
  exact v_xiret C.1 dX1_see_34
def hX1_see (p0 : Nat) (p1 : Int32) (p2 : Int32) (p3 : Int32) (u : HS) : Option (OH (PX Int32)) :=
  mchk (hC u p0 == 1) <|
  hx (hX1_aPerson p0 p1 u) fun _ u1 =>
  mchk (hC u1 p0 == 1) <|
  mderef (hR u1 p0 9) fun a4 =>
  mchk (hC u1 a4 == 12) <|
  hb (hJ2_size a4 u1) fun r7 u6 =>
  if r7 = 8 then
    hX1_see_29 p0 p1 p2 p3 u6
  else
    hb (hX1_in p2 0 29 u6) fun r10 u9 =>
    if r10 = 0 then
      hX1_see_29 p0 p1 p2 p3 u9
    else
      mchk (hC u9 p0 == 1) <|
      mderef (hR u9 p0 9) fun a12 =>
      mlet (hZ u9) fun a14 =>
      addc 1 (3) <|
      mlet (nA u9 1 (3)) fun u16 =>
      mchk (inA u16 0 a14 21) <|
      mlet (uA u16 a14 (0 : Int32).toNatClampNeg p1) fun u17 =>
      mchk (inA u17 1 a14 21) <|
      mlet (uA u17 a14 (1 : Int32).toNatClampNeg p2) fun u19 =>
      if p3 = 0 then
        hX1_see_61 p0 p1 p2 p3 a12 a14 a14 2 0 u19
      else
        hX1_see_61 p0 p1 p2 p3 a12 a14 a14 2 1 u19
theorem ctX1_see (t : TT) (G : GH) (l : Launch) (hl0 : l.stackTraces = false) (p0 : Nat) (p1 : Int32) (p2 : Int32) (p3 : Int32) (u : HS) : CtX mkI t G l yX1_see cX1_see 4 (some .int) 10 [.ref p0, .int p1, .int p2, .int p3] u (hX1_see p0 p1 p2 p3 u) := by
  refine ctX_of [(0, .ref p0), (1, .int p1), (2, .int p2), (3, .int p3)] hl0 rfl (Nat.le_of_ble_eq_true rfl) rfl (fun K1 K2 p e s m args below meth c C => ?_)
  unfold hX1_see
  refine v_aload_n C.1.1 0 rfl rfl dX1_see_0 ?_
  refine v_iload_n C.1.1 1 rfl rfl dX1_see_1 ?_
  refine v_chk (fun h2 => ?_)
  refine v_callVX C [.int p1] [] (ctX1_aPerson t G l hl0 p0 p1 u) (fun _ _ => cwX1_aPerson C.1 q1380 (by decide)) (recO C.1 (ci := 0) (eq_of_beq h2) (by decide) rfl) rfl rfl (by exact Nat.le_of_ble_eq_true rfl) dX1_see_2 (fun _ u1 => ?_)
  refine v_aload_n C.1.1 0 rfl rfl dX1_see_5 ?_
  refine v_chk (fun h3 => ?_)
  refine v_hget C.1 (v := va_rf (hR u1 p0 9)) 0 9 (eq_of_beq h3) (by decide) rfl in_X1 (by decide) (Or.inl q319) (fun _ h => h) (hF_r (ci := 0) (eq_of_beq h3) (by decide)) dX1_see_6 ?_
  refine v_deref (fun a4 e5 => ?_)
  refine v_chk (fun h8 => ?_)
  refine v_callFH C.1 [] [] (ctJ2_size t G l hl0 a4 u1) (fun _ _ => cwJ2_sizeF C.1 q453 (by decide)) (eq_of_beq h8) (by decide) rfl rfl rfl (by exact Nat.le_of_ble_eq_true rfl) dX1_see_9 (fun r7 u6 => ?_)
  refine v_bipush C.1.1 8 (by decide) dX1_see_14 ?_
  refine v_icmp_eq C.1.1 29 (by decide) dX1_see_16 (fun _ => ?_) (fun _ => ?_)
  · refine v_sub [0] rfl ?_
    exact whX1_see_29 hl0 C p0 p1 p2 p3 u6
  · refine v_iload_n C.1.1 2 rfl rfl dX1_see_19 ?_
    refine v_iconst C.1.1 0 (by decide) dX1_see_20 ?_
    refine v_bipush C.1.1 29 (by decide) dX1_see_21 ?_
    refine v_callSH C.1 [.int p2, .int 0, .int 29] [] (ctX1_in t G l hl0 p2 0 29 u6) (fun _ _ => cwX1_in C.1 q366 (by decide)) rfl rfl (by exact Nat.le_of_ble_eq_true rfl) dX1_see_23 (fun r10 u9 => ?_)
    refine v_if_ne C.1.1 35 (by decide) dX1_see_26 (fun _ => ?_) (fun _ => ?_)
    · refine v_sub [0] rfl ?_
      exact whX1_see_29 hl0 C p0 p1 p2 p3 u9
    · refine v_aload_n C.1.1 0 rfl rfl dX1_see_35 ?_
      refine v_chk (fun h11 => ?_)
      refine v_hget C.1 (v := va_rf (hR u9 p0 9)) 0 9 (eq_of_beq h11) (by decide) rfl in_X1 (by decide) (Or.inl q319) (fun _ h => h) (hF_r (ci := 0) (eq_of_beq h11) (by decide)) dX1_see_36 ?_
      refine v_deref (fun a12 e13 => ?_)
      refine v_iconst C.1.1 3 (by decide) dX1_see_39 ?_
      refine v_letE (fun a14 e15 => ?_)
      refine v_hnewa C.1 1 e15 (by decide) rfl q195 (by decide) (by decide) (by decide) dX1_see_40 (fun u16 => ?_)
      refine v_dup C.1.1 rfl dX1_see_42 ?_
      refine v_iconst C.1.1 0 (by decide) dX1_see_43 ?_
      refine v_iload_n C.1.1 1 rfl rfl dX1_see_44 ?_
      refine v_chk (fun h18 => ?_)
      refine v_haiast C.1 h18 dX1_see_45 (fun u17 => ?_)
      refine v_dup C.1.1 rfl dX1_see_46 ?_
      refine v_iconst C.1.1 1 (by decide) dX1_see_47 ?_
      refine v_iload_n C.1.1 2 rfl rfl dX1_see_48 ?_
      refine v_chk (fun h20 => ?_)
      refine v_haiast C.1 h20 dX1_see_49 (fun u19 => ?_)
      refine v_dup C.1.1 rfl dX1_see_50 ?_
      refine v_iconst C.1.1 2 (by decide) dX1_see_51 ?_
      refine v_iload_n C.1.1 3 rfl rfl dX1_see_52 ?_
      refine v_if_eq C.1.1 60 (by decide) dX1_see_53 (fun _ => ?_) (fun _ => ?_)
      · refine v_iconst C.1.1 0 (by decide) dX1_see_60 ?_
        refine v_sub [0] rfl ?_
        exact whX1_see_61 hl0 C p0 p1 p2 p3 a12 a14 a14 2 0 u19
      · refine v_iconst C.1.1 1 (by decide) dX1_see_56 ?_
        refine v_goto C.1.1 61 (by decide) dX1_see_57 ?_
        refine v_sub [0] rfl ?_
        exact whX1_see_61 hl0 C p0 p1 p2 p3 a12 a14 a14 2 1 u19
theorem cwX1_see {t : TT} {G : GH} {l : Launch} {p : Program} {s : State} {m : MethodId} {args : Array Value} {meth : Method} {c : Code} {y0 : MethodName} {cc0 : ByteArray} {nL0 : Nat} {ret0 : Option FieldType} (C : CxH t G l p s m args meth c y0 cc0 nL0 ret0) {index lv mc ms K1 K2 : Nat} (hq : Cond.methodLink y0.cls index yX1_see ∈ lw_all) (hR : 10 + 1 ≤ lv) : CallW (rmH lv K1 K2) s args y0.cls RX1 index yX1_see cX1_see 4 (some .int) (ws_ yX1_see cX1_see 4 (some .int)) (rmH 10 mc ms) mc ms 3 :=
  cwV 3 C.1.2.2.2.2.1 (lw_V hq q1500 q1501 q121 q1502) rfl rfl rfl (by decide +kernel) ⟨hR, by show 8 + (4 + 11) + 100 * 10 ≤ 100 * lv; omega⟩
end
