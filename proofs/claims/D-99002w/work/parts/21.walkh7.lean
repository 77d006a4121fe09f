/-! walks in mode H, printed by tools/genh.py -/
set_option maxRecDepth 100000
section
variable {t : TT} {G : GH} {l : Launch}
def hX1_stay_77 (p0 : Nat) (p1 : Int32) (p2 : Int32) (k : Int32 → Int32 → Int32 → HS → Option (OH (PX Int32))) (x3 : Int32) (x4 : Int32) (x5 : Int32) (u : HS) : Option (OH (PX Int32)) :=
  if x4 ≤ x5 then
    hret (.inl (-1)) u
  else
    if x3 = (-1) then
      k x3 x4 (x5 + 1) u
    else
      if x5 < x3 then
        k x3 x4 (x5 + 1) u
      else
        mchk (hC u p0 == 1) <|
        mderef (hR u p0 2) fun a2 =>
        mchk (hC u a2 == 2) <|
        mderef (hR u a2 0) fun a5 =>
        mchk (hC u a5 == 12) <|
        hb (hJ2_get a5 p2 u) fun r8 u7 =>
        mchk (hC u7 r8 == 31) <|
        mchk (hC u7 r8 == 31) <|
        hb (hJ16_intValue r8 u7) fun r12 u11 =>
        if ((r12 + x5) - x3) < 10 then
          k x3 x4 (x5 + 1) u11
        else
          hret (.inl x5) u11
theorem whX1_stay_77 {K1 K2 : Nat} {p : Program} {e : Env} {s : State} {m : MethodId} {args : Array Value} {below : List Frame} {meth : Method} {c : Code} (hl0 : l.stackTraces = false) (C : CxX t G l p s m args meth c yX1_stay cX1_stay 6 (some .int)) (p0 : Nat) (p1 : Int32) (p2 : Int32) (n : Nat) (x3 : Int32) (x4 : Int32) (x5 : Int32) (u : HS) : VX mkI t G p l e 425 K1 K2 s m args below meth c 6 77 [(0, .ref p0), (2, .int p2), (3, .int x3), (4, .int x4), (5, .int x5)] [] u (ml3 (hX1_stay_77 p0 p1 p2) n x3 x4 x5 u) := by
  refine vl3 (L := fun x3 x4 x5 => [(0, .ref p0), (2, .int p2), (3, .int x3), (4, .int x4), (5, .int x5)]) (fun k hk x3 x4 x5 u => ?_) n x3 x4 x5 u
  unfold hX1_stay_77
  refine v_iload C.1.1 4 rfl dX1_stay_77 ?_
  refine v_iload C.1.1 3 rfl dX1_stay_79 ?_
  refine v_icmp_ge C.1.1 133 (by decide) dX1_stay_81 (fun _ => ?_) (fun _ => ?_)
  · refine v_iconst C.1.1 (-1) (by decide) dX1_stay_133 ?_
    exact v_xiret C.1 dX1_stay_134
  · refine v_iload_n C.1.1 2 rfl rfl dX1_stay_84 ?_
    refine v_iconst C.1.1 (-1) (by decide) dX1_stay_85 ?_
    refine v_icmp_eq C.1.1 127 (by decide) dX1_stay_86 (fun _ => ?_) (fun _ => ?_)
    · refine v_iinc C.1.1 1 [(5, .int (x5 + 1)), (0, .ref p0), (2, .int p2), (3, .int x3), (4, .int x4)] 4 rfl (by decide) (by decide) rfl dX1_stay_127 ?_
      refine v_goto C.1.1 77 (by decide) dX1_stay_130 ?_
      refine v_sub [1, 2, 3, 4, 0] rfl ?_
      exact hk x3 x4 (x5 + 1) u
    · refine v_iload_n C.1.1 2 rfl rfl dX1_stay_89 ?_
      refine v_iload C.1.1 4 rfl dX1_stay_90 ?_
      refine v_icmp_gt C.1.1 127 (by decide) dX1_stay_92 (fun _ => ?_) (fun _ => ?_)
      · refine v_iinc C.1.1 1 [(5, .int (x5 + 1)), (0, .ref p0), (2, .int p2), (3, .int x3), (4, .int x4)] 4 rfl (by decide) (by decide) rfl dX1_stay_127 ?_
        refine v_goto C.1.1 77 (by decide) dX1_stay_130 ?_
        refine v_sub [1, 2, 3, 4, 0] rfl ?_
        exact hk x3 x4 (x5 + 1) u
      · refine v_aload_n C.1.1 0 rfl rfl dX1_stay_95 ?_
        refine v_chk (fun h1 => ?_)
        refine v_hget C.1 (v := va_rf (hR u p0 2)) 0 2 (eq_of_beq h1) (by decide) rfl in_X1 (by decide) (Or.inl q311) (fun _ h => h) (hF_r (ci := 0) (eq_of_beq h1) (by decide)) dX1_stay_96 ?_
        refine v_deref (fun a2 e3 => ?_)
        refine v_chk (fun h4 => ?_)
        refine v_hget C.1 (v := va_rf (hR u a2 0)) 1 0 (eq_of_beq h4) (by decide) rfl in_X2 (by decide) (Or.inr ⟨_, q197⟩) (fun _ h => h) (hF_r (ci := 1) (eq_of_beq h4) (by decide)) dX1_stay_99 ?_
        refine v_deref (fun a5 e6 => ?_)
        refine v_iload_n C.1.1 1 rfl rfl dX1_stay_102 ?_
        refine v_chk (fun h9 => ?_)
        refine v_callFH C.1 [.int p2] [] (ctJ2_get t G l hl0 a5 p2 u) (fun _ _ => cwJ2_getF C.1 q1368 (by decide)) (eq_of_beq h9) (by decide) rfl rfl rfl (by exact Nat.le_of_ble_eq_true rfl) dX1_stay_103 (fun r8 u7 => ?_)
        refine v_chk (fun h10 => ?_)
        refine v_hcastB C.1 (eq_of_beq h10) q1369 dX1_stay_108 ?_
        refine v_chk (fun h13 => ?_)
        refine v_callVH C.1 [] [] (ctJ16_intValue t G l hl0 r8 u7) (fun _ _ => cwJ16_intValue C.1 q1370 (by decide)) (recB C.1 (eq_of_beq h13)) rfl rfl (by exact Nat.le_of_ble_eq_true rfl) dX1_stay_111 (fun r12 u11 => ?_)
        refine v_iload C.1.1 4 rfl dX1_stay_114 ?_
        refine v_iadd C.1.1 dX1_stay_116 ?_
        refine v_iload_n C.1.1 2 rfl rfl dX1_stay_117 ?_
        refine v_isub C.1.1 dX1_stay_118 ?_
        refine v_bipush C.1.1 10 (by decide) dX1_stay_119 ?_
        refine v_icmp_lt C.1.1 127 (by decide) dX1_stay_121 (fun _ => ?_) (fun _ => ?_)
        · refine v_iinc C.1.1 1 [(5, .int (x5 + 1)), (0, .ref p0), (2, .int p2), (3, .int x3), (4, .int x4)] 4 rfl (by decide) (by decide) rfl dX1_stay_127 ?_
          refine v_goto C.1.1 77 (by decide) dX1_stay_130 ?_
          refine v_sub [1, 2, 3, 4, 0] rfl ?_
          exact hk x3 x4 (x5 + 1) u11
        · refine v_iload C.1.1 4 rfl dX1_stay_124 ?_
          exact v_xiret C.1 dX1_stay_126
def hX1_stay (p0 : Nat) (p1 : Int32) (p2 : Int32) (u : HS) : Option (OH (PX Int32)) :=
  mchk (hC u p0 == 1) <|
  hx (hX1_aPerson p0 p1 u) fun _ u1 =>
  mchk (hC u1 p0 == 1) <|
  hx (hX1_aPlace p0 p2 u1) fun _ u3 =>
  mchk (hC u3 p0 == 1) <|
  mderef (hR u3 p0 3) fun a6 =>
  mchk (hC u3 a6 == 3) <|
  hb (hX1_isOf (hI u3 a6 7) p1 u3) fun r10 u9 =>
  if r10 = 0 then
    mchk (hC u9 p0 == 1) <|
    mderef (hR u9 p0 2) fun a12 =>
    mchk (hC u9 a12 == 2) <|
    hb (hX2_isSea a12 p2 u9) fun r15 u14 =>
    if r15 = 0 then
      mchk (hC u14 p0 == 1) <|
      hb (hX1_later p0 30 u14) fun r18 u17 =>
      mchk (hC u17 r18 == 3) <|
      mderef (hR u17 r18 0) fun a21 =>
      mchk (inA u17 p1 a21 21) <|
      mlet (hA u17 a21 p1.toNatClampNeg) fun v24 =>
      mchk (hC u17 p0 == 1) <|
      mderef (hR u17 p0 3) fun a26 =>
      mchk (hC u17 a26 == 3) <|
      mchk (hC u17 p0 == 1) <|
      mderef (hR u17 p0 3) fun a30 =>
      mchk (hC u17 a30 == 3) <|
      hb (hX3_ahead a30 30 u17) fun r33 u32 =>
      mlet ((hI u17 a26 6) + r33) fun v35 =>
      mchk (hC u32 p0 == 1) <|
      mderef (hR u32 p0 3) fun a37 =>
      mchk (hC u32 a37 == 3) <|
      mlet (hI u32 a37 6) fun v40 =>
      ml3 (hX1_stay_77 p0 p1 p2) FUEL v24 v35 v40 u32
    else
      hret (.inl (-1)) u14
  else
    hret (.inl (-1)) u9
theorem ctX1_stay (t : TT) (G : GH) (l : Launch) (hl0 : l.stackTraces = false) (p0 : Nat) (p1 : Int32) (p2 : Int32) (u : HS) : CtX mkI t G l yX1_stay cX1_stay 6 (some .int) 425 [.ref p0, .int p1, .int p2] u (hX1_stay p0 p1 p2 u) := by
  refine ctX_of [(0, .ref p0), (1, .int p1), (2, .int p2)] hl0 rfl (Nat.le_of_ble_eq_true rfl) rfl (fun K1 K2 p e s m args below meth c C => ?_)
  unfold hX1_stay
  refine v_aload_n C.1.1 0 rfl rfl dX1_stay_0 ?_
  refine v_iload_n C.1.1 1 rfl rfl dX1_stay_1 ?_
  refine v_chk (fun h2 => ?_)
  refine v_callVX C [.int p1] [] (ctX1_aPerson t G l hl0 p0 p1 u) (fun _ _ => cwX1_aPerson C.1 q1380 (by decide)) (recO C.1 (ci := 0) (eq_of_beq h2) (by decide) rfl) rfl rfl (by exact Nat.le_of_ble_eq_true rfl) dX1_stay_2 (fun _ u1 => ?_)
  refine v_aload_n C.1.1 0 rfl rfl dX1_stay_5 ?_
  refine v_iload_n C.1.1 2 rfl rfl dX1_stay_6 ?_
  refine v_chk (fun h4 => ?_)
  refine v_callVX C [.int p2] [] (ctX1_aPlace t G l hl0 p0 p2 u1) (fun _ _ => cwX1_aPlace C.1 q1363 (by decide)) (recO C.1 (ci := 0) (eq_of_beq h4) (by decide) rfl) rfl rfl (by exact Nat.le_of_ble_eq_true rfl) dX1_stay_7 (fun _ u3 => ?_)
  refine v_aload_n C.1.1 0 rfl rfl dX1_stay_10 ?_
  refine v_chk (fun h5 => ?_)
  refine v_hget C.1 (v := va_rf (hR u3 p0 3)) 0 3 (eq_of_beq h5) (by decide) rfl in_X1 (by decide) (Or.inl q312) (fun _ h => h) (hF_r (ci := 0) (eq_of_beq h5) (by decide)) dX1_stay_11 ?_
  refine v_deref (fun a6 e7 => ?_)
  refine v_chk (fun h8 => ?_)
  refine v_hget C.1 (v := .int (hI u3 a6 7)) 2 7 (eq_of_beq h8) (by decide) rfl in_X3 (by decide) (Or.inr ⟨_, q271⟩) (fun _ h => h) (hF_i (ci := 2) (eq_of_beq h8) (by decide)) dX1_stay_14 ?_
  refine v_iload_n C.1.1 1 rfl rfl dX1_stay_17 ?_
  refine v_callSH C.1 [.int (hI u3 a6 7), .int p1] [] (ctX1_isOf t G l hl0 (hI u3 a6 7) p1 u3) (fun _ _ => cwX1_isOf C.1 q1323 (by decide)) rfl rfl (by exact Nat.le_of_ble_eq_true rfl) dX1_stay_18 (fun r10 u9 => ?_)
  refine v_if_ne C.1.1 35 (by decide) dX1_stay_21 (fun _ => ?_) (fun _ => ?_)
  · refine v_aload_n C.1.1 0 rfl rfl dX1_stay_24 ?_
    refine v_chk (fun h11 => ?_)
    refine v_hget C.1 (v := va_rf (hR u9 p0 2)) 0 2 (eq_of_beq h11) (by decide) rfl in_X1 (by decide) (Or.inl q311) (fun _ h => h) (hF_r (ci := 0) (eq_of_beq h11) (by decide)) dX1_stay_25 ?_
    refine v_deref (fun a12 e13 => ?_)
    refine v_iload_n C.1.1 2 rfl rfl dX1_stay_28 ?_
    refine v_chk (fun h16 => ?_)
    refine v_callVH C.1 [.int p2] [] (ctX2_isSea t G l hl0 a12 p2 u9) (fun _ _ => cwX2_isSea C.1 q1468 (by decide)) (recO C.1 (ci := 1) (eq_of_beq h16) (by decide) rfl) rfl rfl (by exact Nat.le_of_ble_eq_true rfl) dX1_stay_29 (fun r15 u14 => ?_)
    refine v_if_eq C.1.1 37 (by decide) dX1_stay_32 (fun _ => ?_) (fun _ => ?_)
    · refine v_aload_n C.1.1 0 rfl rfl dX1_stay_37 ?_
      refine v_bipush C.1.1 30 (by decide) dX1_stay_38 ?_
      refine v_chk (fun h19 => ?_)
      refine v_callVH C.1 [.int 30] [] (ctX1_later t G l hl0 p0 30 u14) (fun _ _ => cwX1_later C.1 q704 (by decide)) (recO C.1 (ci := 0) (eq_of_beq h19) (by decide) rfl) rfl rfl (by exact Nat.le_of_ble_eq_true rfl) dX1_stay_40 (fun r18 u17 => ?_)
      refine v_chk (fun h20 => ?_)
      refine v_hget C.1 (v := va_rf (hR u17 r18 0)) 2 0 (eq_of_beq h20) (by decide) rfl in_X3 (by decide) (Or.inr ⟨_, q255⟩) (fun _ h => h) (hF_r (ci := 2) (eq_of_beq h20) (by decide)) dX1_stay_43 ?_
      refine v_deref (fun a21 e22 => ?_)
      refine v_iload_n C.1.1 1 rfl rfl dX1_stay_46 ?_
      refine v_chk (fun h23 => ?_)
      refine v_haiald C.1 h23 dX1_stay_47 ?_
      refine v_topi (fun v24 => ?_)
      refine v_istore_n C.1.1 [(3, .int v24), (0, .ref p0), (1, .int p1), (2, .int p2)] rfl (by decide) rfl dX1_stay_48 ?_
      refine v_aload_n C.1.1 1 rfl rfl dX1_stay_49 ?_
      refine v_chk (fun h25 => ?_)
      refine v_hget C.1 (v := va_rf (hR u17 p0 3)) 0 3 (eq_of_beq h25) (by decide) rfl in_X1 (by decide) (Or.inl q312) (fun _ h => h) (hF_r (ci := 0) (eq_of_beq h25) (by decide)) dX1_stay_50 ?_
      refine v_deref (fun a26 e27 => ?_)
      refine v_chk (fun h28 => ?_)
      refine v_hget C.1 (v := .int (hI u17 a26 6)) 2 6 (eq_of_beq h28) (by decide) rfl in_X3 (by decide) (Or.inr ⟨_, q269⟩) (fun _ h => h) (hF_i (ci := 2) (eq_of_beq h28) (by decide)) dX1_stay_53 ?_
      refine v_aload_n C.1.1 1 rfl rfl dX1_stay_56 ?_
      refine v_chk (fun h29 => ?_)
      refine v_hget C.1 (v := va_rf (hR u17 p0 3)) 0 3 (eq_of_beq h29) (by decide) rfl in_X1 (by decide) (Or.inl q312) (fun _ h => h) (hF_r (ci := 0) (eq_of_beq h29) (by decide)) dX1_stay_57 ?_
      refine v_deref (fun a30 e31 => ?_)
      refine v_bipush C.1.1 30 (by decide) dX1_stay_60 ?_
      refine v_chk (fun h34 => ?_)
      refine v_callVH C.1 [.int 30] [.int (hI u17 a26 6)] (ctX3_ahead t G l hl0 a30 30 u17) (fun _ _ => cwX3_ahead C.1 q694 (by decide)) (recO C.1 (ci := 2) (eq_of_beq h34) (by decide) rfl) rfl rfl (by exact Nat.le_of_ble_eq_true rfl) dX1_stay_62 (fun r33 u32 => ?_)
      refine v_iadd C.1.1 dX1_stay_65 ?_
      refine v_topi (fun v35 => ?_)
      refine v_istore C.1.1 [(4, .int v35), (3, .int v24), (0, .ref p0), (1, .int p1), (2, .int p2)] (by decide) rfl dX1_stay_66 ?_
      refine v_aload_n C.1.1 2 rfl rfl dX1_stay_68 ?_
      refine v_chk (fun h36 => ?_)
      refine v_hget C.1 (v := va_rf (hR u32 p0 3)) 0 3 (eq_of_beq h36) (by decide) rfl in_X1 (by decide) (Or.inl q312) (fun _ h => h) (hF_r (ci := 0) (eq_of_beq h36) (by decide)) dX1_stay_69 ?_
      refine v_deref (fun a37 e38 => ?_)
      refine v_chk (fun h39 => ?_)
      refine v_hget C.1 (v := .int (hI u32 a37 6)) 2 6 (eq_of_beq h39) (by decide) rfl in_X3 (by decide) (Or.inr ⟨_, q269⟩) (fun _ h => h) (hF_i (ci := 2) (eq_of_beq h39) (by decide)) dX1_stay_72 ?_
      refine v_topi (fun v40 => ?_)
      refine v_istore C.1.1 [(5, .int v40), (4, .int v35), (3, .int v24), (0, .ref p0), (1, .int p1), (2, .int p2)] (by decide) rfl dX1_stay_75 ?_
      refine v_sub [3, 5, 2, 1, 0] rfl ?_
      exact whX1_stay_77 hl0 C p0 p1 p2 FUEL v24 v35 v40 u32
    · refine v_iconst C.1.1 (-1) (by decide) dX1_stay_35 ?_
      exact v_xiret C.1 dX1_stay_36
  · refine v_iconst C.1.1 (-1) (by decide) dX1_stay_35 ?_
    exact v_xiret C.1 dX1_stay_36
theorem cwX1_stay {t : TT} {G : GH} {l : Launch} {p : Program} {s : State} {m : MethodId} {args : Array Value} {meth : Method} {c : Code} {y0 : MethodName} {cc0 : ByteArray} {nL0 : Nat} {ret0 : Option FieldType} (C : CxH t G l p s m args meth c y0 cc0 nL0 ret0) {index lv mc ms K1 K2 : Nat} (hq : Cond.methodLink y0.cls index yX1_stay ∈ lw_all) (hR : 425 + 1 ≤ lv) : CallW (rmH lv K1 K2) s args y0.cls RX1 index yX1_stay cX1_stay 6 (some .int) (ws_ yX1_stay cX1_stay 6 (some .int)) (rmH 425 mc ms) mc ms 2 :=
  cwV 2 C.1.2.2.2.2.1 (lw_V hq q1599 q1600 q121 q1601) rfl rfl rfl (by decide +kernel) ⟨hR, by show 8 + (6 + 11) + 100 * 425 ≤ 100 * lv; omega⟩
def hX1_steps_41 (p0 : Nat) (p1 : Int32) (p2 : Int32) (k17 : Int32 → Int32 → HS → Option (OH (PX Int32))) (k : Int32 → Int32 → Int32 → Int32 → HS → Option (OH (PX Int32))) (x3 : Int32) (x4 : Int32) (x5 : Int32) (x6 : Int32) (u : HS) : Option (OH (PX Int32)) :=
  mchk (hC u p0 == 1) <|
  mderef (hR u p0 2) fun a2 =>
  mchk (hC u a2 == 2) <|
  hb (hX2_people a2 u) fun r5 u4 =>
  if r5 ≤ x6 then
    k17 x5 (x4 + 1) u4
  else
    hb (hX1_isOf x3 x6 u4) fun r8 u7 =>
    if r8 = 0 then
      k x3 x4 x5 (x6 + 1) u7
    else
      mchk (hC u7 p0 == 1) <|
      mderef (hR u7 p0 2) fun a10 =>
      mchk (hC u7 a10 == 2) <|
      mderef (hR u7 a10 3) fun a13 =>
      mchk (inA u7 x6 a13 21) <|
      mlet (x5 ||| (hA u7 a13 x6.toNatClampNeg)) fun v16 =>
      k x3 x4 v16 (x6 + 1) u7
theorem whX1_steps_41 {K1 K2 : Nat} {p : Program} {e : Env} {s : State} {m : MethodId} {args : Array Value} {below : List Frame} {meth : Method} {c : Code} (hl0 : l.stackTraces = false) (C : CxX t G l p s m args meth c yX1_steps cX1_steps 7 (some .int)) (p0 : Nat) (p1 : Int32) (p2 : Int32) (k17 : Int32 → Int32 → HS → Option (OH (PX Int32))) (hk17 : ∀ (x3 : Int32) (x4 : Int32) (u : HS), VX mkI t G p l e 10 K1 K2 s m args below meth c 7 17 [(0, .ref p0), (2, .int p2), (3, .int x3), (4, .int x4)] [] u (k17 x3 x4 u)) (n : Nat) (x3 : Int32) (x4 : Int32) (x5 : Int32) (x6 : Int32) (u : HS) : VX mkI t G p l e 10 K1 K2 s m args below meth c 7 41 [(0, .ref p0), (2, .int p2), (3, .int x3), (4, .int x4), (5, .int x5), (6, .int x6)] [] u (ml4 (hX1_steps_41 p0 p1 p2 k17) n x3 x4 x5 x6 u) := by
  refine vl4 (L := fun x3 x4 x5 x6 => [(0, .ref p0), (2, .int p2), (3, .int x3), (4, .int x4), (5, .int x5), (6, .int x6)]) (fun k hk x3 x4 x5 x6 u => ?_) n x3 x4 x5 x6 u
  unfold hX1_steps_41
  refine v_iload C.1.1 5 rfl dX1_steps_41 ?_
  refine v_aload_n C.1.1 0 rfl rfl dX1_steps_43 ?_
  refine v_chk (fun h1 => ?_)
  refine v_hget C.1 (v := va_rf (hR u p0 2)) 0 2 (eq_of_beq h1) (by decide) rfl in_X1 (by decide) (Or.inl q311) (fun _ h => h) (hF_r (ci := 0) (eq_of_beq h1) (by decide)) dX1_steps_44 ?_
  refine v_deref (fun a2 e3 => ?_)
  refine v_chk (fun h6 => ?_)
  refine v_callVH C.1 [] [.int x6] (ctX2_people t G l hl0 a2 u) (fun _ _ => cwX2_people C.1 q717 (by decide)) (recO C.1 (ci := 1) (eq_of_beq h6) (by decide) rfl) rfl rfl (by exact Nat.le_of_ble_eq_true rfl) dX1_steps_47 (fun r5 u4 => ?_)
  refine v_icmp_ge C.1.1 83 (by decide) dX1_steps_50 (fun _ => ?_) (fun _ => ?_)
  · refine v_iload C.1.1 4 rfl dX1_steps_83 ?_
    refine v_istore_n C.1.1 [(3, .int x5), (0, .ref p0), (2, .int p2), (4, .int x4), (5, .int x5), (6, .int x6)] rfl (by decide) rfl dX1_steps_85 ?_
    refine v_iinc C.1.1 1 [(4, .int (x4 + 1)), (3, .int x5), (0, .ref p0), (2, .int p2), (5, .int x5), (6, .int x6)] 3 rfl (by decide) (by decide) rfl dX1_steps_86 ?_
    refine v_goto C.1.1 17 (by decide) dX1_steps_89 ?_
    refine v_sub [2, 3, 1, 0] rfl ?_
    exact hk17 x5 (x4 + 1) u4
  · refine v_iload_n C.1.1 2 rfl rfl dX1_steps_53 ?_
    refine v_iload C.1.1 5 rfl dX1_steps_54 ?_
    refine v_callSH C.1 [.int x3, .int x6] [] (ctX1_isOf t G l hl0 x3 x6 u4) (fun _ _ => cwX1_isOf C.1 q1323 (by decide)) rfl rfl (by exact Nat.le_of_ble_eq_true rfl) dX1_steps_56 (fun r8 u7 => ?_)
    refine v_if_eq C.1.1 77 (by decide) dX1_steps_59 (fun _ => ?_) (fun _ => ?_)
    · refine v_iinc C.1.1 1 [(6, .int (x6 + 1)), (0, .ref p0), (2, .int p2), (3, .int x3), (4, .int x4), (5, .int x5)] 5 rfl (by decide) (by decide) rfl dX1_steps_77 ?_
      refine v_goto C.1.1 41 (by decide) dX1_steps_80 ?_
      refine v_sub [1, 2, 3, 4, 5, 0] rfl ?_
      exact hk x3 x4 x5 (x6 + 1) u7
    · refine v_iload C.1.1 4 rfl dX1_steps_62 ?_
      refine v_aload_n C.1.1 0 rfl rfl dX1_steps_64 ?_
      refine v_chk (fun h9 => ?_)
      refine v_hget C.1 (v := va_rf (hR u7 p0 2)) 0 2 (eq_of_beq h9) (by decide) rfl in_X1 (by decide) (Or.inl q311) (fun _ h => h) (hF_r (ci := 0) (eq_of_beq h9) (by decide)) dX1_steps_65 ?_
      refine v_deref (fun a10 e11 => ?_)
      refine v_chk (fun h12 => ?_)
      refine v_hget C.1 (v := va_rf (hR u7 a10 3)) 1 3 (eq_of_beq h12) (by decide) rfl in_X2 (by decide) (Or.inr ⟨_, q209⟩) (fun _ h => h) (hF_r (ci := 1) (eq_of_beq h12) (by decide)) dX1_steps_68 ?_
      refine v_deref (fun a13 e14 => ?_)
      refine v_iload C.1.1 5 rfl dX1_steps_71 ?_
      refine v_chk (fun h15 => ?_)
      refine v_haiald C.1 h15 dX1_steps_73 ?_
      refine v_ior C.1.1 dX1_steps_74 ?_
      refine v_topi (fun v16 => ?_)
      refine v_istore C.1.1 [(5, .int v16), (0, .ref p0), (2, .int p2), (3, .int x3), (4, .int x4), (6, .int x6)] (by decide) rfl dX1_steps_75 ?_
      refine v_iinc C.1.1 1 [(6, .int (x6 + 1)), (5, .int v16), (0, .ref p0), (2, .int p2), (3, .int x3), (4, .int x4)] 5 rfl (by decide) (by decide) rfl dX1_steps_77 ?_
      refine v_goto C.1.1 41 (by decide) dX1_steps_80 ?_
      refine v_sub [2, 3, 4, 5, 1, 0] rfl ?_
      exact hk x3 x4 v16 (x6 + 1) u7
def hX1_steps_17 (p0 : Nat) (p1 : Int32) (p2 : Int32) (k : Int32 → Int32 → HS → Option (OH (PX Int32))) (x3 : Int32) (x4 : Int32) (u : HS) : Option (OH (PX Int32)) :=
  if 9 ≤ x4 then
    hret (.inl (-1)) u
  else
    hb (hX1_isOf x3 p2 u) fun r2 u1 =>
    if r2 = 0 then
      ml4 (hX1_steps_41 p0 p1 p2 k) FUEL x3 x4 x3 0 u1
    else
      hret (.inl x4) u1
theorem whX1_steps_17 {K1 K2 : Nat} {p : Program} {e : Env} {s : State} {m : MethodId} {args : Array Value} {below : List Frame} {meth : Method} {c : Code} (hl0 : l.stackTraces = false) (C : CxX t G l p s m args meth c yX1_steps cX1_steps 7 (some .int)) (p0 : Nat) (p1 : Int32) (p2 : Int32) (n : Nat) (x3 : Int32) (x4 : Int32) (u : HS) : VX mkI t G p l e 10 K1 K2 s m args below meth c 7 17 [(0, .ref p0), (2, .int p2), (3, .int x3), (4, .int x4)] [] u (ml2 (hX1_steps_17 p0 p1 p2) n x3 x4 u) := by
  refine vl2 (L := fun x3 x4 => [(0, .ref p0), (2, .int p2), (3, .int x3), (4, .int x4)]) (fun k hk x3 x4 u => ?_) n x3 x4 u
  unfold hX1_steps_17
  refine v_iload C.1.1 3 rfl dX1_steps_17 ?_
  refine v_bipush C.1.1 9 (by decide) dX1_steps_19 ?_
  refine v_icmp_ge C.1.1 92 (by decide) dX1_steps_21 (fun _ => ?_) (fun _ => ?_)
  · refine v_iconst C.1.1 (-1) (by decide) dX1_steps_92 ?_
    exact v_xiret C.1 dX1_steps_93
  · refine v_iload_n C.1.1 2 rfl rfl dX1_steps_24 ?_
    refine v_iload_n C.1.1 1 rfl rfl dX1_steps_25 ?_
    refine v_callSH C.1 [.int x3, .int p2] [] (ctX1_isOf t G l hl0 x3 p2 u) (fun _ _ => cwX1_isOf C.1 q1323 (by decide)) rfl rfl (by exact Nat.le_of_ble_eq_true rfl) dX1_steps_26 (fun r2 u1 => ?_)
    refine v_if_eq C.1.1 35 (by decide) dX1_steps_29 (fun _ => ?_) (fun _ => ?_)
    · refine v_iload_n C.1.1 2 rfl rfl dX1_steps_35 ?_
      refine v_istore C.1.1 [(5, .int x3), (0, .ref p0), (2, .int p2), (3, .int x3), (4, .int x4)] (by decide) rfl dX1_steps_36 ?_
      refine v_iconst C.1.1 0 (by decide) dX1_steps_38 ?_
      refine v_istore C.1.1 [(6, .int 0), (5, .int x3), (0, .ref p0), (2, .int p2), (3, .int x3), (4, .int x4)] (by decide) rfl dX1_steps_39 ?_
      refine v_sub [2, 3, 4, 5, 1, 0] rfl ?_
      exact whX1_steps_41 hl0 C p0 p1 p2 k hk FUEL x3 x4 x3 0 u1
    · refine v_iload C.1.1 3 rfl dX1_steps_32 ?_
      exact v_xiret C.1 dX1_steps_34
def hX1_steps (p0 : Nat) (p1 : Int32) (p2 : Int32) (u : HS) : Option (OH (PX Int32)) :=
  mchk (hC u p0 == 1) <|
  hx (hX1_aPerson p0 p1 u) fun _ u1 =>
  mchk (hC u1 p0 == 1) <|
  hx (hX1_aPerson p0 p2 u1) fun _ u3 =>
  mlet ((1 : Int32) <<< (p1 &&& 31)) fun v5 =>
  ml2 (hX1_steps_17 p0 p1 p2) FUEL v5 0 u3
theorem ctX1_steps (t : TT) (G : GH) (l : Launch) (hl0 : l.stackTraces = false) (p0 : Nat) (p1 : Int32) (p2 : Int32) (u : HS) : CtX mkI t G l yX1_steps cX1_steps 7 (some .int) 10 [.ref p0, .int p1, .int p2] u (hX1_steps p0 p1 p2 u) := by
  refine ctX_of [(0, .ref p0), (1, .int p1), (2, .int p2)] hl0 rfl (Nat.le_of_ble_eq_true rfl) rfl (fun K1 K2 p e s m args below meth c C => ?_)
  unfold hX1_steps
  refine v_aload_n C.1.1 0 rfl rfl dX1_steps_0 ?_
  refine v_iload_n C.1.1 1 rfl rfl dX1_steps_1 ?_
  refine v_chk (fun h2 => ?_)
  refine v_callVX C [.int p1] [] (ctX1_aPerson t G l hl0 p0 p1 u) (fun _ _ => cwX1_aPerson C.1 q1380 (by decide)) (recO C.1 (ci := 0) (eq_of_beq h2) (by decide) rfl) rfl rfl (by exact Nat.le_of_ble_eq_true rfl) dX1_steps_2 (fun _ u1 => ?_)
  refine v_aload_n C.1.1 0 rfl rfl dX1_steps_5 ?_
  refine v_iload_n C.1.1 2 rfl rfl dX1_steps_6 ?_
  refine v_chk (fun h4 => ?_)
  refine v_callVX C [.int p2] [] (ctX1_aPerson t G l hl0 p0 p2 u1) (fun _ _ => cwX1_aPerson C.1 q1380 (by decide)) (recO C.1 (ci := 0) (eq_of_beq h4) (by decide) rfl) rfl rfl (by exact Nat.le_of_ble_eq_true rfl) dX1_steps_7 (fun _ u3 => ?_)
  refine v_iconst C.1.1 1 (by decide) dX1_steps_10 ?_
  refine v_iload_n C.1.1 1 rfl rfl dX1_steps_11 ?_
  refine v_ishl C.1.1 dX1_steps_12 ?_
  refine v_topi (fun v5 => ?_)
  refine v_istore_n C.1.1 [(3, .int v5), (0, .ref p0), (1, .int p1), (2, .int p2)] rfl (by decide) rfl dX1_steps_13 ?_
  refine v_iconst C.1.1 0 (by decide) dX1_steps_14 ?_
  refine v_istore C.1.1 [(4, .int 0), (3, .int v5), (0, .ref p0), (1, .int p1), (2, .int p2)] (by decide) rfl dX1_steps_15 ?_
  refine v_sub [2, 4, 1, 0] rfl ?_
  exact whX1_steps_17 hl0 C p0 p1 p2 FUEL v5 0 u3
theorem cwX1_steps {t : TT} {G : GH} {l : Launch} {p : Program} {s : State} {m : MethodId} {args : Array Value} {meth : Method} {c : Code} {y0 : MethodName} {cc0 : ByteArray} {nL0 : Nat} {ret0 : Option FieldType} (C : CxH t G l p s m args meth c y0 cc0 nL0 ret0) {index lv mc ms K1 K2 : Nat} (hq : Cond.methodLink y0.cls index yX1_steps ∈ lw_all) (hR : 10 + 1 ≤ lv) : CallW (rmH lv K1 K2) s args y0.cls RX1 index yX1_steps cX1_steps 7 (some .int) (ws_ yX1_steps cX1_steps 7 (some .int)) (rmH 10 mc ms) mc ms 2 :=
  cwV 2 C.1.2.2.2.2.1 (lw_V hq q1606 q1607 q121 q1608) rfl rfl rfl (by decide +kernel) ⟨hR, by show 8 + (7 + 11) + 100 * 10 ≤ 100 * lv; omega⟩
def hX7_joins (p0 : Nat) (p1 : Int32) (p2 : Int32) (u : HS) : Option (OH Int32) :=
  mchk (hC u p0 == 7) <|
  hb (hX7_from p0 p1 u) fun r2 u1 =>
  if r2 = p2 then
    if p1 = p2 then
      hz id 0 u1
    else
      hz id 1 u1
  else
    hz id 0 u1
theorem ctX7_joins (t : TT) (G : GH) (l : Launch) (hl0 : l.stackTraces = false) (p0 : Nat) (p1 : Int32) (p2 : Int32) (u : HS) : CtH mkI t G l yX7_joins cX7_joins 3 (some .boolean) 3 [.ref p0, .int p1, .int p2] u (hX7_joins p0 p1 p2 u) := by
  refine ctH_of [(0, .ref p0), (1, .int p1), (2, .int p2)] hl0 rfl (Nat.le_of_ble_eq_true rfl) rfl (fun K1 K2 p e s m args below meth c C => ?_)
  unfold hX7_joins
  refine v_aload_n C.1 0 rfl rfl dX7_joins_0 ?_
  refine v_iload_n C.1 1 rfl rfl dX7_joins_1 ?_
  refine v_chk (fun h3 => ?_)
  refine v_callVH C [.int p1] [] (ctX7_from t G l hl0 p0 p1 u) (fun _ _ => cwX7_from C q1079 (by decide)) (recO C (ci := 6) (eq_of_beq h3) (by decide) rfl) rfl rfl (by exact Nat.le_of_ble_eq_true rfl) dX7_joins_2 (fun r2 u1 => ?_)
  refine v_iload_n C.1 2 rfl rfl dX7_joins_5 ?_
  refine v_icmp_ne C.1 18 (by decide) dX7_joins_6 (fun _ => ?_) (fun _ => ?_)
  · refine v_iload_n C.1 1 rfl rfl dX7_joins_9 ?_
    refine v_iload_n C.1 2 rfl rfl dX7_joins_10 ?_
    refine v_icmp_eq C.1 18 (by decide) dX7_joins_11 (fun _ => ?_) (fun _ => ?_)
    · refine v_iconst C.1 0 (by decide) dX7_joins_18 ?_
      exact v_hzret C dX7_joins_19
    · refine v_iconst C.1 1 (by decide) dX7_joins_14 ?_
      refine v_goto C.1 19 (by decide) dX7_joins_15 ?_
      exact v_hzret C dX7_joins_19
  · refine v_iconst C.1 0 (by decide) dX7_joins_18 ?_
    exact v_hzret C dX7_joins_19
theorem cwX7_joins {t : TT} {G : GH} {l : Launch} {p : Program} {s : State} {m : MethodId} {args : Array Value} {meth : Method} {c : Code} {y0 : MethodName} {cc0 : ByteArray} {nL0 : Nat} {ret0 : Option FieldType} (C : CxH t G l p s m args meth c y0 cc0 nL0 ret0) {index lv mc ms K1 K2 : Nat} (hq : Cond.methodLink y0.cls index yX7_joins ∈ lw_all) (hR : 3 + 1 ≤ lv) : CallW (rmH lv K1 K2) s args y0.cls RX7 index yX7_joins cX7_joins 3 (some .boolean) (ws_ yX7_joins cX7_joins 3 (some .boolean)) (rmH 3 mc ms) mc ms 2 :=
  cwV 2 C.1.2.2.2.2.1 (lw_V hq q1076 q1077 q147 q1078) rfl rfl rfl (by decide +kernel) ⟨hR, by show 8 + (3 + 11) + 100 * 3 ≤ 100 * lv; omega⟩
def hX2_isJoined_2 (p0 : Nat) (p1 : Int32) (p2 : Int32) (k : Int32 → HS → Option (OH Int32)) (x3 : Int32) (u : HS) : Option (OH Int32) :=
  mchk (hC u p0 == 2) <|
  mderef (hR u p0 2) fun a2 =>
  mchk (hC u a2 == 12) <|
  hb (hJ2_size a2 u) fun r5 u4 =>
  if r5 ≤ x3 then
    hz id 0 u4
  else
    mchk (hC u4 p0 == 2) <|
    mderef (hR u4 p0 2) fun a8 =>
    mchk (hC u4 a8 == 12) <|
    hb (hJ2_get a8 x3 u4) fun r11 u10 =>
    mchk (hC u10 r11 == 7) <|
    mchk (hC u10 r11 == 7) <|
    hb (hX7_joins r11 p1 p2 u10) fun r15 u14 =>
    if r15 = 0 then
      k (x3 + 1) u14
    else
      hz id 1 u14
theorem whX2_isJoined_2 {K1 K2 : Nat} {p : Program} {e : Env} {s : State} {m : MethodId} {args : Array Value} {below : List Frame} {meth : Method} {c : Code} (hl0 : l.stackTraces = false) (C : CxH t G l p s m args meth c yX2_isJoined cX2_isJoined 4 (some .boolean)) (p0 : Nat) (p1 : Int32) (p2 : Int32) (n : Nat) (x3 : Int32) (u : HS) : VH mkI t G p l e 5 K1 K2 s m args below meth c 4 2 [(0, .ref p0), (1, .int p1), (2, .int p2), (3, .int x3)] [] u (ml1 (hX2_isJoined_2 p0 p1 p2) n x3 u) := by
  refine vl1 (L := fun x3 => [(0, .ref p0), (1, .int p1), (2, .int p2), (3, .int x3)]) (fun k hk x3 u => ?_) n x3 u
  unfold hX2_isJoined_2
  refine v_iload_n C.1 3 rfl rfl dX2_isJoined_2 ?_
  refine v_aload_n C.1 0 rfl rfl dX2_isJoined_3 ?_
  refine v_chk (fun h1 => ?_)
  refine v_hget C (v := va_rf (hR u p0 2)) 1 2 (eq_of_beq h1) (by decide) rfl in_X2 (by decide) (Or.inl q204) (fun _ h => h) (hF_r (ci := 1) (eq_of_beq h1) (by decide)) dX2_isJoined_4 ?_
  refine v_deref (fun a2 e3 => ?_)
  refine v_chk (fun h6 => ?_)
  refine v_callFH C [] [.int x3] (ctJ2_size t G l hl0 a2 u) (fun _ _ => cwJ2_sizeF C q503 (by decide)) (eq_of_beq h6) (by decide) rfl rfl rfl (by exact Nat.le_of_ble_eq_true rfl) dX2_isJoined_7 (fun r5 u4 => ?_)
  refine v_icmp_ge C.1 44 (by decide) dX2_isJoined_12 (fun _ => ?_) (fun _ => ?_)
  · refine v_iconst C.1 0 (by decide) dX2_isJoined_44 ?_
    exact v_hzret C dX2_isJoined_45
  · refine v_aload_n C.1 0 rfl rfl dX2_isJoined_15 ?_
    refine v_chk (fun h7 => ?_)
    refine v_hget C (v := va_rf (hR u4 p0 2)) 1 2 (eq_of_beq h7) (by decide) rfl in_X2 (by decide) (Or.inl q204) (fun _ h => h) (hF_r (ci := 1) (eq_of_beq h7) (by decide)) dX2_isJoined_16 ?_
    refine v_deref (fun a8 e9 => ?_)
    refine v_iload_n C.1 3 rfl rfl dX2_isJoined_19 ?_
    refine v_chk (fun h12 => ?_)
    refine v_callFH C [.int x3] [] (ctJ2_get t G l hl0 a8 x3 u4) (fun _ _ => cwJ2_getF C q649 (by decide)) (eq_of_beq h12) (by decide) rfl rfl rfl (by exact Nat.le_of_ble_eq_true rfl) dX2_isJoined_20 (fun r11 u10 => ?_)
    refine v_chk (fun h13 => ?_)
    refine v_hcastS C 6 (eq_of_beq h13) (by decide) rfl q1074 dX2_isJoined_25 ?_
    refine v_iload_n C.1 1 rfl rfl dX2_isJoined_28 ?_
    refine v_iload_n C.1 2 rfl rfl dX2_isJoined_29 ?_
    refine v_chk (fun h16 => ?_)
    refine v_callVH C [.int p1, .int p2] [] (ctX7_joins t G l hl0 r11 p1 p2 u10) (fun _ _ => cwX7_joins C q1075 (by decide)) (recO C (ci := 6) (eq_of_beq h16) (by decide) rfl) rfl rfl (by exact Nat.le_of_ble_eq_true rfl) dX2_isJoined_30 (fun r15 u14 => ?_)
    refine v_if_eq C.1 38 (by decide) dX2_isJoined_33 (fun _ => ?_) (fun _ => ?_)
    · refine v_iinc C.1 1 [(3, .int (x3 + 1)), (0, .ref p0), (1, .int p1), (2, .int p2)] 3 rfl (by decide) (by decide) rfl dX2_isJoined_38 ?_
      refine v_goto C.1 2 (by decide) dX2_isJoined_41 ?_
      refine v_sub [1, 2, 3, 0] rfl ?_
      exact hk (x3 + 1) u14
    · refine v_iconst C.1 1 (by decide) dX2_isJoined_36 ?_
      exact v_hzret C dX2_isJoined_37
def hX2_isJoined (p0 : Nat) (p1 : Int32) (p2 : Int32) (u : HS) : Option (OH Int32) :=
  ml1 (hX2_isJoined_2 p0 p1 p2) FUEL 0 u
theorem ctX2_isJoined (t : TT) (G : GH) (l : Launch) (hl0 : l.stackTraces = false) (p0 : Nat) (p1 : Int32) (p2 : Int32) (u : HS) : CtH mkI t G l yX2_isJoined cX2_isJoined 4 (some .boolean) 5 [.ref p0, .int p1, .int p2] u (hX2_isJoined p0 p1 p2 u) := by
  refine ctH_of [(0, .ref p0), (1, .int p1), (2, .int p2)] hl0 rfl (Nat.le_of_ble_eq_true rfl) rfl (fun K1 K2 p e s m args below meth c C => ?_)
  unfold hX2_isJoined
  refine v_iconst C.1 0 (by decide) dX2_isJoined_0 ?_
  refine v_istore_n C.1 [(3, .int 0), (0, .ref p0), (1, .int p1), (2, .int p2)] rfl (by decide) rfl dX2_isJoined_1 ?_
  refine v_sub [1, 2, 3, 0] rfl ?_
  exact whX2_isJoined_2 hl0 C p0 p1 p2 FUEL 0 u
theorem cwX2_isJoined {t : TT} {G : GH} {l : Launch} {p : Program} {s : State} {m : MethodId} {args : Array Value} {meth : Method} {c : Code} {y0 : MethodName} {cc0 : ByteArray} {nL0 : Nat} {ret0 : Option FieldType} (C : CxH t G l p s m args meth c y0 cc0 nL0 ret0) {index lv mc ms K1 K2 : Nat} (hq : Cond.methodLink y0.cls index yX2_isJoined ∈ lw_all) (hR : 5 + 1 ≤ lv) : CallW (rmH lv K1 K2) s args y0.cls RX2 index yX2_isJoined cX2_isJoined 4 (some .boolean) (ws_ yX2_isJoined cX2_isJoined 4 (some .boolean)) (rmH 5 mc ms) mc ms 2 :=
  cwV 2 C.1.2.2.2.2.1 (lw_V hq q1071 q1072 q122 q1073) rfl rfl rfl (by decide +kernel) ⟨hR, by show 8 + (4 + 11) + 100 * 5 ≤ 100 * lv; omega⟩
def hX5_init (p0 : Nat) (p1 : Nat) (p2 : Int32) (u : HS) : Option (OH Unit) :=
  mchk (hC u p0 == 5) <|
  mlet (uR u p0 11 (some p1)) fun u2 =>
  mlet (hZ u2) fun a3 =>
  addc 1 (cN 1) <|
  mlet (nO u2 1) fun u5 =>
  hb (hX2_init a3 u5) fun _ u6 =>
  mchk (hC u6 p0 == 5) <|
  mlet (uR u6 p0 1 (some a3)) fun u8 =>
  mlet (hZ u8) fun a9 =>
  addc 1 (cN 2) <|
  mlet (nO u8 2) fun u11 =>
  mchk (hC u11 p0 == 5) <|
  mderef (hR u11 p0 11) fun a13 =>
  hb (hX3_init a9 a13 u11) fun _ u15 =>
  mchk (hC u15 p0 == 5) <|
  mlet (uR u15 p0 2 (some a9)) fun u17 =>
  mlet (hZ u17) fun a18 =>
  addc 1 (8) <|
  mlet (nA u17 6 (8)) fun u20 =>
  mlet (hK u20 10) fun a21 =>
  mchk (inA u20 0 a18 26) <|
  mchk (hC u20 a21 == 30) <|
  mlet (uQ u20 a18 (0 : Int32).toNatClampNeg (some a21)) fun u24 =>
  mlet (hK u24 11) fun a27 =>
  mchk (inA u24 1 a18 26) <|
  mchk (hC u24 a27 == 30) <|
  mlet (uQ u24 a18 (1 : Int32).toNatClampNeg (some a27)) fun u30 =>
  mlet (hK u30 12) fun a33 =>
  mchk (inA u30 2 a18 26) <|
  mchk (hC u30 a33 == 30) <|
  mlet (uQ u30 a18 (2 : Int32).toNatClampNeg (some a33)) fun u36 =>
  mlet (hK u36 13) fun a39 =>
  mchk (inA u36 3 a18 26) <|
  mchk (hC u36 a39 == 30) <|
  mlet (uQ u36 a18 (3 : Int32).toNatClampNeg (some a39)) fun u42 =>
  mlet (hK u42 14) fun a45 =>
  mchk (inA u42 4 a18 26) <|
  mchk (hC u42 a45 == 30) <|
  mlet (uQ u42 a18 (4 : Int32).toNatClampNeg (some a45)) fun u48 =>
  mlet (hK u48 15) fun a51 =>
  mchk (inA u48 5 a18 26) <|
  mchk (hC u48 a51 == 30) <|
  mlet (uQ u48 a18 (5 : Int32).toNatClampNeg (some a51)) fun u54 =>
  mlet (hK u54 16) fun a57 =>
  mchk (inA u54 6 a18 26) <|
  mchk (hC u54 a57 == 30) <|
  mlet (uQ u54 a18 (6 : Int32).toNatClampNeg (some a57)) fun u60 =>
  mlet (hK u60 17) fun a63 =>
  mchk (inA u60 7 a18 26) <|
  mchk (hC u60 a63 == 30) <|
  mlet (uQ u60 a18 (7 : Int32).toNatClampNeg (some a63)) fun u66 =>
  mchk (hC u66 p0 == 5) <|
  mlet (uR u66 p0 3 (some a18)) fun u70 =>
  mchk (hC u70 p0 == 5) <|
  mlet (uI u70 p0 0 p2) fun u72 =>
  hret () u72
theorem ctX5_init (t : TT) (G : GH) (l : Launch) (hl0 : l.stackTraces = false) (p0 : Nat) (p1 : Nat) (p2 : Int32) (u : HS) : CtH mkU t G l yX5_init cX5_init 3 none 6 [.ref p0, .ref p1, .int p2] u (hX5_init p0 p1 p2 u) := by
  refine ctH_of [(0, .ref p0), (1, .ref p1), (2, .int p2)] hl0 rfl (Nat.le_of_ble_eq_true rfl) rfl (fun K1 K2 p e s m args below meth c C => ?_)
  unfold hX5_init
  refine v_aload_n C.1 0 rfl rfl dX5_init_0 ?_
  refine v_aload_n C.1 1 rfl rfl dX5_init_1 ?_
  refine v_chk (fun h1 => ?_)
  refine v_hputR C (some p1) 4 11 (eq_of_beq h1) (by decide) rfl in_X5 tyX5 tyX5_ok nmX5 (by decide) (by decide) q860 (fun _ h => h) (Or.inr ⟨rfl, rfl, rfl⟩) rfl rfl dX5_init_2 (fun u2 => ?_)
  refine v_aload_n C.1 0 rfl rfl dX5_init_5 ?_
  refine v_objInit C q832 q161 q162 (by exact Nat.le_of_ble_eq_true rfl) (by exact Nat.le_of_ble_eq_true rfl) dX5_init_6 ?_
  refine v_aload_n C.1 0 rfl rfl dX5_init_9 ?_
  refine v_letE (fun a3 e4 => ?_)
  refine v_hnew C 1 e4 (by decide) (by decide) rfl in_X2 tyX2 tyX2_ok df_X2 q833 q164 q122 dX5_init_10 (fun u5 => ?_)
  refine v_dup C.1 rfl dX5_init_13 ?_
  refine v_callINH C [] [.ref a3, .ref p0] (ctX2_init t G l hl0 a3 u5) (fun _ _ => cwX2_initN C q834 (by decide)) rfl rfl (by exact Nat.le_of_ble_eq_true rfl) dX5_init_14 (fun _ u6 => ?_)
  refine v_chk (fun h7 => ?_)
  refine v_hputR C (some a3) 4 1 (eq_of_beq h7) (by decide) rfl in_X5 tyX5 tyX5_ok nmX5 (by decide) (by decide) q848 (fun _ h => h) (Or.inr ⟨rfl, rfl, rfl⟩) rfl rfl dX5_init_17 (fun u8 => ?_)
  refine v_aload_n C.1 0 rfl rfl dX5_init_20 ?_
  refine v_letE (fun a9 e10 => ?_)
  refine v_hnew C 2 e10 (by decide) (by decide) rfl in_X3 tyX3 tyX3_ok df_X3 q835 q247 q126 dX5_init_21 (fun u11 => ?_)
  refine v_dup C.1 rfl dX5_init_24 ?_
  refine v_aload_n C.1 0 rfl rfl dX5_init_25 ?_
  refine v_chk (fun h12 => ?_)
  refine v_hget C (v := va_rf (hR u11 p0 11)) 4 11 (eq_of_beq h12) (by decide) rfl in_X5 (by decide) (Or.inl q860) (fun _ h => h) (hF_r (ci := 4) (eq_of_beq h12) (by decide)) dX5_init_26 ?_
  refine v_deref (fun a13 e14 => ?_)
  refine v_callIH C [.ref a13] [.ref a9, .ref p0] (ctX3_init t G l hl0 a9 a13 u11) (fun _ _ => cwX3_init C q836 (by decide)) rfl rfl (by exact Nat.le_of_ble_eq_true rfl) dX5_init_29 (fun _ u15 => ?_)
  refine v_chk (fun h16 => ?_)
  refine v_hputR C (some a9) 4 2 (eq_of_beq h16) (by decide) rfl in_X5 tyX5 tyX5_ok nmX5 (by decide) (by decide) q849 (fun _ h => h) (Or.inr ⟨rfl, rfl, rfl⟩) rfl rfl dX5_init_32 (fun u17 => ?_)
  refine v_aload_n C.1 0 rfl rfl dX5_init_35 ?_
  refine v_bipush C.1 8 (by decide) dX5_init_36 ?_
  refine v_letE (fun a18 e19 => ?_)
  refine v_hanew C 6 e19 (by decide) q837 (by decide) (by decide) (by decide) dX5_init_38 (fun u20 => ?_)
  refine v_dup C.1 rfl dX5_init_41 ?_
  refine v_iconst C.1 0 (by decide) dX5_init_42 ?_
  refine v_K (fun ek23 _ => ?_)
  refine v_letE (fun a21 e22 => ?_)
  refine v_hldc (q := a21) C rfl 0 (by decide) rfl (by rw [e22, ek23]) dX5_init_43 ?_
  refine v_chk (fun h25 => ?_)
  refine v_chk (fun h26 => ?_)
  refine v_haast C 6 (Or.inr ⟨rfl, eq_of_beq h26⟩) h25 dX5_init_45 (fun u24 => ?_)
  refine v_dup C.1 rfl dX5_init_46 ?_
  refine v_iconst C.1 1 (by decide) dX5_init_47 ?_
  refine v_K (fun ek29 _ => ?_)
  refine v_letE (fun a27 e28 => ?_)
  refine v_hldc (q := a27) C rfl 1 (by decide) rfl (by rw [e28, ek29]) dX5_init_48 ?_
  refine v_chk (fun h31 => ?_)
  refine v_chk (fun h32 => ?_)
  refine v_haast C 6 (Or.inr ⟨rfl, eq_of_beq h32⟩) h31 dX5_init_50 (fun u30 => ?_)
  refine v_dup C.1 rfl dX5_init_51 ?_
  refine v_iconst C.1 2 (by decide) dX5_init_52 ?_
  refine v_K (fun ek35 _ => ?_)
  refine v_letE (fun a33 e34 => ?_)
  refine v_hldc (q := a33) C rfl 2 (by decide) rfl (by rw [e34, ek35]) dX5_init_53 ?_
  refine v_chk (fun h37 => ?_)
  refine v_chk (fun h38 => ?_)
  refine v_haast C 6 (Or.inr ⟨rfl, eq_of_beq h38⟩) h37 dX5_init_55 (fun u36 => ?_)
  refine v_dup C.1 rfl dX5_init_56 ?_
  refine v_iconst C.1 3 (by decide) dX5_init_57 ?_
  refine v_K (fun ek41 _ => ?_)
  refine v_letE (fun a39 e40 => ?_)
  refine v_hldc (q := a39) C rfl 3 (by decide) rfl (by rw [e40, ek41]) dX5_init_58 ?_
  refine v_chk (fun h43 => ?_)
  refine v_chk (fun h44 => ?_)
  refine v_haast C 6 (Or.inr ⟨rfl, eq_of_beq h44⟩) h43 dX5_init_60 (fun u42 => ?_)
  refine v_dup C.1 rfl dX5_init_61 ?_
  refine v_iconst C.1 4 (by decide) dX5_init_62 ?_
  refine v_K (fun ek47 _ => ?_)
  refine v_letE (fun a45 e46 => ?_)
  refine v_hldc (q := a45) C rfl 4 (by decide) rfl (by rw [e46, ek47]) dX5_init_63 ?_
  refine v_chk (fun h49 => ?_)
  refine v_chk (fun h50 => ?_)
  refine v_haast C 6 (Or.inr ⟨rfl, eq_of_beq h50⟩) h49 dX5_init_65 (fun u48 => ?_)
  refine v_dup C.1 rfl dX5_init_66 ?_
  refine v_iconst C.1 5 (by decide) dX5_init_67 ?_
  refine v_K (fun ek53 _ => ?_)
  refine v_letE (fun a51 e52 => ?_)
  refine v_hldc (q := a51) C rfl 5 (by decide) rfl (by rw [e52, ek53]) dX5_init_68 ?_
  refine v_chk (fun h55 => ?_)
  refine v_chk (fun h56 => ?_)
  refine v_haast C 6 (Or.inr ⟨rfl, eq_of_beq h56⟩) h55 dX5_init_70 (fun u54 => ?_)
  refine v_dup C.1 rfl dX5_init_71 ?_
  refine v_bipush C.1 6 (by decide) dX5_init_72 ?_
  refine v_K (fun ek59 _ => ?_)
  refine v_letE (fun a57 e58 => ?_)
  refine v_hldc (q := a57) C rfl 6 (by decide) rfl (by rw [e58, ek59]) dX5_init_74 ?_
  refine v_chk (fun h61 => ?_)
  refine v_chk (fun h62 => ?_)
  refine v_haast C 6 (Or.inr ⟨rfl, eq_of_beq h62⟩) h61 dX5_init_76 (fun u60 => ?_)
  refine v_dup C.1 rfl dX5_init_77 ?_
  refine v_bipush C.1 7 (by decide) dX5_init_78 ?_
  refine v_K (fun ek65 _ => ?_)
  refine v_letE (fun a63 e64 => ?_)
  refine v_hldc (q := a63) C rfl 7 (by decide) rfl (by rw [e64, ek65]) dX5_init_80 ?_
  refine v_chk (fun h67 => ?_)
  refine v_chk (fun h68 => ?_)
  refine v_haast C 6 (Or.inr ⟨rfl, eq_of_beq h68⟩) h67 dX5_init_82 (fun u66 => ?_)
  refine v_chk (fun h69 => ?_)
  refine v_hputR C (some a18) 4 3 (eq_of_beq h69) (by decide) rfl in_X5 tyX5 tyX5_ok nmX5 (by decide) (by decide) q851 (fun _ h => h) (Or.inr ⟨rfl, rfl, rfl⟩) rfl rfl dX5_init_83 (fun u70 => ?_)
  refine v_aload_n C.1 0 rfl rfl dX5_init_86 ?_
  refine v_iload_n C.1 2 rfl rfl dX5_init_87 ?_
  refine v_chk (fun h71 => ?_)
  refine v_hputI C 4 0 (eq_of_beq h71) (by decide) rfl in_X5 tyX5 tyX5_ok nmX5 (by decide) (by decide) q847 (fun _ h => h) (Or.inr ⟨rfl, rfl, rfl⟩) ⟨rfl, rfl⟩ dX5_init_88 (fun u72 => ?_)
  exact v_hvret C dX5_init_91
theorem cwX5_init {t : TT} {G : GH} {l : Launch} {p : Program} {s : State} {m : MethodId} {args : Array Value} {meth : Method} {c : Code} {y0 : MethodName} {cc0 : ByteArray} {nL0 : Nat} {ret0 : Option FieldType} (C : CxH t G l p s m args meth c y0 cc0 nL0 ret0) {index lv mc ms K1 K2 : Nat} (hq : Cond.methodLink y0.cls index yX5_init ∈ lw_all) (hR : 6 + 1 ≤ lv) : CallB (rmH lv K1 K2) s args y0.cls index yX5_init cX5_init 3 none (ws_ yX5_init cX5_init 3 none) (rmH 6 mc ms) mc ms 2 ∧ yX5_init.name = "<init>" ∧ (Cond.instanceMethod yX5_init).before args s = true :=
  cwI 2 C.1.2.2.2.2.1 (lw_meth q831) rfl rfl rfl (C.1.2.2.2.2.1 _ q132) (C.1.2.2.2.2.1 _ hq) (C.1.2.2.2.2.1 _ q830) rfl (by decide +kernel) ⟨hR, by show 8 + (3 + 11) + 100 * 6 ≤ 100 * lv; omega⟩
def hX5_here (p0 : Nat) (u : HS) : Option (OH Int32) :=
  mchk (hC u p0 == 5) <|
  mchk (hC u p0 == 5) <|
  if (hI u p0 0) ≤ (hI u p0 4) then
    hret (-1) u
  else
    mchk (hC u p0 == 5) <|
    mderef (hR u p0 11) fun a4 =>
    mchk (hC u a4 == 1) <|
    mderef (hR u a4 4) fun a7 =>
    mchk (hC u p0 == 5) <|
    mchk (inA u (hI u p0 4) a7 23) <|
    hret ((hA u a7 (hI u p0 4).toNatClampNeg) &&& 255) u
theorem ctX5_here (t : TT) (G : GH) (l : Launch) (hl0 : l.stackTraces = false) (p0 : Nat) (u : HS) : CtH mkI t G l yX5_here cX5_here 1 (some .int) 2 [.ref p0] u (hX5_here p0 u) := by
  refine ctH_of [(0, .ref p0)] hl0 rfl (Nat.le_of_ble_eq_true rfl) rfl (fun K1 K2 p e s m args below meth c C => ?_)
  unfold hX5_here
  refine v_aload_n C.1 0 rfl rfl dX5_here_0 ?_
  refine v_chk (fun h1 => ?_)
  refine v_hget C (v := .int (hI u p0 4)) 4 4 (eq_of_beq h1) (by decide) rfl in_X5 (by decide) (Or.inl q852) (fun _ h => h) (hF_i (ci := 4) (eq_of_beq h1) (by decide)) dX5_here_1 ?_
  refine v_aload_n C.1 0 rfl rfl dX5_here_4 ?_
  refine v_chk (fun h2 => ?_)
  refine v_hget C (v := .int (hI u p0 0)) 4 0 (eq_of_beq h2) (by decide) rfl in_X5 (by decide) (Or.inl q847) (fun _ h => h) (hF_i (ci := 4) (eq_of_beq h2) (by decide)) dX5_here_5 ?_
  refine v_icmp_ge C.1 30 (by decide) dX5_here_8 (fun _ => ?_) (fun _ => ?_)
  · refine v_iconst C.1 (-1) (by decide) dX5_here_30 ?_
    exact v_hiret C dX5_here_31
  · refine v_aload_n C.1 0 rfl rfl dX5_here_11 ?_
    refine v_chk (fun h3 => ?_)
    refine v_hget C (v := va_rf (hR u p0 11)) 4 11 (eq_of_beq h3) (by decide) rfl in_X5 (by decide) (Or.inl q860) (fun _ h => h) (hF_r (ci := 4) (eq_of_beq h3) (by decide)) dX5_here_12 ?_
    refine v_deref (fun a4 e5 => ?_)
    refine v_chk (fun h6 => ?_)
    refine v_hget C (v := va_rf (hR u a4 4)) 0 4 (eq_of_beq h6) (by decide) rfl in_X1 (by decide) (Or.inr ⟨_, q313⟩) (fun _ h => h) (hF_r (ci := 0) (eq_of_beq h6) (by decide)) dX5_here_15 ?_
    refine v_deref (fun a7 e8 => ?_)
    refine v_aload_n C.1 0 rfl rfl dX5_here_18 ?_
    refine v_chk (fun h9 => ?_)
    refine v_hget C (v := .int (hI u p0 4)) 4 4 (eq_of_beq h9) (by decide) rfl in_X5 (by decide) (Or.inl q852) (fun _ h => h) (hF_i (ci := 4) (eq_of_beq h9) (by decide)) dX5_here_19 ?_
    refine v_chk (fun h10 => ?_)
    refine v_habald C h10 dX5_here_22 ?_
    refine v_sipush C.1 255 (by decide) dX5_here_23 ?_
    refine v_iand C.1 dX5_here_26 ?_
    refine v_goto C.1 31 (by decide) dX5_here_27 ?_
    exact v_hiret C dX5_here_31
theorem cwX5_here {t : TT} {G : GH} {l : Launch} {p : Program} {s : State} {m : MethodId} {args : Array Value} {meth : Method} {c : Code} {y0 : MethodName} {cc0 : ByteArray} {nL0 : Nat} {ret0 : Option FieldType} (C : CxH t G l p s m args meth c y0 cc0 nL0 ret0) {index lv mc ms K1 K2 : Nat} (hq : Cond.methodLink y0.cls index yX5_here ∈ lw_all) (hR : 2 + 1 ≤ lv) : CallW (rmH lv K1 K2) s args y0.cls RX5 index yX5_here cX5_here 1 (some .int) (ws_ yX5_here cX5_here 1 (some .int)) (rmH 2 mc ms) mc ms 0 :=
  cwV 0 C.1.2.2.2.2.1 (lw_V hq q896 qs13 q132 q897) rfl rfl rfl (by decide +kernel) ⟨hR, by show 8 + (1 + 11) + 100 * 2 ≤ 100 * lv; omega⟩
def hX5_isLetter (p0 : Nat) (u : HS) : Option (OH Int32) :=
  mchk (hC u p0 == 5) <|
  hb (hX5_here p0 u) fun r2 u1 =>
  hb (hX1_in r2 97 122 u1) fun r5 u4 =>
  hz id r5 u4
theorem ctX5_isLetter (t : TT) (G : GH) (l : Launch) (hl0 : l.stackTraces = false) (p0 : Nat) (u : HS) : CtH mkI t G l yX5_isLetter cX5_isLetter 1 (some .boolean) 3 [.ref p0] u (hX5_isLetter p0 u) := by
  refine ctH_of [(0, .ref p0)] hl0 rfl (Nat.le_of_ble_eq_true rfl) rfl (fun K1 K2 p e s m args below meth c C => ?_)
  unfold hX5_isLetter
  refine v_aload_n C.1 0 rfl rfl dX5_isLetter_0 ?_
  refine v_chk (fun h3 => ?_)
  refine v_callVH C [] [] (ctX5_here t G l hl0 p0 u) (fun _ _ => cwX5_here C q894 (by decide)) (recO C (ci := 4) (eq_of_beq h3) (by decide) rfl) rfl rfl (by exact Nat.le_of_ble_eq_true rfl) dX5_isLetter_1 (fun r2 u1 => ?_)
  refine v_bipush C.1 97 (by decide) dX5_isLetter_4 ?_
  refine v_bipush C.1 122 (by decide) dX5_isLetter_6 ?_
  refine v_callSNH C [.int r2, .int 97, .int 122] [] (ctX1_in t G l hl0 r2 97 122 u1) (fun _ _ => cwX1_inN C q902 (by decide)) rfl rfl (by exact Nat.le_of_ble_eq_true rfl) dX5_isLetter_8 (fun r5 u4 => ?_)
  exact v_hzret C dX5_isLetter_11
theorem cwX5_isLetter {t : TT} {G : GH} {l : Launch} {p : Program} {s : State} {m : MethodId} {args : Array Value} {meth : Method} {c : Code} {y0 : MethodName} {cc0 : ByteArray} {nL0 : Nat} {ret0 : Option FieldType} (C : CxH t G l p s m args meth c y0 cc0 nL0 ret0) {index lv mc ms K1 K2 : Nat} (hq : Cond.methodLink y0.cls index yX5_isLetter ∈ lw_all) (hR : 3 + 1 ≤ lv) : CallW (rmH lv K1 K2) s args y0.cls RX5 index yX5_isLetter cX5_isLetter 1 (some .boolean) (ws_ yX5_isLetter cX5_isLetter 1 (some .boolean)) (rmH 3 mc ms) mc ms 0 :=
  cwV 0 C.1.2.2.2.2.1 (lw_V hq q900 qs14 q132 q901) rfl rfl rfl (by decide +kernel) ⟨hR, by show 8 + (1 + 11) + 100 * 3 ≤ 100 * lv; omega⟩
def hX5_isDigit (p0 : Nat) (u : HS) : Option (OH Int32) :=
  mchk (hC u p0 == 5) <|
  hb (hX5_here p0 u) fun r2 u1 =>
  hb (hX1_in r2 48 57 u1) fun r5 u4 =>
  hz id r5 u4
theorem ctX5_isDigit (t : TT) (G : GH) (l : Launch) (hl0 : l.stackTraces = false) (p0 : Nat) (u : HS) : CtH mkI t G l yX5_isDigit cX5_isDigit 1 (some .boolean) 3 [.ref p0] u (hX5_isDigit p0 u) := by
  refine ctH_of [(0, .ref p0)] hl0 rfl (Nat.le_of_ble_eq_true rfl) rfl (fun K1 K2 p e s m args below meth c C => ?_)
  unfold hX5_isDigit
  refine v_aload_n C.1 0 rfl rfl dX5_isDigit_0 ?_
  refine v_chk (fun h3 => ?_)
  refine v_callVH C [] [] (ctX5_here t G l hl0 p0 u) (fun _ _ => cwX5_here C q894 (by decide)) (recO C (ci := 4) (eq_of_beq h3) (by decide) rfl) rfl rfl (by exact Nat.le_of_ble_eq_true rfl) dX5_isDigit_1 (fun r2 u1 => ?_)
  refine v_bipush C.1 48 (by decide) dX5_isDigit_4 ?_
  refine v_bipush C.1 57 (by decide) dX5_isDigit_6 ?_
  refine v_callSNH C [.int r2, .int 48, .int 57] [] (ctX1_in t G l hl0 r2 48 57 u1) (fun _ _ => cwX1_inN C q902 (by decide)) rfl rfl (by exact Nat.le_of_ble_eq_true rfl) dX5_isDigit_8 (fun r5 u4 => ?_)
  exact v_hzret C dX5_isDigit_11
theorem cwX5_isDigit {t : TT} {G : GH} {l : Launch} {p : Program} {s : State} {m : MethodId} {args : Array Value} {meth : Method} {c : Code} {y0 : MethodName} {cc0 : ByteArray} {nL0 : Nat} {ret0 : Option FieldType} (C : CxH t G l p s m args meth c y0 cc0 nL0 ret0) {index lv mc ms K1 K2 : Nat} (hq : Cond.methodLink y0.cls index yX5_isDigit ∈ lw_all) (hR : 3 + 1 ≤ lv) : CallW (rmH lv K1 K2) s args y0.cls RX5 index yX5_isDigit cX5_isDigit 1 (some .boolean) (ws_ yX5_isDigit cX5_isDigit 1 (some .boolean)) (rmH 3 mc ms) mc ms 0 :=
  cwV 0 C.1.2.2.2.2.1 (lw_V hq q905 qs15 q132 q906) rfl rfl rfl (by decide +kernel) ⟨hR, by show 8 + (1 + 11) + 100 * 3 ≤ 100 * lv; omega⟩
def hJ8_isLatin1 (p0 : Nat) (u : HS) : Option (OH Int32) :=
  if (1 : Int32) = 0 then
    hz id 0 u
  else
    mchk (hC u p0 == 30) <|
    if (hI u p0 1) = 0 then
      hz id 1 u
    else
      hz id 0 u
theorem ctJ8_isLatin1 (t : TT) (G : GH) (l : Launch) (hl0 : l.stackTraces = false) (p0 : Nat) (u : HS) : CtH mkI t G l yJ8_isLatin1 cJ8_isLatin1 1 (some .boolean) 2 [.ref p0] u (hJ8_isLatin1 p0 u) := by
  refine ctH_of [(0, .ref p0)] hl0 rfl (Nat.le_of_ble_eq_true rfl) rfl (fun K1 K2 p e s m args below meth c C => ?_)
  unfold hJ8_isLatin1
  refine v_gets C C.2.1.comp q922 (fun _ h => h) dJ8_isLatin1_0 ?_
  refine v_if_eq C.1 17 (by decide) dJ8_isLatin1_3 (fun _ => ?_) (fun _ => ?_)
  · refine v_iconst C.1 0 (by decide) dJ8_isLatin1_17 ?_
    exact v_hzret C dJ8_isLatin1_18
  · refine v_aload_n C.1 0 rfl rfl dJ8_isLatin1_6 ?_
    refine v_chk (fun h1 => ?_)
    refine v_hgetS C (v := .int (hI u p0 1)) 1 (eq_of_beq h1) (Or.inr ⟨rfl, rfl⟩) q2383 dJ8_isLatin1_7 ?_
    refine v_if_ne C.1 17 (by decide) dJ8_isLatin1_10 (fun _ => ?_) (fun _ => ?_)
    · refine v_iconst C.1 1 (by decide) dJ8_isLatin1_13 ?_
      refine v_goto C.1 18 (by decide) dJ8_isLatin1_14 ?_
      exact v_hzret C dJ8_isLatin1_18
    · refine v_iconst C.1 0 (by decide) dJ8_isLatin1_17 ?_
      exact v_hzret C dJ8_isLatin1_18
theorem cwJ8_isLatin1 {t : TT} {G : GH} {l : Launch} {p : Program} {s : State} {m : MethodId} {args : Array Value} {meth : Method} {c : Code} {y0 : MethodName} {cc0 : ByteArray} {nL0 : Nat} {ret0 : Option FieldType} (C : CxH t G l p s m args meth c y0 cc0 nL0 ret0) {index lv mc ms K1 K2 : Nat} (hq : Cond.methodLink y0.cls index yJ8_isLatin1 ∈ lw_all) (hR : 2 + 1 ≤ lv) : CallW (rmH lv K1 K2) s args y0.cls RJ8 index yJ8_isLatin1 cJ8_isLatin1 1 (some .boolean) (ws_ yJ8_isLatin1 cJ8_isLatin1 1 (some .boolean)) (rmH 2 mc ms) mc ms 0 :=
  cwV 0 C.1.2.2.2.2.1 (lw_V hq q919 q920 q134 q921) rfl rfl rfl (by decide +kernel) ⟨hR, by show 8 + (1 + 11) + 100 * 2 ≤ 100 * lv; omega⟩
def hJ8_coder (p0 : Nat) (u : HS) : Option (OH Int32) :=
  if (1 : Int32) = 0 then
    hret 1 u
  else
    mchk (hC u p0 == 30) <|
    mchk (isB (hI u p0 1)) <|
    hret (hI u p0 1) u
theorem ctJ8_coder (t : TT) (G : GH) (l : Launch) (hl0 : l.stackTraces = false) (p0 : Nat) (u : HS) : CtH mkI t G l yJ8_coder cJ8_coder 1 (some .byte) 2 [.ref p0] u (hJ8_coder p0 u) := by
  refine ctH_of [(0, .ref p0)] hl0 rfl (Nat.le_of_ble_eq_true rfl) rfl (fun K1 K2 p e s m args below meth c C => ?_)
  unfold hJ8_coder
  refine v_gets C C.2.1.comp q922 (fun _ h => h) dJ8_coder_0 ?_
  refine v_if_eq C.1 13 (by decide) dJ8_coder_3 (fun _ => ?_) (fun _ => ?_)
  · refine v_iconst C.1 1 (by decide) dJ8_coder_13 ?_
    exact v_hbret C rfl dJ8_coder_14
  · refine v_aload_n C.1 0 rfl rfl dJ8_coder_6 ?_
    refine v_chk (fun h1 => ?_)
    refine v_hgetS C (v := .int (hI u p0 1)) 1 (eq_of_beq h1) (Or.inr ⟨rfl, rfl⟩) q2383 dJ8_coder_7 ?_
    refine v_goto C.1 14 (by decide) dJ8_coder_10 ?_
    refine v_chk (fun h2 => ?_)
    exact v_hbret C (isB_byte h2) dJ8_coder_14
theorem cwJ8_coder {t : TT} {G : GH} {l : Launch} {p : Program} {s : State} {m : MethodId} {args : Array Value} {meth : Method} {c : Code} {y0 : MethodName} {cc0 : ByteArray} {nL0 : Nat} {ret0 : Option FieldType} (C : CxH t G l p s m args meth c y0 cc0 nL0 ret0) {index lv mc ms K1 K2 : Nat} (hq : Cond.methodLink y0.cls index yJ8_coder ∈ lw_all) (hR : 2 + 1 ≤ lv) : CallW (rmH lv K1 K2) s args y0.cls RJ8 index yJ8_coder cJ8_coder 1 (some .byte) (ws_ yJ8_coder cJ8_coder 1 (some .byte)) (rmH 2 mc ms) mc ms 0 :=
  cwV 0 C.1.2.2.2.2.1 (lw_V hq q929 q930 q134 q931) rfl rfl rfl (by decide +kernel) ⟨hR, by show 8 + (1 + 11) + 100 * 2 ≤ 100 * lv; omega⟩
def hJ8_length (p0 : Nat) (u : HS) : Option (OH Int32) :=
  mchk (hC u p0 == 30) <|
  mderef (hR u p0 0) fun a2 =>
  mchk (hC u a2 == 33) <|
  mchk (hC u p0 == 30) <|
  hb (hJ8_coder p0 u) fun r6 u5 =>
  hret ((Int32.ofNat (hN u a2)) >>> (r6 &&& 31)) u5
theorem ctJ8_length (t : TT) (G : GH) (l : Launch) (hl0 : l.stackTraces = false) (p0 : Nat) (u : HS) : CtH mkI t G l yJ8_length cJ8_length 1 (some .int) 3 [.ref p0] u (hJ8_length p0 u) := by
  refine ctH_of [(0, .ref p0)] hl0 rfl (Nat.le_of_ble_eq_true rfl) rfl (fun K1 K2 p e s m args below meth c C => ?_)
  unfold hJ8_length
  refine v_aload_n C.1 0 rfl rfl dJ8_length_0 ?_
  refine v_chk (fun h1 => ?_)
  refine v_hgetS C (v := va_rf (hR u p0 0)) 0 (eq_of_beq h1) (Or.inl ⟨rfl, rfl⟩) q2384 dJ8_length_1 ?_
  refine v_deref (fun a2 e3 => ?_)
  refine v_chk (fun h4 => ?_)
  refine v_salen C (Or.inl (eq_of_beq h4)) dJ8_length_4 ?_
  refine v_aload_n C.1 0 rfl rfl dJ8_length_5 ?_
  refine v_chk (fun h7 => ?_)
  refine v_callVH C [] [.int (Int32.ofNat (hN u a2))] (ctJ8_coder t G l hl0 p0 u) (fun _ _ => cwJ8_coder C q928 (by decide)) (recS C (eq_of_beq h7)) rfl rfl (by exact Nat.le_of_ble_eq_true rfl) dJ8_length_6 (fun r6 u5 => ?_)
  refine v_ishr C.1 dJ8_length_9 ?_
  exact v_hiret C dJ8_length_10
theorem cwJ8_length {t : TT} {G : GH} {l : Launch} {p : Program} {s : State} {m : MethodId} {args : Array Value} {meth : Method} {c : Code} {y0 : MethodName} {cc0 : ByteArray} {nL0 : Nat} {ret0 : Option FieldType} (C : CxH t G l p s m args meth c y0 cc0 nL0 ret0) {index lv mc ms K1 K2 : Nat} (hq : Cond.methodLink y0.cls index yJ8_length ∈ lw_all) (hR : 3 + 1 ≤ lv) : CallW (rmH lv K1 K2) s args y0.cls RJ8 index yJ8_length cJ8_length 1 (some .int) (ws_ yJ8_length cJ8_length 1 (some .int)) (rmH 3 mc ms) mc ms 0 :=
  cwV 0 C.1.2.2.2.2.1 (lw_V hq q925 q926 q134 q927) rfl rfl rfl (by decide +kernel) ⟨hR, by show 8 + (1 + 11) + 100 * 3 ≤ 100 * lv; omega⟩
def hJ9_canEncode (p0 : Int32) (u : HS) : Option (OH Int32) :=
  if p0 < 0 then
    hz id 0 u
  else
    if 255 < p0 then
      hz id 0 u
    else
      hz id 1 u
theorem ctJ9_canEncode (t : TT) (G : GH) (l : Launch) (hl0 : l.stackTraces = false) (p0 : Int32) (u : HS) : CtH mkI t G l yJ9_canEncode cJ9_canEncode 1 (some .boolean) 2 [.int p0] u (hJ9_canEncode p0 u) := by
  refine ctH_of [(0, .int p0)] hl0 rfl (Nat.le_of_ble_eq_true rfl) rfl (fun K1 K2 p e s m args below meth c C => ?_)
  unfold hJ9_canEncode
  refine v_iload_n C.1 0 rfl rfl dJ9_canEncode_0 ?_
  refine v_if_lt C.1 15 (by decide) dJ9_canEncode_1 (fun _ => ?_) (fun _ => ?_)
  · refine v_iconst C.1 0 (by decide) dJ9_canEncode_15 ?_
    exact v_hzret C dJ9_canEncode_16
  · refine v_iload_n C.1 0 rfl rfl dJ9_canEncode_4 ?_
    refine v_sipush C.1 255 (by decide) dJ9_canEncode_5 ?_
    refine v_icmp_gt C.1 15 (by decide) dJ9_canEncode_8 (fun _ => ?_) (fun _ => ?_)
    · refine v_iconst C.1 0 (by decide) dJ9_canEncode_15 ?_
      exact v_hzret C dJ9_canEncode_16
    · refine v_iconst C.1 1 (by decide) dJ9_canEncode_11 ?_
      refine v_goto C.1 16 (by decide) dJ9_canEncode_12 ?_
      exact v_hzret C dJ9_canEncode_16
theorem cwJ9_canEncode {t : TT} {G : GH} {l : Launch} {p : Program} {s : State} {m : MethodId} {args : Array Value} {meth : Method} {c : Code} {y0 : MethodName} {cc0 : ByteArray} {nL0 : Nat} {ret0 : Option FieldType} (C : CxH t G l p s m args meth c y0 cc0 nL0 ret0) {index lv mc ms K1 K2 : Nat} (hq : Cond.methodLink y0.cls index yJ9_canEncode ∈ lw_all) (hR : 2 + 1 ≤ lv) : CallB (rmH lv K1 K2) s args y0.cls index yJ9_canEncode cJ9_canEncode 1 (some .boolean) (ws_ yJ9_canEncode cJ9_canEncode 1 (some .boolean)) (rmH 2 mc ms) mc ms 1 ∧ (Cond.static yJ9_canEncode).before args s = true :=
  ⟨callB_of 1 C.1.2.2.2.2.1 (lw_meth q937) rfl rfl rfl (C.1.2.2.2.2.1 _ q135) (C.1.2.2.2.2.1 _ hq) (by decide +kernel) ⟨hR, by show 8 + (1 + 11) + 100 * 2 ≤ 100 * lv; omega⟩, C.1.2.2.2.2.1 _ q936⟩
def hJ9_indexOfChar_7 (p0 : Nat) (p1 : Int32) (p2 : Int32) (p3 : Int32) (k : Int32 → Int32 → HS → Option (OH Int32)) (x4 : Int32) (x5 : Int32) (u : HS) : Option (OH Int32) :=
  if p3 ≤ x5 then
    hret (-1) u
  else
    mchk (inA u x5 p0 23) <|
    if (hA u p0 x5.toNatClampNeg) = x4 then
      hret x5 u
    else
      k x4 (x5 + 1) u
theorem whJ9_indexOfChar_7 {K1 K2 : Nat} {p : Program} {e : Env} {s : State} {m : MethodId} {args : Array Value} {below : List Frame} {meth : Method} {c : Code} (hl0 : l.stackTraces = false) (C : CxH t G l p s m args meth c yJ9_indexOfChar cJ9_indexOfChar 6 (some .int)) (p0 : Nat) (p1 : Int32) (p2 : Int32) (p3 : Int32) (n : Nat) (x4 : Int32) (x5 : Int32) (u : HS) : VH mkI t G p l e 2 K1 K2 s m args below meth c 6 7 [(0, .ref p0), (3, .int p3), (4, .int x4), (5, .int x5)] [] u (ml2 (hJ9_indexOfChar_7 p0 p1 p2 p3) n x4 x5 u) := by
  refine vl2 (L := fun x4 x5 => [(0, .ref p0), (3, .int p3), (4, .int x4), (5, .int x5)]) (fun k hk x4 x5 u => ?_) n x4 x5 u
  unfold hJ9_indexOfChar_7
  refine v_iload C.1 3 rfl dJ9_indexOfChar_7 ?_
  refine v_iload_n C.1 1 rfl rfl dJ9_indexOfChar_9 ?_
  refine v_icmp_ge C.1 31 (by decide) dJ9_indexOfChar_10 (fun _ => ?_) (fun _ => ?_)
  · refine v_iconst C.1 (-1) (by decide) dJ9_indexOfChar_31 ?_
    exact v_hiret C dJ9_indexOfChar_32
  · refine v_aload_n C.1 0 rfl rfl dJ9_indexOfChar_13 ?_
    refine v_iload C.1 3 rfl dJ9_indexOfChar_14 ?_
    refine v_chk (fun h1 => ?_)
    refine v_habald C h1 dJ9_indexOfChar_16 ?_
    refine v_iload C.1 2 rfl dJ9_indexOfChar_17 ?_
    refine v_icmp_ne C.1 25 (by decide) dJ9_indexOfChar_19 (fun _ => ?_) (fun _ => ?_)
    · refine v_iload C.1 3 rfl dJ9_indexOfChar_22 ?_
      exact v_hiret C dJ9_indexOfChar_24
    · refine v_iinc C.1 1 [(5, .int (x5 + 1)), (0, .ref p0), (3, .int p3), (4, .int x4)] 3 rfl (by decide) (by decide) rfl dJ9_indexOfChar_25 ?_
      refine v_goto C.1 7 (by decide) dJ9_indexOfChar_28 ?_
      refine v_sub [1, 2, 3, 0] rfl ?_
      exact hk x4 (x5 + 1) u
def hJ9_indexOfChar (p0 : Nat) (p1 : Int32) (p2 : Int32) (p3 : Int32) (u : HS) : Option (OH Int32) :=
  mlet ((Int32.toInt8 p1).toInt32) fun v1 =>
  ml2 (hJ9_indexOfChar_7 p0 p1 p2 p3) FUEL v1 p2 u
theorem ctJ9_indexOfChar (t : TT) (G : GH) (l : Launch) (hl0 : l.stackTraces = false) (p0 : Nat) (p1 : Int32) (p2 : Int32) (p3 : Int32) (u : HS) : CtH mkI t G l yJ9_indexOfChar cJ9_indexOfChar 6 (some .int) 2 [.ref p0, .int p1, .int p2, .int p3] u (hJ9_indexOfChar p0 p1 p2 p3 u) := by
  refine ctH_of [(0, .ref p0), (1, .int p1), (2, .int p2), (3, .int p3)] hl0 rfl (Nat.le_of_ble_eq_true rfl) rfl (fun K1 K2 p e s m args below meth c C => ?_)
  unfold hJ9_indexOfChar
  refine v_iload_n C.1 1 rfl rfl dJ9_indexOfChar_0 ?_
  refine v_i2b C.1 dJ9_indexOfChar_1 ?_
  refine v_topi (fun v1 => ?_)
  refine v_istore C.1 [(4, .int v1), (0, .ref p0), (1, .int p1), (2, .int p2), (3, .int p3)] (by decide) rfl dJ9_indexOfChar_2 ?_
  refine v_iload_n C.1 3 rfl rfl dJ9_indexOfChar_4 ?_
  refine v_istore C.1 [(5, .int p2), (4, .int v1), (0, .ref p0), (1, .int p1), (2, .int p2), (3, .int p3)] (by decide) rfl dJ9_indexOfChar_5 ?_
  refine v_sub [2, 5, 1, 0] rfl ?_
  exact whJ9_indexOfChar_7 hl0 C p0 p1 p2 p3 FUEL v1 p2 u
theorem cwJ9_indexOfChar {t : TT} {G : GH} {l : Launch} {p : Program} {s : State} {m : MethodId} {args : Array Value} {meth : Method} {c : Code} {y0 : MethodName} {cc0 : ByteArray} {nL0 : Nat} {ret0 : Option FieldType} (C : CxH t G l p s m args meth c y0 cc0 nL0 ret0) {index lv mc ms K1 K2 : Nat} (hq : Cond.methodLink y0.cls index yJ9_indexOfChar ∈ lw_all) (hR : 2 + 1 ≤ lv) : CallB (rmH lv K1 K2) s args y0.cls index yJ9_indexOfChar cJ9_indexOfChar 6 (some .int) (ws_ yJ9_indexOfChar cJ9_indexOfChar 6 (some .int)) (rmH 2 mc ms) mc ms 4 ∧ (Cond.static yJ9_indexOfChar).before args s = true :=
  ⟨callB_of 4 C.1.2.2.2.2.1 (lw_meth q942) rfl rfl rfl (C.1.2.2.2.2.1 _ q135) (C.1.2.2.2.2.1 _ hq) (by decide +kernel) ⟨hR, by show 8 + (6 + 11) + 100 * 2 ≤ 100 * lv; omega⟩, C.1.2.2.2.2.1 _ q941⟩
def hJ9_indexOf (p0 : Nat) (p1 : Int32) (p2 : Int32) (p3 : Int32) (u : HS) : Option (OH Int32) :=
  hb (hJ9_canEncode p1 u) fun r2 u1 =>
  if r2 = 0 then
    hret (-1) u1
  else
    mlet (iMax p2 0) fun v3 =>
    mchk (hC u1 p0 == 23) <|
    mlet (iMin p3 (Int32.ofNat (hN u1 p0))) fun v5 =>
    if v3 < v5 then
      hb (hJ9_indexOfChar p0 p1 v3 v5 u1) fun r7 u6 =>
      hret r7 u6
    else
      hret (-1) u1
theorem ctJ9_indexOf (t : TT) (G : GH) (l : Launch) (hl0 : l.stackTraces = false) (p0 : Nat) (p1 : Int32) (p2 : Int32) (p3 : Int32) (u : HS) : CtH mkI t G l yJ9_indexOf cJ9_indexOf 4 (some .int) 3 [.ref p0, .int p1, .int p2, .int p3] u (hJ9_indexOf p0 p1 p2 p3 u) := by
  refine ctH_of [(0, .ref p0), (1, .int p1), (2, .int p2), (3, .int p3)] hl0 rfl (Nat.le_of_ble_eq_true rfl) rfl (fun K1 K2 p e s m args below meth c C => ?_)
  unfold hJ9_indexOf
  refine v_iload_n C.1 1 rfl rfl dJ9_indexOf_0 ?_
  refine v_callSH C [.int p1] [] (ctJ9_canEncode t G l hl0 p1 u) (fun _ _ => cwJ9_canEncode C q935 (by decide)) rfl rfl (by exact Nat.le_of_ble_eq_true rfl) dJ9_indexOf_1 (fun r2 u1 => ?_)
  refine v_if_ne C.1 9 (by decide) dJ9_indexOf_4 (fun _ => ?_) (fun _ => ?_)
  · refine v_iconst C.1 (-1) (by decide) dJ9_indexOf_7 ?_
    exact v_hiret C dJ9_indexOf_8
  · refine v_iload_n C.1 2 rfl rfl dJ9_indexOf_9 ?_
    refine v_iconst C.1 0 (by decide) dJ9_indexOf_10 ?_
    refine v_mmax C q938 q409 q133 q410 (by exact Nat.le_of_ble_eq_true rfl) (by exact Nat.le_of_ble_eq_true rfl) dJ9_indexOf_11 ?_
    refine v_topi (fun v3 => ?_)
    refine v_istore_n C.1 [(2, .int v3), (0, .ref p0), (1, .int p1), (3, .int p3)] rfl (by decide) rfl dJ9_indexOf_14 ?_
    refine v_iload_n C.1 3 rfl rfl dJ9_indexOf_15 ?_
    refine v_aload_n C.1 1 rfl rfl dJ9_indexOf_16 ?_
    refine v_chk (fun h4 => ?_)
    refine v_halen C 3 (by decide) (eq_of_beq h4) dJ9_indexOf_17 ?_
    refine v_mmin C q939 q445 q133 q446 (by exact Nat.le_of_ble_eq_true rfl) (by exact Nat.le_of_ble_eq_true rfl) dJ9_indexOf_18 ?_
    refine v_topi (fun v5 => ?_)
    refine v_istore_n C.1 [(3, .int v5), (2, .int v3), (0, .ref p0), (1, .int p1)] rfl (by decide) rfl dJ9_indexOf_21 ?_
    refine v_iload_n C.1 1 rfl rfl dJ9_indexOf_22 ?_
    refine v_iload_n C.1 0 rfl rfl dJ9_indexOf_23 ?_
    refine v_icmp_lt C.1 29 (by decide) dJ9_indexOf_24 (fun _ => ?_) (fun _ => ?_)
    · refine v_aload_n C.1 2 rfl rfl dJ9_indexOf_29 ?_
      refine v_iload_n C.1 3 rfl rfl dJ9_indexOf_30 ?_
      refine v_iload_n C.1 1 rfl rfl dJ9_indexOf_31 ?_
      refine v_iload_n C.1 0 rfl rfl dJ9_indexOf_32 ?_
      refine v_callSH C [.ref p0, .int p1, .int v3, .int v5] [] (ctJ9_indexOfChar t G l hl0 p0 p1 v3 v5 u1) (fun _ _ => cwJ9_indexOfChar C q940 (by decide)) rfl rfl (by exact Nat.le_of_ble_eq_true rfl) dJ9_indexOf_33 (fun r7 u6 => ?_)
      exact v_hiret C dJ9_indexOf_36
    · refine v_iconst C.1 (-1) (by decide) dJ9_indexOf_27 ?_
      exact v_hiret C dJ9_indexOf_28
theorem cwJ9_indexOf {t : TT} {G : GH} {l : Launch} {p : Program} {s : State} {m : MethodId} {args : Array Value} {meth : Method} {c : Code} {y0 : MethodName} {cc0 : ByteArray} {nL0 : Nat} {ret0 : Option FieldType} (C : CxH t G l p s m args meth c y0 cc0 nL0 ret0) {index lv mc ms K1 K2 : Nat} (hq : Cond.methodLink y0.cls index yJ9_indexOf ∈ lw_all) (hR : 3 + 1 ≤ lv) : CallB (rmH lv K1 K2) s args y0.cls index yJ9_indexOf cJ9_indexOf 4 (some .int) (ws_ yJ9_indexOf cJ9_indexOf 4 (some .int)) (rmH 3 mc ms) mc ms 4 ∧ (Cond.static yJ9_indexOf).before args s = true :=
  ⟨callB_of 4 C.1.2.2.2.2.1 (lw_meth q934) rfl rfl rfl (C.1.2.2.2.2.1 _ q135) (C.1.2.2.2.2.1 _ hq) (by decide +kernel) ⟨hR, by show 8 + (4 + 11) + 100 * 3 ≤ 100 * lv; omega⟩, C.1.2.2.2.2.1 _ q933⟩
def hJ8_indexOf_2 (p0 : Nat) (p1 : Int32) (p2 : Int32) (u : HS) : Option (OH Int32) :=
  mchk (hC u p0 == 30) <|
  hb (hJ8_isLatin1 p0 u) fun r2 u1 =>
  if r2 = 0 then
    mchk (hC u1 p0 == 30) <|
    mderef (hR u1 p0 0) fun a5 =>
    mchk (hC u1 p0 == 30) <|
    hb (hJ8_length p0 u1) fun r8 u7 =>
    none
  else
    mchk (hC u1 p0 == 30) <|
    mderef (hR u1 p0 0) fun a5 =>
    mchk (hC u1 p0 == 30) <|
    hb (hJ8_length p0 u1) fun r8 u7 =>
    hb (hJ9_indexOf a5 p1 p2 r8 u7) fun r11 u10 =>
    hret r11 u10
theorem ctJ8_indexOf_2 (t : TT) (G : GH) (l : Launch) (hl0 : l.stackTraces = false) (p0 : Nat) (p1 : Int32) (p2 : Int32) (u : HS) : CtH mkI t G l yJ8_indexOf_2 cJ8_indexOf_2 3 (some .int) 4 [.ref p0, .int p1, .int p2] u (hJ8_indexOf_2 p0 p1 p2 u) := by
  refine ctH_of [(0, .ref p0), (1, .int p1), (2, .int p2)] hl0 rfl (Nat.le_of_ble_eq_true rfl) rfl (fun K1 K2 p e s m args below meth c C => ?_)
  unfold hJ8_indexOf_2
  refine v_aload_n C.1 0 rfl rfl dJ8_indexOf_2_0 ?_
  refine v_chk (fun h3 => ?_)
  refine v_callVH C [] [] (ctJ8_isLatin1 t G l hl0 p0 u) (fun _ _ => cwJ8_isLatin1 C q918 (by decide)) (recS C (eq_of_beq h3)) rfl rfl (by exact Nat.le_of_ble_eq_true rfl) dJ8_indexOf_2_1 (fun r2 u1 => ?_)
  refine v_if_eq C.1 23 (by decide) dJ8_indexOf_2_4 (fun _ => ?_) (fun _ => ?_)
  · refine v_aload_n C.1 0 rfl rfl dJ8_indexOf_2_23 ?_
    refine v_chk (fun h4 => ?_)
    refine v_hgetS C (v := va_rf (hR u1 p0 0)) 0 (eq_of_beq h4) (Or.inl ⟨rfl, rfl⟩) q2384 dJ8_indexOf_2_24 ?_
    refine v_deref (fun a5 e6 => ?_)
    refine v_iload_n C.1 1 rfl rfl dJ8_indexOf_2_27 ?_
    refine v_iload_n C.1 2 rfl rfl dJ8_indexOf_2_28 ?_
    refine v_aload_n C.1 0 rfl rfl dJ8_indexOf_2_29 ?_
    refine v_chk (fun h9 => ?_)
    refine v_callVH C [] [.int p2, .int p1, .ref a5] (ctJ8_length t G l hl0 p0 u1) (fun _ _ => cwJ8_length C q924 (by decide)) (recS C (eq_of_beq h9)) rfl rfl (by exact Nat.le_of_ble_eq_true rfl) dJ8_indexOf_2_30 (fun r8 u7 => ?_)
    exact v_none
  · refine v_aload_n C.1 0 rfl rfl dJ8_indexOf_2_7 ?_
    refine v_chk (fun h4 => ?_)
    refine v_hgetS C (v := va_rf (hR u1 p0 0)) 0 (eq_of_beq h4) (Or.inl ⟨rfl, rfl⟩) q2384 dJ8_indexOf_2_8 ?_
    refine v_deref (fun a5 e6 => ?_)
    refine v_iload_n C.1 1 rfl rfl dJ8_indexOf_2_11 ?_
    refine v_iload_n C.1 2 rfl rfl dJ8_indexOf_2_12 ?_
    refine v_aload_n C.1 0 rfl rfl dJ8_indexOf_2_13 ?_
    refine v_chk (fun h9 => ?_)
    refine v_callVH C [] [.int p2, .int p1, .ref a5] (ctJ8_length t G l hl0 p0 u1) (fun _ _ => cwJ8_length C q924 (by decide)) (recS C (eq_of_beq h9)) rfl rfl (by exact Nat.le_of_ble_eq_true rfl) dJ8_indexOf_2_14 (fun r8 u7 => ?_)
    refine v_callSH C [.ref a5, .int p1, .int p2, .int r8] [] (ctJ9_indexOf t G l hl0 a5 p1 p2 r8 u7) (fun _ _ => cwJ9_indexOf C q932 (by decide)) rfl rfl (by exact Nat.le_of_ble_eq_true rfl) dJ8_indexOf_2_17 (fun r11 u10 => ?_)
    refine v_goto C.1 36 (by decide) dJ8_indexOf_2_20 ?_
    exact v_hiret C dJ8_indexOf_2_36
theorem cwJ8_indexOf_2 {t : TT} {G : GH} {l : Launch} {p : Program} {s : State} {m : MethodId} {args : Array Value} {meth : Method} {c : Code} {y0 : MethodName} {cc0 : ByteArray} {nL0 : Nat} {ret0 : Option FieldType} (C : CxH t G l p s m args meth c y0 cc0 nL0 ret0) {index lv mc ms K1 K2 : Nat} (hq : Cond.methodLink y0.cls index yJ8_indexOf_2 ∈ lw_all) (hR : 4 + 1 ≤ lv) : CallW (rmH lv K1 K2) s args y0.cls RJ8 index yJ8_indexOf_2 cJ8_indexOf_2 3 (some .int) (ws_ yJ8_indexOf_2 cJ8_indexOf_2 3 (some .int)) (rmH 4 mc ms) mc ms 2 :=
  cwV 2 C.1.2.2.2.2.1 (lw_V hq q915 q916 q134 q917) rfl rfl rfl (by decide +kernel) ⟨hR, by show 8 + (3 + 11) + 100 * 4 ≤ 100 * lv; omega⟩
def hJ8_indexOf (p0 : Nat) (p1 : Int32) (u : HS) : Option (OH Int32) :=
  mchk (hC u p0 == 30) <|
  hb (hJ8_indexOf_2 p0 p1 0 u) fun r2 u1 =>
  hret r2 u1
theorem ctJ8_indexOf (t : TT) (G : GH) (l : Launch) (hl0 : l.stackTraces = false) (p0 : Nat) (p1 : Int32) (u : HS) : CtH mkI t G l yJ8_indexOf cJ8_indexOf 2 (some .int) 5 [.ref p0, .int p1] u (hJ8_indexOf p0 p1 u) := by
  refine ctH_of [(0, .ref p0), (1, .int p1)] hl0 rfl (Nat.le_of_ble_eq_true rfl) rfl (fun K1 K2 p e s m args below meth c C => ?_)
  unfold hJ8_indexOf
  refine v_aload_n C.1 0 rfl rfl dJ8_indexOf_0 ?_
  refine v_iload_n C.1 1 rfl rfl dJ8_indexOf_1 ?_
  refine v_iconst C.1 0 (by decide) dJ8_indexOf_2 ?_
  refine v_chk (fun h3 => ?_)
  refine v_callVH C [.int p1, .int 0] [] (ctJ8_indexOf_2 t G l hl0 p0 p1 0 u) (fun _ _ => cwJ8_indexOf_2 C q914 (by decide)) (recS C (eq_of_beq h3)) rfl rfl (by exact Nat.le_of_ble_eq_true rfl) dJ8_indexOf_3 (fun r2 u1 => ?_)
  exact v_hiret C dJ8_indexOf_6
theorem cwJ8_indexOf {t : TT} {G : GH} {l : Launch} {p : Program} {s : State} {m : MethodId} {args : Array Value} {meth : Method} {c : Code} {y0 : MethodName} {cc0 : ByteArray} {nL0 : Nat} {ret0 : Option FieldType} (C : CxH t G l p s m args meth c y0 cc0 nL0 ret0) {index lv mc ms K1 K2 : Nat} (hq : Cond.methodLink y0.cls index yJ8_indexOf ∈ lw_all) (hR : 5 + 1 ≤ lv) : CallW (rmH lv K1 K2) s args y0.cls RJ8 index yJ8_indexOf cJ8_indexOf 2 (some .int) (ws_ yJ8_indexOf cJ8_indexOf 2 (some .int)) (rmH 5 mc ms) mc ms 1 :=
  cwV 1 C.1.2.2.2.2.1 (lw_V hq q911 q912 q134 q913) rfl rfl rfl (by decide +kernel) ⟨hR, by show 8 + (2 + 11) + 100 * 5 ≤ 100 * lv; omega⟩
def hX5_next_172 (p0 : Nat) (s0 : Nat) (s1 : Int32) (u : HS) : Option (OH Unit) :=
  mchk (hC u s0 == 5) <|
  mlet (uI u s0 5 s1) fun u2 =>
  mchk (hC u2 p0 == 5) <|
  mchk (hC u2 p0 == 5) <|
  mlet (uI u2 p0 4 ((hI u2 p0 4) + 1)) fun u5 =>
  mchk (hC u5 p0 == 5) <|
  mchk (hC u5 p0 == 5) <|
  mlet (uI u5 p0 7 (hI u5 p0 4)) fun u8 =>
  hret () u8
theorem whX5_next_172 {K1 K2 : Nat} {p : Program} {e : Env} {s : State} {m : MethodId} {args : Array Value} {below : List Frame} {meth : Method} {c : Code} (hl0 : l.stackTraces = false) (C : CxH t G l p s m args meth c yX5_next cX5_next 1 none) (p0 : Nat) (s0 : Nat) (s1 : Int32) (u : HS) : VH mkU t G p l e 6 K1 K2 s m args below meth c 1 172 [(0, .ref p0)] [.int s1, .ref s0] u (hX5_next_172 p0 s0 s1 u) := by
  unfold hX5_next_172
  refine v_chk (fun h1 => ?_)
  refine v_hputI C 4 5 (eq_of_beq h1) (by decide) rfl in_X5 tyX5 tyX5_ok nmX5 (by decide) (by decide) q853 (fun _ h => h) (Or.inl rfl) ⟨rfl, rfl⟩ dX5_next_172 (fun u2 => ?_)
  refine v_aload_n C.1 0 rfl rfl dX5_next_175 ?_
  refine v_dup C.1 rfl dX5_next_176 ?_
  refine v_chk (fun h3 => ?_)
  refine v_hget C (v := .int (hI u2 p0 4)) 4 4 (eq_of_beq h3) (by decide) rfl in_X5 (by decide) (Or.inl q852) (fun _ h => h) (hF_i (ci := 4) (eq_of_beq h3) (by decide)) dX5_next_177 ?_
  refine v_iconst C.1 1 (by decide) dX5_next_180 ?_
  refine v_iadd C.1 dX5_next_181 ?_
  refine v_chk (fun h4 => ?_)
  refine v_hputI C 4 4 (eq_of_beq h4) (by decide) rfl in_X5 tyX5 tyX5_ok nmX5 (by decide) (by decide) q852 (fun _ h => h) (Or.inl rfl) ⟨rfl, rfl⟩ dX5_next_182 (fun u5 => ?_)
  refine v_aload_n C.1 0 rfl rfl dX5_next_185 ?_
  refine v_aload_n C.1 0 rfl rfl dX5_next_186 ?_
  refine v_chk (fun h6 => ?_)
  refine v_hget C (v := .int (hI u5 p0 4)) 4 4 (eq_of_beq h6) (by decide) rfl in_X5 (by decide) (Or.inl q852) (fun _ h => h) (hF_i (ci := 4) (eq_of_beq h6) (by decide)) dX5_next_187 ?_
  refine v_chk (fun h7 => ?_)
  refine v_hputI C 4 7 (eq_of_beq h7) (by decide) rfl in_X5 tyX5 tyX5_ok nmX5 (by decide) (by decide) q856 (fun _ h => h) (Or.inl rfl) ⟨rfl, rfl⟩ dX5_next_190 (fun u8 => ?_)
  exact v_hvret C dX5_next_193
def hX5_next_102 (p0 : Nat) (k : HS → Option (OH Unit)) (u : HS) : Option (OH Unit) :=
  mchk (hC u p0 == 5) <|
  hb (hX5_isDigit p0 u) fun r2 u1 =>
  if r2 = 0 then
    mchk (hC u1 p0 == 5) <|
    mlet (uI u1 p0 5 2) fun u5 =>
    mchk (hC u5 p0 == 5) <|
    mchk (hC u5 p0 == 5) <|
    mlet (uI u5 p0 7 (hI u5 p0 4)) fun u8 =>
    hret () u8
  else
    mchk (hC u1 p0 == 5) <|
    mchk (hC u1 p0 == 5) <|
    hb (hX5_here p0 u1) fun r6 u5 =>
    mchk (hC u5 p0 == 5) <|
    mlet (uI u5 p0 8 (iMin 100000 ((((10 : Int32) * (hI u1 p0 8)) + r6) - 48))) fun u9 =>
    mchk (hC u9 p0 == 5) <|
    mchk (hC u9 p0 == 5) <|
    mlet (uI u9 p0 4 ((hI u9 p0 4) + 1)) fun u12 =>
    k u12
theorem whX5_next_102 {K1 K2 : Nat} {p : Program} {e : Env} {s : State} {m : MethodId} {args : Array Value} {below : List Frame} {meth : Method} {c : Code} (hl0 : l.stackTraces = false) (C : CxH t G l p s m args meth c yX5_next cX5_next 1 none) (p0 : Nat) (n : Nat) (u : HS) : VH mkU t G p l e 6 K1 K2 s m args below meth c 1 102 [(0, .ref p0)] [] u (ml0 (hX5_next_102 p0) n u) := by
  refine vl0 (L := [(0, .ref p0)]) (fun k hk u => ?_) n u
  unfold hX5_next_102
  refine v_aload_n C.1 0 rfl rfl dX5_next_102 ?_
  refine v_chk (fun h3 => ?_)
  refine v_callVH C [] [] (ctX5_isDigit t G l hl0 p0 u) (fun _ _ => cwX5_isDigit C q903 (by decide)) (recO C (ci := 4) (eq_of_beq h3) (by decide) rfl) rfl rfl (by exact Nat.le_of_ble_eq_true rfl) dX5_next_103 (fun r2 u1 => ?_)
  refine v_if_eq C.1 146 (by decide) dX5_next_106 (fun _ => ?_) (fun _ => ?_)
  · refine v_aload_n C.1 0 rfl rfl dX5_next_146 ?_
    refine v_iconst C.1 2 (by decide) dX5_next_147 ?_
    refine v_chk (fun h4 => ?_)
    refine v_hputI C 4 5 (eq_of_beq h4) (by decide) rfl in_X5 tyX5 tyX5_ok nmX5 (by decide) (by decide) q853 (fun _ h => h) (Or.inl rfl) ⟨rfl, rfl⟩ dX5_next_148 (fun u5 => ?_)
    refine v_goto C.1 185 (by decide) dX5_next_151 ?_
    refine v_aload_n C.1 0 rfl rfl dX5_next_185 ?_
    refine v_aload_n C.1 0 rfl rfl dX5_next_186 ?_
    refine v_chk (fun h6 => ?_)
    refine v_hget C (v := .int (hI u5 p0 4)) 4 4 (eq_of_beq h6) (by decide) rfl in_X5 (by decide) (Or.inl q852) (fun _ h => h) (hF_i (ci := 4) (eq_of_beq h6) (by decide)) dX5_next_187 ?_
    refine v_chk (fun h7 => ?_)
    refine v_hputI C 4 7 (eq_of_beq h7) (by decide) rfl in_X5 tyX5 tyX5_ok nmX5 (by decide) (by decide) q856 (fun _ h => h) (Or.inl rfl) ⟨rfl, rfl⟩ dX5_next_190 (fun u8 => ?_)
    exact v_hvret C dX5_next_193
  · refine v_aload_n C.1 0 rfl rfl dX5_next_109 ?_
    refine v_ldc C.1 q907 dX5_next_110 ?_
    refine v_bipush C.1 10 (by decide) dX5_next_112 ?_
    refine v_aload_n C.1 0 rfl rfl dX5_next_114 ?_
    refine v_chk (fun h4 => ?_)
    refine v_hget C (v := .int (hI u1 p0 8)) 4 8 (eq_of_beq h4) (by decide) rfl in_X5 (by decide) (Or.inl q857) (fun _ h => h) (hF_i (ci := 4) (eq_of_beq h4) (by decide)) dX5_next_115 ?_
    refine v_imul C.1 dX5_next_118 ?_
    refine v_aload_n C.1 0 rfl rfl dX5_next_119 ?_
    refine v_chk (fun h7 => ?_)
    refine v_callVH C [] [.int ((10 : Int32) * (hI u1 p0 8)), .int 100000, .ref p0] (ctX5_here t G l hl0 p0 u1) (fun _ _ => cwX5_here C q894 (by decide)) (recO C (ci := 4) (eq_of_beq h7) (by decide) rfl) rfl rfl (by exact Nat.le_of_ble_eq_true rfl) dX5_next_120 (fun r6 u5 => ?_)
    refine v_iadd C.1 dX5_next_123 ?_
    refine v_bipush C.1 48 (by decide) dX5_next_124 ?_
    refine v_isub C.1 dX5_next_126 ?_
    refine v_mmin C q908 q445 q133 q446 (by exact Nat.le_of_ble_eq_true rfl) (by exact Nat.le_of_ble_eq_true rfl) dX5_next_127 ?_
    refine v_chk (fun h8 => ?_)
    refine v_hputI C 4 8 (eq_of_beq h8) (by decide) rfl in_X5 tyX5 tyX5_ok nmX5 (by decide) (by decide) q857 (fun _ h => h) (Or.inl rfl) ⟨rfl, rfl⟩ dX5_next_130 (fun u9 => ?_)
    refine v_aload_n C.1 0 rfl rfl dX5_next_133 ?_
    refine v_dup C.1 rfl dX5_next_134 ?_
    refine v_chk (fun h10 => ?_)
    refine v_hget C (v := .int (hI u9 p0 4)) 4 4 (eq_of_beq h10) (by decide) rfl in_X5 (by decide) (Or.inl q852) (fun _ h => h) (hF_i (ci := 4) (eq_of_beq h10) (by decide)) dX5_next_135 ?_
    refine v_iconst C.1 1 (by decide) dX5_next_138 ?_
    refine v_iadd C.1 dX5_next_139 ?_
    refine v_chk (fun h11 => ?_)
    refine v_hputI C 4 4 (eq_of_beq h11) (by decide) rfl in_X5 tyX5 tyX5_ok nmX5 (by decide) (by decide) q852 (fun _ h => h) (Or.inl rfl) ⟨rfl, rfl⟩ dX5_next_140 (fun u12 => ?_)
    refine v_goto C.1 102 (by decide) dX5_next_143 ?_
    exact hk u12
def hX5_next_62 (p0 : Nat) (k : HS → Option (OH Unit)) (u : HS) : Option (OH Unit) :=
  mchk (hC u p0 == 5) <|
  hb (hX5_isLetter p0 u) fun r2 u1 =>
  if r2 = 0 then
    mchk (hC u1 p0 == 5) <|
    mlet (uI u1 p0 5 1) fun u5 =>
    mchk (hC u5 p0 == 5) <|
    mchk (hC u5 p0 == 5) <|
    mlet (uI u5 p0 7 (hI u5 p0 4)) fun u8 =>
    hret () u8
  else
    mchk (hC u1 p0 == 5) <|
    mchk (hC u1 p0 == 5) <|
    mlet (uI u1 p0 4 ((hI u1 p0 4) + 1)) fun u6 =>
    k u6
theorem whX5_next_62 {K1 K2 : Nat} {p : Program} {e : Env} {s : State} {m : MethodId} {args : Array Value} {below : List Frame} {meth : Method} {c : Code} (hl0 : l.stackTraces = false) (C : CxH t G l p s m args meth c yX5_next cX5_next 1 none) (p0 : Nat) (n : Nat) (u : HS) : VH mkU t G p l e 6 K1 K2 s m args below meth c 1 62 [(0, .ref p0)] [] u (ml0 (hX5_next_62 p0) n u) := by
  refine vl0 (L := [(0, .ref p0)]) (fun k hk u => ?_) n u
  unfold hX5_next_62
  refine v_aload_n C.1 0 rfl rfl dX5_next_62 ?_
  refine v_chk (fun h3 => ?_)
  refine v_callVH C [] [] (ctX5_isLetter t G l hl0 p0 u) (fun _ _ => cwX5_isLetter C q898 (by decide)) (recO C (ci := 4) (eq_of_beq h3) (by decide) rfl) rfl rfl (by exact Nat.le_of_ble_eq_true rfl) dX5_next_63 (fun r2 u1 => ?_)
  refine v_if_eq C.1 82 (by decide) dX5_next_66 (fun _ => ?_) (fun _ => ?_)
  · refine v_aload_n C.1 0 rfl rfl dX5_next_82 ?_
    refine v_iconst C.1 1 (by decide) dX5_next_83 ?_
    refine v_chk (fun h4 => ?_)
    refine v_hputI C 4 5 (eq_of_beq h4) (by decide) rfl in_X5 tyX5 tyX5_ok nmX5 (by decide) (by decide) q853 (fun _ h => h) (Or.inl rfl) ⟨rfl, rfl⟩ dX5_next_84 (fun u5 => ?_)
    refine v_goto C.1 185 (by decide) dX5_next_87 ?_
    refine v_aload_n C.1 0 rfl rfl dX5_next_185 ?_
    refine v_aload_n C.1 0 rfl rfl dX5_next_186 ?_
    refine v_chk (fun h6 => ?_)
    refine v_hget C (v := .int (hI u5 p0 4)) 4 4 (eq_of_beq h6) (by decide) rfl in_X5 (by decide) (Or.inl q852) (fun _ h => h) (hF_i (ci := 4) (eq_of_beq h6) (by decide)) dX5_next_187 ?_
    refine v_chk (fun h7 => ?_)
    refine v_hputI C 4 7 (eq_of_beq h7) (by decide) rfl in_X5 tyX5 tyX5_ok nmX5 (by decide) (by decide) q856 (fun _ h => h) (Or.inl rfl) ⟨rfl, rfl⟩ dX5_next_190 (fun u8 => ?_)
    exact v_hvret C dX5_next_193
  · refine v_aload_n C.1 0 rfl rfl dX5_next_69 ?_
    refine v_dup C.1 rfl dX5_next_70 ?_
    refine v_chk (fun h4 => ?_)
    refine v_hget C (v := .int (hI u1 p0 4)) 4 4 (eq_of_beq h4) (by decide) rfl in_X5 (by decide) (Or.inl q852) (fun _ h => h) (hF_i (ci := 4) (eq_of_beq h4) (by decide)) dX5_next_71 ?_
    refine v_iconst C.1 1 (by decide) dX5_next_74 ?_
    refine v_iadd C.1 dX5_next_75 ?_
    refine v_chk (fun h5 => ?_)
    refine v_hputI C 4 4 (eq_of_beq h5) (by decide) rfl in_X5 tyX5 tyX5_ok nmX5 (by decide) (by decide) q852 (fun _ h => h) (Or.inl rfl) ⟨rfl, rfl⟩ dX5_next_76 (fun u6 => ?_)
    refine v_goto C.1 62 (by decide) dX5_next_79 ?_
    exact hk u6
def hX5_next_0 (p0 : Nat) (k : HS → Option (OH Unit)) (u : HS) : Option (OH Unit) :=
  mchk (hC u p0 == 5) <|
  hb (hX5_here p0 u) fun r2 u1 =>
  if r2 = 32 then
    mchk (hC u1 p0 == 5) <|
    mchk (hC u1 p0 == 5) <|
    mlet (uI u1 p0 4 ((hI u1 p0 4) + 1)) fun u6 =>
    k u6
  else
    mchk (hC u1 p0 == 5) <|
    hb (hX5_here p0 u1) fun r5 u4 =>
    if r5 = 10 then
      mchk (hC u4 p0 == 5) <|
      mchk (hC u4 p0 == 5) <|
      mlet (uI u4 p0 4 ((hI u4 p0 4) + 1)) fun u9 =>
      k u9
    else
      mchk (hC u4 p0 == 5) <|
      mchk (hC u4 p0 == 5) <|
      mlet (uI u4 p0 6 (hI u4 p0 4)) fun u9 =>
      mchk (hC u9 p0 == 5) <|
      hb (hX5_here p0 u9) fun r11 u10 =>
      if r11 = (-1) then
        mchk (hC u10 p0 == 5) <|
        mlet (uI u10 p0 5 0) fun u14 =>
        mchk (hC u14 p0 == 5) <|
        mchk (hC u14 p0 == 5) <|
        mlet (uI u14 p0 7 (hI u14 p0 4)) fun u17 =>
        hret () u17
      else
        mchk (hC u10 p0 == 5) <|
        hb (hX5_isLetter p0 u10) fun r14 u13 =>
        if r14 = 0 then
          mchk (hC u13 p0 == 5) <|
          hb (hX5_isDigit p0 u13) fun r17 u16 =>
          if r17 = 0 then
            mlet (hK u16 18) fun a19 =>
            mchk (hC u16 p0 == 5) <|
            hb (hX5_here p0 u16) fun r23 u22 =>
            mchk (hC u22 a19 == 30) <|
            hb (hJ8_indexOf a19 r23 u22) fun r26 u25 =>
            if r26 < 0 then
              hX5_next_172 p0 p0 4 u25
            else
              hX5_next_172 p0 p0 3 u25
          else
            mchk (hC u16 p0 == 5) <|
            mlet (uI u16 p0 8 0) fun u20 =>
            ml0 (hX5_next_102 p0) FUEL u20
        else
          ml0 (hX5_next_62 p0) FUEL u13
theorem whX5_next_0 {K1 K2 : Nat} {p : Program} {e : Env} {s : State} {m : MethodId} {args : Array Value} {below : List Frame} {meth : Method} {c : Code} (hl0 : l.stackTraces = false) (C : CxH t G l p s m args meth c yX5_next cX5_next 1 none) (p0 : Nat) (n : Nat) (u : HS) : VH mkU t G p l e 6 K1 K2 s m args below meth c 1 0 [(0, .ref p0)] [] u (ml0 (hX5_next_0 p0) n u) := by
  refine vl0 (L := [(0, .ref p0)]) (fun k hk u => ?_) n u
  unfold hX5_next_0
  refine v_aload_n C.1 0 rfl rfl dX5_next_0 ?_
  refine v_chk (fun h3 => ?_)
  refine v_callVH C [] [] (ctX5_here t G l hl0 p0 u) (fun _ _ => cwX5_here C q894 (by decide)) (recO C (ci := 4) (eq_of_beq h3) (by decide) rfl) rfl rfl (by exact Nat.le_of_ble_eq_true rfl) dX5_next_1 (fun r2 u1 => ?_)
  refine v_bipush C.1 32 (by decide) dX5_next_4 ?_
  refine v_icmp_eq C.1 18 (by decide) dX5_next_6 (fun _ => ?_) (fun _ => ?_)
  · refine v_aload_n C.1 0 rfl rfl dX5_next_18 ?_
    refine v_dup C.1 rfl dX5_next_19 ?_
    refine v_chk (fun h4 => ?_)
    refine v_hget C (v := .int (hI u1 p0 4)) 4 4 (eq_of_beq h4) (by decide) rfl in_X5 (by decide) (Or.inl q852) (fun _ h => h) (hF_i (ci := 4) (eq_of_beq h4) (by decide)) dX5_next_20 ?_
    refine v_iconst C.1 1 (by decide) dX5_next_23 ?_
    refine v_iadd C.1 dX5_next_24 ?_
    refine v_chk (fun h5 => ?_)
    refine v_hputI C 4 4 (eq_of_beq h5) (by decide) rfl in_X5 tyX5 tyX5_ok nmX5 (by decide) (by decide) q852 (fun _ h => h) (Or.inl rfl) ⟨rfl, rfl⟩ dX5_next_25 (fun u6 => ?_)
    refine v_goto C.1 0 (by decide) dX5_next_28 ?_
    exact hk u6
  · refine v_aload_n C.1 0 rfl rfl dX5_next_9 ?_
    refine v_chk (fun h6 => ?_)
    refine v_callVH C [] [] (ctX5_here t G l hl0 p0 u1) (fun _ _ => cwX5_here C q894 (by decide)) (recO C (ci := 4) (eq_of_beq h6) (by decide) rfl) rfl rfl (by exact Nat.le_of_ble_eq_true rfl) dX5_next_10 (fun r5 u4 => ?_)
    refine v_bipush C.1 10 (by decide) dX5_next_13 ?_
    refine v_icmp_ne C.1 31 (by decide) dX5_next_15 (fun _ => ?_) (fun _ => ?_)
    · refine v_aload_n C.1 0 rfl rfl dX5_next_18 ?_
      refine v_dup C.1 rfl dX5_next_19 ?_
      refine v_chk (fun h7 => ?_)
      refine v_hget C (v := .int (hI u4 p0 4)) 4 4 (eq_of_beq h7) (by decide) rfl in_X5 (by decide) (Or.inl q852) (fun _ h => h) (hF_i (ci := 4) (eq_of_beq h7) (by decide)) dX5_next_20 ?_
      refine v_iconst C.1 1 (by decide) dX5_next_23 ?_
      refine v_iadd C.1 dX5_next_24 ?_
      refine v_chk (fun h8 => ?_)
      refine v_hputI C 4 4 (eq_of_beq h8) (by decide) rfl in_X5 tyX5 tyX5_ok nmX5 (by decide) (by decide) q852 (fun _ h => h) (Or.inl rfl) ⟨rfl, rfl⟩ dX5_next_25 (fun u9 => ?_)
      refine v_goto C.1 0 (by decide) dX5_next_28 ?_
      exact hk u9
    · refine v_aload_n C.1 0 rfl rfl dX5_next_31 ?_
      refine v_aload_n C.1 0 rfl rfl dX5_next_32 ?_
      refine v_chk (fun h7 => ?_)
      refine v_hget C (v := .int (hI u4 p0 4)) 4 4 (eq_of_beq h7) (by decide) rfl in_X5 (by decide) (Or.inl q852) (fun _ h => h) (hF_i (ci := 4) (eq_of_beq h7) (by decide)) dX5_next_33 ?_
      refine v_chk (fun h8 => ?_)
      refine v_hputI C 4 6 (eq_of_beq h8) (by decide) rfl in_X5 tyX5 tyX5_ok nmX5 (by decide) (by decide) q854 (fun _ h => h) (Or.inl rfl) ⟨rfl, rfl⟩ dX5_next_36 (fun u9 => ?_)
      refine v_aload_n C.1 0 rfl rfl dX5_next_39 ?_
      refine v_chk (fun h12 => ?_)
      refine v_callVH C [] [] (ctX5_here t G l hl0 p0 u9) (fun _ _ => cwX5_here C q894 (by decide)) (recO C (ci := 4) (eq_of_beq h12) (by decide) rfl) rfl rfl (by exact Nat.le_of_ble_eq_true rfl) dX5_next_40 (fun r11 u10 => ?_)
      refine v_iconst C.1 (-1) (by decide) dX5_next_43 ?_
      refine v_icmp_ne C.1 55 (by decide) dX5_next_44 (fun _ => ?_) (fun _ => ?_)
      · refine v_aload_n C.1 0 rfl rfl dX5_next_47 ?_
        refine v_iconst C.1 0 (by decide) dX5_next_48 ?_
        refine v_chk (fun h13 => ?_)
        refine v_hputI C 4 5 (eq_of_beq h13) (by decide) rfl in_X5 tyX5 tyX5_ok nmX5 (by decide) (by decide) q853 (fun _ h => h) (Or.inl rfl) ⟨rfl, rfl⟩ dX5_next_49 (fun u14 => ?_)
        refine v_goto C.1 185 (by decide) dX5_next_52 ?_
        refine v_aload_n C.1 0 rfl rfl dX5_next_185 ?_
        refine v_aload_n C.1 0 rfl rfl dX5_next_186 ?_
        refine v_chk (fun h15 => ?_)
        refine v_hget C (v := .int (hI u14 p0 4)) 4 4 (eq_of_beq h15) (by decide) rfl in_X5 (by decide) (Or.inl q852) (fun _ h => h) (hF_i (ci := 4) (eq_of_beq h15) (by decide)) dX5_next_187 ?_
        refine v_chk (fun h16 => ?_)
        refine v_hputI C 4 7 (eq_of_beq h16) (by decide) rfl in_X5 tyX5 tyX5_ok nmX5 (by decide) (by decide) q856 (fun _ h => h) (Or.inl rfl) ⟨rfl, rfl⟩ dX5_next_190 (fun u17 => ?_)
        exact v_hvret C dX5_next_193
      · refine v_aload_n C.1 0 rfl rfl dX5_next_55 ?_
        refine v_chk (fun h15 => ?_)
        refine v_callVH C [] [] (ctX5_isLetter t G l hl0 p0 u10) (fun _ _ => cwX5_isLetter C q898 (by decide)) (recO C (ci := 4) (eq_of_beq h15) (by decide) rfl) rfl rfl (by exact Nat.le_of_ble_eq_true rfl) dX5_next_56 (fun r14 u13 => ?_)
        refine v_if_eq C.1 90 (by decide) dX5_next_59 (fun _ => ?_) (fun _ => ?_)
        · refine v_aload_n C.1 0 rfl rfl dX5_next_90 ?_
          refine v_chk (fun h18 => ?_)
          refine v_callVH C [] [] (ctX5_isDigit t G l hl0 p0 u13) (fun _ _ => cwX5_isDigit C q903 (by decide)) (recO C (ci := 4) (eq_of_beq h18) (by decide) rfl) rfl rfl (by exact Nat.le_of_ble_eq_true rfl) dX5_next_91 (fun r17 u16 => ?_)
          refine v_if_eq C.1 154 (by decide) dX5_next_94 (fun _ => ?_) (fun _ => ?_)
          · refine v_aload_n C.1 0 rfl rfl dX5_next_154 ?_
            refine v_K (fun ek21 _ => ?_)
            refine v_letE (fun a19 e20 => ?_)
            refine v_hldc (q := a19) C rfl 8 (by decide) rfl (by rw [e20, ek21]) dX5_next_155 ?_
            refine v_aload_n C.1 0 rfl rfl dX5_next_157 ?_
            refine v_chk (fun h24 => ?_)
            refine v_callVH C [] [.ref a19, .ref p0] (ctX5_here t G l hl0 p0 u16) (fun _ _ => cwX5_here C q894 (by decide)) (recO C (ci := 4) (eq_of_beq h24) (by decide) rfl) rfl rfl (by exact Nat.le_of_ble_eq_true rfl) dX5_next_158 (fun r23 u22 => ?_)
            refine v_chk (fun h27 => ?_)
            refine v_callVH C [.int r23] [.ref p0] (ctJ8_indexOf t G l hl0 a19 r23 u22) (fun _ _ => cwJ8_indexOf C q910 (by decide)) (recS C (eq_of_beq h27)) rfl rfl (by exact Nat.le_of_ble_eq_true rfl) dX5_next_161 (fun r26 u25 => ?_)
            refine v_if_lt C.1 171 (by decide) dX5_next_164 (fun _ => ?_) (fun _ => ?_)
            · refine v_iconst C.1 4 (by decide) dX5_next_171 ?_
              exact whX5_next_172 hl0 C p0 p0 4 u25
            · refine v_iconst C.1 3 (by decide) dX5_next_167 ?_
              refine v_goto C.1 172 (by decide) dX5_next_168 ?_
              exact whX5_next_172 hl0 C p0 p0 3 u25
          · refine v_aload_n C.1 0 rfl rfl dX5_next_97 ?_
            refine v_iconst C.1 0 (by decide) dX5_next_98 ?_
            refine v_chk (fun h19 => ?_)
            refine v_hputI C 4 8 (eq_of_beq h19) (by decide) rfl in_X5 tyX5 tyX5_ok nmX5 (by decide) (by decide) q857 (fun _ h => h) (Or.inl rfl) ⟨rfl, rfl⟩ dX5_next_99 (fun u20 => ?_)
            exact whX5_next_102 hl0 C p0 FUEL u20
        · exact whX5_next_62 hl0 C p0 FUEL u13
def hX5_next (p0 : Nat) (u : HS) : Option (OH Unit) :=
  ml0 (hX5_next_0 p0) FUEL u
theorem ctX5_next (t : TT) (G : GH) (l : Launch) (hl0 : l.stackTraces = false) (p0 : Nat) (u : HS) : CtH mkU t G l yX5_next cX5_next 1 none 6 [.ref p0] u (hX5_next p0 u) := by
  refine ctH_of [(0, .ref p0)] hl0 rfl (Nat.le_of_ble_eq_true rfl) rfl (fun K1 K2 p e s m args below meth c C => ?_)
  unfold hX5_next
  exact whX5_next_0 hl0 C p0 FUEL u
theorem cwX5_next {t : TT} {G : GH} {l : Launch} {p : Program} {s : State} {m : MethodId} {args : Array Value} {meth : Method} {c : Code} {y0 : MethodName} {cc0 : ByteArray} {nL0 : Nat} {ret0 : Option FieldType} (C : CxH t G l p s m args meth c y0 cc0 nL0 ret0) {index lv mc ms K1 K2 : Nat} (hq : Cond.methodLink y0.cls index yX5_next ∈ lw_all) (hR : 6 + 1 ≤ lv) : CallW (rmH lv K1 K2) s args y0.cls RX5 index yX5_next cX5_next 1 none (ws_ yX5_next cX5_next 1 none) (rmH 6 mc ms) mc ms 0 :=
  cwV 0 C.1.2.2.2.2.1 (lw_V hq q892 qs12 q132 q893) rfl rfl rfl (by decide +kernel) ⟨hR, by show 8 + (1 + 11) + 100 * 6 ≤ 100 * lv; omega⟩
def hJ9_charAt (p0 : Nat) (p1 : Int32) (u : HS) : Option (OH Int32) :=
  mchk (hC u p0 == 23) <|
  hb (hJ8_checkIndex p1 (Int32.ofNat (hN u p0)) u) fun _ u2 =>
  mchk (inA u2 p1 p0 23) <|
  mchk (isCh ((Int32.toUInt32 ((hA u2 p0 p1.toNatClampNeg) &&& 255) % 65536).toInt32)) <|
  hret ((Int32.toUInt32 ((hA u2 p0 p1.toNatClampNeg) &&& 255) % 65536).toInt32) u2
theorem ctJ9_charAt (t : TT) (G : GH) (l : Launch) (hl0 : l.stackTraces = false) (p0 : Nat) (p1 : Int32) (u : HS) : CtH mkI t G l yJ9_charAt cJ9_charAt 2 (some .char) 4 [.ref p0, .int p1] u (hJ9_charAt p0 p1 u) := by
  refine ctH_of [(0, .ref p0), (1, .int p1)] hl0 rfl (Nat.le_of_ble_eq_true rfl) rfl (fun K1 K2 p e s m args below meth c C => ?_)
  unfold hJ9_charAt
  refine v_iload_n C.1 1 rfl rfl dJ9_charAt_0 ?_
  refine v_aload_n C.1 0 rfl rfl dJ9_charAt_1 ?_
  refine v_chk (fun h1 => ?_)
  refine v_halen C 3 (by decide) (eq_of_beq h1) dJ9_charAt_2 ?_
  refine v_callSH C [.int p1, .int (Int32.ofNat (hN u p0))] [] (ctJ8_checkIndex t G l hl0 p1 (Int32.ofNat (hN u p0)) u) (fun _ _ => cwJ8_checkIndex C q996 (by decide)) rfl rfl (by exact Nat.le_of_ble_eq_true rfl) dJ9_charAt_3 (fun _ u2 => ?_)
  refine v_aload_n C.1 0 rfl rfl dJ9_charAt_6 ?_
  refine v_iload_n C.1 1 rfl rfl dJ9_charAt_7 ?_
  refine v_chk (fun h3 => ?_)
  refine v_habald C h3 dJ9_charAt_8 ?_
  refine v_sipush C.1 255 (by decide) dJ9_charAt_9 ?_
  refine v_iand C.1 dJ9_charAt_12 ?_
  refine v_i2c C.1 dJ9_charAt_13 ?_
  refine v_chk (fun h4 => ?_)
  exact v_hcret C h4 dJ9_charAt_14
theorem cwJ9_charAt {t : TT} {G : GH} {l : Launch} {p : Program} {s : State} {m : MethodId} {args : Array Value} {meth : Method} {c : Code} {y0 : MethodName} {cc0 : ByteArray} {nL0 : Nat} {ret0 : Option FieldType} (C : CxH t G l p s m args meth c y0 cc0 nL0 ret0) {index lv mc ms K1 K2 : Nat} (hq : Cond.methodLink y0.cls index yJ9_charAt ∈ lw_all) (hR : 4 + 1 ≤ lv) : CallB (rmH lv K1 K2) s args y0.cls index yJ9_charAt cJ9_charAt 2 (some .char) (ws_ yJ9_charAt cJ9_charAt 2 (some .char)) (rmH 4 mc ms) mc ms 2 ∧ (Cond.static yJ9_charAt).before args s = true :=
  ⟨callB_of 2 C.1.2.2.2.2.1 (lw_meth q995) rfl rfl rfl (C.1.2.2.2.2.1 _ q135) (C.1.2.2.2.2.1 _ hq) (by decide +kernel) ⟨hR, by show 8 + (2 + 11) + 100 * 4 ≤ 100 * lv; omega⟩, C.1.2.2.2.2.1 _ q994⟩
def hJ8_charAt (p0 : Nat) (p1 : Int32) (u : HS) : Option (OH Int32) :=
  mchk (hC u p0 == 30) <|
  hb (hJ8_isLatin1 p0 u) fun r2 u1 =>
  if r2 = 0 then
    mchk (hC u1 p0 == 30) <|
    mderef (hR u1 p0 0) fun a5 =>
    none
  else
    mchk (hC u1 p0 == 30) <|
    mderef (hR u1 p0 0) fun a5 =>
    hb (hJ9_charAt a5 p1 u1) fun r8 u7 =>
    mchk (isCh r8) <|
    hret r8 u7
theorem ctJ8_charAt (t : TT) (G : GH) (l : Launch) (hl0 : l.stackTraces = false) (p0 : Nat) (p1 : Int32) (u : HS) : CtH mkI t G l yJ8_charAt cJ8_charAt 2 (some .char) 5 [.ref p0, .int p1] u (hJ8_charAt p0 p1 u) := by
  refine ctH_of [(0, .ref p0), (1, .int p1)] hl0 rfl (Nat.le_of_ble_eq_true rfl) rfl (fun K1 K2 p e s m args below meth c C => ?_)
  unfold hJ8_charAt
  refine v_aload_n C.1 0 rfl rfl dJ8_charAt_0 ?_
  refine v_chk (fun h3 => ?_)
  refine v_callVH C [] [] (ctJ8_isLatin1 t G l hl0 p0 u) (fun _ _ => cwJ8_isLatin1 C q918 (by decide)) (recS C (eq_of_beq h3)) rfl rfl (by exact Nat.le_of_ble_eq_true rfl) dJ8_charAt_1 (fun r2 u1 => ?_)
  refine v_if_eq C.1 16 (by decide) dJ8_charAt_4 (fun _ => ?_) (fun _ => ?_)
  · refine v_aload_n C.1 0 rfl rfl dJ8_charAt_16 ?_
    refine v_chk (fun h4 => ?_)
    refine v_hgetS C (v := va_rf (hR u1 p0 0)) 0 (eq_of_beq h4) (Or.inl ⟨rfl, rfl⟩) q2384 dJ8_charAt_17 ?_
    refine v_deref (fun a5 e6 => ?_)
    refine v_iload_n C.1 1 rfl rfl dJ8_charAt_20 ?_
    exact v_none
  · refine v_aload_n C.1 0 rfl rfl dJ8_charAt_7 ?_
    refine v_chk (fun h4 => ?_)
    refine v_hgetS C (v := va_rf (hR u1 p0 0)) 0 (eq_of_beq h4) (Or.inl ⟨rfl, rfl⟩) q2384 dJ8_charAt_8 ?_
    refine v_deref (fun a5 e6 => ?_)
    refine v_iload_n C.1 1 rfl rfl dJ8_charAt_11 ?_
    refine v_callSH C [.ref a5, .int p1] [] (ctJ9_charAt t G l hl0 a5 p1 u1) (fun _ _ => cwJ9_charAt C q993 (by decide)) rfl rfl (by exact Nat.le_of_ble_eq_true rfl) dJ8_charAt_12 (fun r8 u7 => ?_)
    refine v_chk (fun h9 => ?_)
    exact v_hcret C h9 dJ8_charAt_15
theorem cwJ8_charAt {t : TT} {G : GH} {l : Launch} {p : Program} {s : State} {m : MethodId} {args : Array Value} {meth : Method} {c : Code} {y0 : MethodName} {cc0 : ByteArray} {nL0 : Nat} {ret0 : Option FieldType} (C : CxH t G l p s m args meth c y0 cc0 nL0 ret0) {index lv mc ms K1 K2 : Nat} (hq : Cond.methodLink y0.cls index yJ8_charAt ∈ lw_all) (hR : 5 + 1 ≤ lv) : CallW (rmH lv K1 K2) s args y0.cls RJ8 index yJ8_charAt cJ8_charAt 2 (some .char) (ws_ yJ8_charAt cJ8_charAt 2 (some .char)) (rmH 5 mc ms) mc ms 1 :=
  cwV 1 C.1.2.2.2.2.1 (lw_V hq q990 q991 q134 q992) rfl rfl rfl (by decide +kernel) ⟨hR, by show 8 + (2 + 11) + 100 * 5 ≤ 100 * lv; omega⟩
def hX5_is_28 (p0 : Nat) (p1 : Nat) (k : Int32 → HS → Option (OH Int32)) (x2 : Int32) (u : HS) : Option (OH Int32) :=
  mchk (hC u p1 == 30) <|
  hb (hJ8_length p1 u) fun r2 u1 =>
  if r2 ≤ x2 then
    hz id 1 u1
  else
    mchk (hC u1 p1 == 30) <|
    hb (hJ8_charAt p1 x2 u1) fun r5 u4 =>
    mchk (hC u4 p0 == 5) <|
    mderef (hR u4 p0 11) fun a8 =>
    mchk (hC u4 a8 == 1) <|
    mderef (hR u4 a8 4) fun a11 =>
    mchk (hC u4 p0 == 5) <|
    mchk (inA u4 ((hI u4 p0 6) + x2) a11 23) <|
    if r5 = ((hA u4 a11 ((hI u4 p0 6) + x2).toNatClampNeg) &&& 255) then
      k (x2 + 1) u4
    else
      hz id 0 u4
theorem whX5_is_28 {K1 K2 : Nat} {p : Program} {e : Env} {s : State} {m : MethodId} {args : Array Value} {below : List Frame} {meth : Method} {c : Code} (hl0 : l.stackTraces = false) (C : CxH t G l p s m args meth c yX5_is cX5_is 3 (some .boolean)) (p0 : Nat) (p1 : Nat) (n : Nat) (x2 : Int32) (u : HS) : VH mkI t G p l e 6 K1 K2 s m args below meth c 3 28 [(0, .ref p0), (1, .ref p1), (2, .int x2)] [] u (ml1 (hX5_is_28 p0 p1) n x2 u) := by
  refine vl1 (L := fun x2 => [(0, .ref p0), (1, .ref p1), (2, .int x2)]) (fun k hk x2 u => ?_) n x2 u
  unfold hX5_is_28
  refine v_iload_n C.1 2 rfl rfl dX5_is_28 ?_
  refine v_aload_n C.1 1 rfl rfl dX5_is_29 ?_
  refine v_chk (fun h3 => ?_)
  refine v_callVH C [] [.int x2] (ctJ8_length t G l hl0 p1 u) (fun _ _ => cwJ8_length C q988 (by decide)) (recS C (eq_of_beq h3)) rfl rfl (by exact Nat.le_of_ble_eq_true rfl) dX5_is_30 (fun r2 u1 => ?_)
  refine v_icmp_ge C.1 70 (by decide) dX5_is_33 (fun _ => ?_) (fun _ => ?_)
  · refine v_iconst C.1 1 (by decide) dX5_is_70 ?_
    exact v_hzret C dX5_is_71
  · refine v_aload_n C.1 1 rfl rfl dX5_is_36 ?_
    refine v_iload_n C.1 2 rfl rfl dX5_is_37 ?_
    refine v_chk (fun h6 => ?_)
    refine v_callVH C [.int x2] [] (ctJ8_charAt t G l hl0 p1 x2 u1) (fun _ _ => cwJ8_charAt C q989 (by decide)) (recS C (eq_of_beq h6)) rfl rfl (by exact Nat.le_of_ble_eq_true rfl) dX5_is_38 (fun r5 u4 => ?_)
    refine v_aload_n C.1 0 rfl rfl dX5_is_41 ?_
    refine v_chk (fun h7 => ?_)
    refine v_hget C (v := va_rf (hR u4 p0 11)) 4 11 (eq_of_beq h7) (by decide) rfl in_X5 (by decide) (Or.inl q860) (fun _ h => h) (hF_r (ci := 4) (eq_of_beq h7) (by decide)) dX5_is_42 ?_
    refine v_deref (fun a8 e9 => ?_)
    refine v_chk (fun h10 => ?_)
    refine v_hget C (v := va_rf (hR u4 a8 4)) 0 4 (eq_of_beq h10) (by decide) rfl in_X1 (by decide) (Or.inr ⟨_, q313⟩) (fun _ h => h) (hF_r (ci := 0) (eq_of_beq h10) (by decide)) dX5_is_45 ?_
    refine v_deref (fun a11 e12 => ?_)
    refine v_aload_n C.1 0 rfl rfl dX5_is_48 ?_
    refine v_chk (fun h13 => ?_)
    refine v_hget C (v := .int (hI u4 p0 6)) 4 6 (eq_of_beq h13) (by decide) rfl in_X5 (by decide) (Or.inl q854) (fun _ h => h) (hF_i (ci := 4) (eq_of_beq h13) (by decide)) dX5_is_49 ?_
    refine v_iload_n C.1 2 rfl rfl dX5_is_52 ?_
    refine v_iadd C.1 dX5_is_53 ?_
    refine v_chk (fun h14 => ?_)
    refine v_habald C h14 dX5_is_54 ?_
    refine v_sipush C.1 255 (by decide) dX5_is_55 ?_
    refine v_iand C.1 dX5_is_58 ?_
    refine v_icmp_eq C.1 64 (by decide) dX5_is_59 (fun _ => ?_) (fun _ => ?_)
    · refine v_iinc C.1 1 [(2, .int (x2 + 1)), (0, .ref p0), (1, .ref p1)] 2 rfl (by decide) (by decide) rfl dX5_is_64 ?_
      refine v_goto C.1 28 (by decide) dX5_is_67 ?_
      refine v_sub [1, 2, 0] rfl ?_
      exact hk (x2 + 1) u4
    · refine v_iconst C.1 0 (by decide) dX5_is_62 ?_
      exact v_hzret C dX5_is_63
def hX5_is (p0 : Nat) (p1 : Nat) (u : HS) : Option (OH Int32) :=
  mchk (hC u p0 == 5) <|
  if (hI u p0 5) = 1 then
    mchk (hC u p1 == 30) <|
    hb (hJ8_length p1 u) fun r3 u2 =>
    mchk (hC u2 p0 == 5) <|
    mchk (hC u2 p0 == 5) <|
    if r3 = ((hI u2 p0 7) - (hI u2 p0 6)) then
      ml1 (hX5_is_28 p0 p1) FUEL 0 u2
    else
      hz id 0 u2
  else
    hz id 0 u
theorem ctX5_is (t : TT) (G : GH) (l : Launch) (hl0 : l.stackTraces = false) (p0 : Nat) (p1 : Nat) (u : HS) : CtH mkI t G l yX5_is cX5_is 3 (some .boolean) 6 [.ref p0, .ref p1] u (hX5_is p0 p1 u) := by
  refine ctH_of [(0, .ref p0), (1, .ref p1)] hl0 rfl (Nat.le_of_ble_eq_true rfl) rfl (fun K1 K2 p e s m args below meth c C => ?_)
  unfold hX5_is
  refine v_aload_n C.1 0 rfl rfl dX5_is_0 ?_
  refine v_chk (fun h1 => ?_)
  refine v_hget C (v := .int (hI u p0 5)) 4 5 (eq_of_beq h1) (by decide) rfl in_X5 (by decide) (Or.inl q853) (fun _ h => h) (hF_i (ci := 4) (eq_of_beq h1) (by decide)) dX5_is_1 ?_
  refine v_iconst C.1 1 (by decide) dX5_is_4 ?_
  refine v_icmp_ne C.1 24 (by decide) dX5_is_5 (fun _ => ?_) (fun _ => ?_)
  · refine v_aload_n C.1 1 rfl rfl dX5_is_8 ?_
    refine v_chk (fun h4 => ?_)
    refine v_callVH C [] [] (ctJ8_length t G l hl0 p1 u) (fun _ _ => cwJ8_length C q988 (by decide)) (recS C (eq_of_beq h4)) rfl rfl (by exact Nat.le_of_ble_eq_true rfl) dX5_is_9 (fun r3 u2 => ?_)
    refine v_aload_n C.1 0 rfl rfl dX5_is_12 ?_
    refine v_chk (fun h5 => ?_)
    refine v_hget C (v := .int (hI u2 p0 7)) 4 7 (eq_of_beq h5) (by decide) rfl in_X5 (by decide) (Or.inl q856) (fun _ h => h) (hF_i (ci := 4) (eq_of_beq h5) (by decide)) dX5_is_13 ?_
    refine v_aload_n C.1 0 rfl rfl dX5_is_16 ?_
    refine v_chk (fun h6 => ?_)
    refine v_hget C (v := .int (hI u2 p0 6)) 4 6 (eq_of_beq h6) (by decide) rfl in_X5 (by decide) (Or.inl q854) (fun _ h => h) (hF_i (ci := 4) (eq_of_beq h6) (by decide)) dX5_is_17 ?_
    refine v_isub C.1 dX5_is_20 ?_
    refine v_icmp_eq C.1 26 (by decide) dX5_is_21 (fun _ => ?_) (fun _ => ?_)
    · refine v_iconst C.1 0 (by decide) dX5_is_26 ?_
      refine v_istore_n C.1 [(2, .int 0), (0, .ref p0), (1, .ref p1)] rfl (by decide) rfl dX5_is_27 ?_
      refine v_sub [1, 2, 0] rfl ?_
      exact whX5_is_28 hl0 C p0 p1 FUEL 0 u2
    · refine v_iconst C.1 0 (by decide) dX5_is_24 ?_
      exact v_hzret C dX5_is_25
  · refine v_iconst C.1 0 (by decide) dX5_is_24 ?_
    exact v_hzret C dX5_is_25
theorem cwX5_is {t : TT} {G : GH} {l : Launch} {p : Program} {s : State} {m : MethodId} {args : Array Value} {meth : Method} {c : Code} {y0 : MethodName} {cc0 : ByteArray} {nL0 : Nat} {ret0 : Option FieldType} (C : CxH t G l p s m args meth c y0 cc0 nL0 ret0) {index lv mc ms K1 K2 : Nat} (hq : Cond.methodLink y0.cls index yX5_is ∈ lw_all) (hR : 6 + 1 ≤ lv) : CallW (rmH lv K1 K2) s args y0.cls RX5 index yX5_is cX5_is 3 (some .boolean) (ws_ yX5_is cX5_is 3 (some .boolean)) (rmH 6 mc ms) mc ms 1 :=
  cwV 1 C.1.2.2.2.2.1 (lw_V hq q986 qs17 q132 q987) rfl rfl rfl (by decide +kernel) ⟨hR, by show 8 + (3 + 11) + 100 * 6 ≤ 100 * lv; omega⟩
def hJ3_init_2 (p0 : Nat) (p1 : Option Nat) (p2 : Option Nat) (p3 : Int32) (p4 : Int32) (u : HS) : Option (OH Unit) :=
  mchk (hC u p0 == 6) <|
  mlet (uR u p0 0 (some p0)) fun u2 =>
  mlet (hO u2 0) fun o3 =>
  mchk (hC u2 p0 == 6) <|
  mlet (uR u2 p0 1 o3) fun u7 =>
  mlet (hO u7 1) fun o8 =>
  mchk (hC u7 p0 == 6) <|
  mlet (uR u7 p0 2 o8) fun u12 =>
  if p4 = 0 then
    mchk (hC u12 p0 == 6) <|
    mlet (uR u12 p0 1 none) fun u14 =>
    mchk (hC u14 p0 == 6) <|
    mlet (uR u14 p0 3 p1) fun u16 =>
    mchk (hC u16 p0 == 6) <|
    mlet (uR u16 p0 0 p2) fun u18 =>
    if p3 = 0 then
      mchk (hC u18 p0 == 6) <|
      mlet (uR u18 p0 2 none) fun u20 =>
      hret () u20
    else
      hret () u18
  else
    none
theorem ctJ3_init_2 (t : TT) (G : GH) (l : Launch) (hl0 : l.stackTraces = false) (p0 : Nat) (p1 : Option Nat) (p2 : Option Nat) (p3 : Int32) (p4 : Int32) (u : HS) : CtH mkU t G l yJ3_init_2 cJ3_init_2 5 none 2 [.ref p0, va_rf p1, va_rf p2, .int p3, .int p4] u (hJ3_init_2 p0 p1 p2 p3 p4 u) := by
  refine ctH_of [(0, .ref p0), (1, va_rf p1), (2, va_rf p2), (3, .int p3), (4, .int p4)] hl0 rfl (by cases p1 <;> cases p2 <;> exact Nat.le_of_ble_eq_true rfl) (by cases p1 <;> cases p2 <;> rfl) (fun K1 K2 p e s m args below meth c C => ?_)
  unfold hJ3_init_2
  refine v_aload_n C.1 0 rfl rfl dJ3_init_2_0 ?_
  refine v_objInit C q788 q161 q162 (by exact Nat.le_of_ble_eq_true rfl) (by exact Nat.le_of_ble_eq_true rfl) dJ3_init_2_1 ?_
  refine v_aload_n C.1 0 rfl rfl dJ3_init_2_4 ?_
  refine v_aload_n C.1 0 rfl rfl dJ3_init_2_5 ?_
  refine v_chk (fun h1 => ?_)
  refine v_hputR C (some p0) 5 0 (eq_of_beq h1) (by decide) rfl in_X6 tyX6 tyX6_ok nmX6 (by decide) (by decide) q816 (fun _ h => h) (Or.inl rfl) rfl rfl dJ3_init_2_6 (fun u2 => ?_)
  refine v_aload_n C.1 0 rfl rfl dJ3_init_2_9 ?_
  refine v_K (fun _ ek5 => ?_)
  refine v_letE (fun o3 e4 => ?_)
  refine v_gets C (v := va_rf o3) (by rw [e4, ek5]; exact C.2.1.una) q789 (fun _ h => h) dJ3_init_2_10 ?_
  refine v_chk (fun h6 => ?_)
  refine v_hputR C o3 5 1 (eq_of_beq h6) (by decide) rfl in_X6 tyX6 tyX6_ok nmX6 (by decide) (by decide) q817 (fun _ h => h) (Or.inl rfl) rfl rfl dJ3_init_2_13 (fun u7 => ?_)
  refine v_aload_n C.1 0 rfl rfl dJ3_init_2_16 ?_
  refine v_K (fun _ ek10 => ?_)
  refine v_letE (fun o8 e9 => ?_)
  refine v_gets C (v := va_rf o8) (by rw [e9, ek10]; exact C.2.1.sup) q791 (fun _ h => h) dJ3_init_2_17 ?_
  refine v_chk (fun h11 => ?_)
  refine v_hputR C o8 5 2 (eq_of_beq h11) (by decide) rfl in_X6 tyX6 tyX6_ok nmX6 (by decide) (by decide) q818 (fun _ h => h) (Or.inl rfl) rfl rfl dJ3_init_2_20 (fun u12 => ?_)
  refine v_iload C.1 4 rfl dJ3_init_2_23 ?_
  refine v_if_eq C.1 36 (by decide) dJ3_init_2_25 (fun _ => ?_) (fun _ => ?_)
  · refine v_aload_n C.1 0 rfl rfl dJ3_init_2_36 ?_
    refine v_null C dJ3_init_2_37 ?_
    refine v_chk (fun h13 => ?_)
    refine v_hputR C none 5 1 (eq_of_beq h13) (by decide) rfl in_X6 tyX6 tyX6_ok nmX6 (by decide) (by decide) q817 (fun _ h => h) (Or.inl rfl) rfl rfl dJ3_init_2_38 (fun u14 => ?_)
    refine v_aload_n C.1 0 rfl rfl dJ3_init_2_41 ?_
    refine v_aload_nO C.1 1 rfl rfl dJ3_init_2_42 ?_
    refine v_chk (fun h15 => ?_)
    refine v_hputR C p1 5 3 (eq_of_beq h15) (by decide) rfl in_X6 tyX6 tyX6_ok nmX6 (by decide) (by decide) q815 (fun _ h => h) (Or.inl rfl) rfl rfl dJ3_init_2_43 (fun u16 => ?_)
    refine v_aload_n C.1 0 rfl rfl dJ3_init_2_46 ?_
    refine v_aload_nO C.1 2 rfl rfl dJ3_init_2_47 ?_
    refine v_chk (fun h17 => ?_)
    refine v_hputR C p2 5 0 (eq_of_beq h17) (by decide) rfl in_X6 tyX6 tyX6_ok nmX6 (by decide) (by decide) q816 (fun _ h => h) (Or.inl rfl) rfl rfl dJ3_init_2_48 (fun u18 => ?_)
    refine v_iload_n C.1 3 rfl rfl dJ3_init_2_51 ?_
    refine v_if_ne C.1 60 (by decide) dJ3_init_2_52 (fun _ => ?_) (fun _ => ?_)
    · refine v_aload_n C.1 0 rfl rfl dJ3_init_2_55 ?_
      refine v_null C dJ3_init_2_56 ?_
      refine v_chk (fun h19 => ?_)
      refine v_hputR C none 5 2 (eq_of_beq h19) (by decide) rfl in_X6 tyX6 tyX6_ok nmX6 (by decide) (by decide) q818 (fun _ h => h) (Or.inl rfl) rfl rfl dJ3_init_2_57 (fun u20 => ?_)
      exact v_hvret C dJ3_init_2_60
    · exact v_hvret C dJ3_init_2_60
  · refine v_aload_n C.1 0 rfl rfl dJ3_init_2_28 ?_
    exact v_none
theorem cwJ3_init_2 {t : TT} {G : GH} {l : Launch} {p : Program} {s : State} {m : MethodId} {args : Array Value} {meth : Method} {c : Code} {y0 : MethodName} {cc0 : ByteArray} {nL0 : Nat} {ret0 : Option FieldType} (C : CxH t G l p s m args meth c y0 cc0 nL0 ret0) {index lv mc ms K1 K2 : Nat} (hq : Cond.methodLink y0.cls index yJ3_init_2 ∈ lw_all) (hR : 2 + 1 ≤ lv) : CallB (rmH lv K1 K2) s args y0.cls index yJ3_init_2 cJ3_init_2 5 none (ws_ yJ3_init_2 cJ3_init_2 5 none) (rmH 2 mc ms) mc ms 4 ∧ yJ3_init_2.name = "<init>" ∧ (Cond.instanceMethod yJ3_init_2).before args s = true :=
  cwI 4 C.1.2.2.2.2.1 (lw_meth q1029) rfl rfl rfl (C.1.2.2.2.2.1 _ q128) (C.1.2.2.2.2.1 _ hq) (C.1.2.2.2.2.1 _ q1028) rfl (by decide +kernel) ⟨hR, by show 8 + (5 + 11) + 100 * 2 ≤ 100 * lv; omega⟩
def hJ4_init_2 (p0 : Nat) (p1 : Option Nat) (p2 : Option Nat) (p3 : Int32) (p4 : Int32) (u : HS) : Option (OH Unit) :=
  hb (hJ3_init_2 p0 p1 p2 p3 p4 u) fun _ u1 =>
  hret () u1
theorem ctJ4_init_2 (t : TT) (G : GH) (l : Launch) (hl0 : l.stackTraces = false) (p0 : Nat) (p1 : Option Nat) (p2 : Option Nat) (p3 : Int32) (p4 : Int32) (u : HS) : CtH mkU t G l yJ4_init_2 cJ4_init_2 5 none 3 [.ref p0, va_rf p1, va_rf p2, .int p3, .int p4] u (hJ4_init_2 p0 p1 p2 p3 p4 u) := by
  refine ctH_of [(0, .ref p0), (1, va_rf p1), (2, va_rf p2), (3, .int p3), (4, .int p4)] hl0 rfl (by cases p1 <;> cases p2 <;> exact Nat.le_of_ble_eq_true rfl) (by cases p1 <;> cases p2 <;> rfl) (fun K1 K2 p e s m args below meth c C => ?_)
  unfold hJ4_init_2
  refine v_aload_n C.1 0 rfl rfl dJ4_init_2_0 ?_
  refine v_aload_nO C.1 1 rfl rfl dJ4_init_2_1 ?_
  refine v_aload_nO C.1 2 rfl rfl dJ4_init_2_2 ?_
  refine v_iload_n C.1 3 rfl rfl dJ4_init_2_3 ?_
  refine v_iload C.1 4 rfl dJ4_init_2_4 ?_
  refine v_callIH C [va_rf p1, va_rf p2, .int p3, .int p4] [] (ctJ3_init_2 t G l hl0 p0 p1 p2 p3 p4 u) (fun _ _ => cwJ3_init_2 C q1027 (by decide)) rfl rfl (by exact Nat.le_of_ble_eq_true rfl) dJ4_init_2_6 (fun _ u1 => ?_)
  exact v_hvret C dJ4_init_2_9
theorem cwJ4_init_2 {t : TT} {G : GH} {l : Launch} {p : Program} {s : State} {m : MethodId} {args : Array Value} {meth : Method} {c : Code} {y0 : MethodName} {cc0 : ByteArray} {nL0 : Nat} {ret0 : Option FieldType} (C : CxH t G l p s m args meth c y0 cc0 nL0 ret0) {index lv mc ms K1 K2 : Nat} (hq : Cond.methodLink y0.cls index yJ4_init_2 ∈ lw_all) (hR : 3 + 1 ≤ lv) : CallB (rmH lv K1 K2) s args y0.cls index yJ4_init_2 cJ4_init_2 5 none (ws_ yJ4_init_2 cJ4_init_2 5 none) (rmH 3 mc ms) mc ms 4 ∧ yJ4_init_2.name = "<init>" ∧ (Cond.instanceMethod yJ4_init_2).before args s = true :=
  cwI 4 C.1.2.2.2.2.1 (lw_meth q1026) rfl rfl rfl (C.1.2.2.2.2.1 _ q129) (C.1.2.2.2.2.1 _ hq) (C.1.2.2.2.2.1 _ q1025) rfl (by decide +kernel) ⟨hR, by show 8 + (5 + 11) + 100 * 3 ≤ 100 * lv; omega⟩
def hX6_init (p0 : Nat) (p1 : Int32) (u : HS) : Option (OH Unit) :=
  hb (hJ4_init_2 p0 none none 0 0 u) fun _ u1 =>
  mchk (hC u1 p0 == 6) <|
  mlet (uI u1 p0 6 p1) fun u3 =>
  hret () u3
theorem ctX6_init (t : TT) (G : GH) (l : Launch) (hl0 : l.stackTraces = false) (p0 : Nat) (p1 : Int32) (u : HS) : CtH mkU t G l yX6_init cX6_init 2 none 4 [.ref p0, .int p1] u (hX6_init p0 p1 u) := by
  refine ctH_of [(0, .ref p0), (1, .int p1)] hl0 rfl (Nat.le_of_ble_eq_true rfl) rfl (fun K1 K2 p e s m args below meth c C => ?_)
  unfold hX6_init
  refine v_aload_n C.1 0 rfl rfl dX6_init_0 ?_
  refine v_null C dX6_init_1 ?_
  refine v_null C dX6_init_2 ?_
  refine v_iconst C.1 0 (by decide) dX6_init_3 ?_
  refine v_iconst C.1 0 (by decide) dX6_init_4 ?_
  refine v_callIH C [.null, .null, .int 0, .int 0] [] (ctJ4_init_2 t G l hl0 p0 none none 0 0 u) (fun _ _ => cwJ4_init_2 C q1024 (by decide)) rfl rfl (by exact Nat.le_of_ble_eq_true rfl) dX6_init_5 (fun _ u1 => ?_)
  refine v_aload_n C.1 0 rfl rfl dX6_init_8 ?_
  refine v_iload_n C.1 1 rfl rfl dX6_init_9 ?_
  refine v_chk (fun h2 => ?_)
  refine v_hputI C 5 6 (eq_of_beq h2) (by decide) rfl in_X6 tyX6 tyX6_ok nmX6 (by decide) (by decide) q1030 (fun _ h => h) (Or.inr ⟨rfl, rfl, rfl⟩) ⟨rfl, rfl⟩ dX6_init_10 (fun u3 => ?_)
  exact v_hvret C dX6_init_13
theorem cwX6_init {t : TT} {G : GH} {l : Launch} {p : Program} {s : State} {m : MethodId} {args : Array Value} {meth : Method} {c : Code} {y0 : MethodName} {cc0 : ByteArray} {nL0 : Nat} {ret0 : Option FieldType} (C : CxH t G l p s m args meth c y0 cc0 nL0 ret0) {index lv mc ms K1 K2 : Nat} (hq : Cond.methodLink y0.cls index yX6_init ∈ lw_all) (hR : 4 + 1 ≤ lv) : CallB (rmH lv K1 K2) s args y0.cls index yX6_init cX6_init 2 none (ws_ yX6_init cX6_init 2 none) (rmH 4 mc ms) mc ms 1 ∧ yX6_init.name = "<init>" ∧ (Cond.instanceMethod yX6_init).before args s = true :=
  cwI 1 C.1.2.2.2.2.1 (lw_meth q1023) rfl rfl rfl (C.1.2.2.2.2.1 _ q139) (C.1.2.2.2.2.1 _ hq) (C.1.2.2.2.2.1 _ q1022) rfl (by decide +kernel) ⟨hR, by show 8 + (2 + 11) + 100 * 4 ≤ 100 * lv; omega⟩
def hX5_want (p0 : Nat) (p1 : Int32) (p2 : Int32) (u : HS) : Option (OH (PX Unit)) :=
  if p1 = 0 then
    mlet (hZ u) fun a1 =>
    addc 1 (cN 5) <|
    mlet (nO u 5) fun u3 =>
    hb (hX6_init a1 p2 u3) fun _ u4 =>
    mchk (hC u4 a1 == 6) <|
    hthrowA 5 a1 u4
  else
    hret (.inl ()) u
theorem ctX5_want (t : TT) (G : GH) (l : Launch) (hl0 : l.stackTraces = false) (p0 : Nat) (p1 : Int32) (p2 : Int32) (u : HS) : CtX mkU t G l yX5_want cX5_want 3 none 8 [.ref p0, .int p1, .int p2] u (hX5_want p0 p1 p2 u) := by
  refine ctX_of [(0, .ref p0), (1, .int p1), (2, .int p2)] hl0 rfl (Nat.le_of_ble_eq_true rfl) rfl (fun K1 K2 p e s m args below meth c C => ?_)
  unfold hX5_want
  refine v_iload_n C.1.1 1 rfl rfl dX5_want_0 ?_
  refine v_if_ne C.1.1 13 (by decide) dX5_want_1 (fun _ => ?_) (fun _ => ?_)
  · refine v_letE (fun a1 e2 => ?_)
    refine v_hnew C.1 5 e2 (by decide) (by decide) rfl in_X6 tyX6 tyX6_ok df_X6 q1012 q1013 q139 dX5_want_4 (fun u3 => ?_)
    refine v_dup C.1.1 rfl dX5_want_7 ?_
    refine v_iload_n C.1.1 2 rfl rfl dX5_want_8 ?_
    refine v_callIH C.1 [.int p2] [.ref a1] (ctX6_init t G l hl0 a1 p2 u3) (fun _ _ => cwX6_init C.1 q1021 (by decide)) rfl rfl (by exact Nat.le_of_ble_eq_true rfl) dX5_want_9 (fun _ u4 => ?_)
    refine v_chk (fun h5 => ?_)
    exact v_xathrow C (eq_of_beq h5) dX5_want_12
  · exact v_xvret C.1 dX5_want_13
theorem cwX5_want {t : TT} {G : GH} {l : Launch} {p : Program} {s : State} {m : MethodId} {args : Array Value} {meth : Method} {c : Code} {y0 : MethodName} {cc0 : ByteArray} {nL0 : Nat} {ret0 : Option FieldType} (C : CxH t G l p s m args meth c y0 cc0 nL0 ret0) {index lv mc ms K1 K2 : Nat} (hq : Cond.methodLink y0.cls index yX5_want ∈ lw_all) (hR : 8 + 1 ≤ lv) : CallW (rmH lv K1 K2) s args y0.cls RX5 index yX5_want cX5_want 3 none (ws_ yX5_want cX5_want 3 none) (rmH 8 mc ms) mc ms 2 :=
  cwV 2 C.1.2.2.2.2.1 (lw_V hq q1010 qs19 q132 q1011) rfl rfl rfl (by decide +kernel) ⟨hR, by show 8 + (3 + 11) + 100 * 8 ≤ 100 * lv; omega⟩
def hX5_numberNow_53 (p0 : Nat) (p1 : Int32) (p2 : Int32) (s0 : Nat) (s1 : Int32) (u : HS) : Option (OH (PX Int32)) :=
  mchk (hC u s0 == 5) <|
  hx (hX5_want s0 s1 2 u) fun _ u1 =>
  mchk (hC u1 p0 == 5) <|
  hret (.inl (hI u1 p0 8)) u1
theorem whX5_numberNow_53 {K1 K2 : Nat} {p : Program} {e : Env} {s : State} {m : MethodId} {args : Array Value} {below : List Frame} {meth : Method} {c : Code} (hl0 : l.stackTraces = false) (C : CxX t G l p s m args meth c yX5_numberNow cX5_numberNow 3 (some .int)) (p0 : Nat) (p1 : Int32) (p2 : Int32) (s0 : Nat) (s1 : Int32) (u : HS) : VX mkI t G p l e 9 K1 K2 s m args below meth c 3 53 [(0, .ref p0)] [.int s1, .ref s0] u (hX5_numberNow_53 p0 p1 p2 s0 s1 u) := by
  unfold hX5_numberNow_53
  refine v_iconst C.1.1 2 (by decide) dX5_numberNow_53 ?_
  refine v_chk (fun h2 => ?_)
  refine v_callVX C [.int s1, .int 2] [] (ctX5_want t G l hl0 s0 s1 2 u) (fun _ _ => cwX5_want C.1 q1008 (by decide)) (recO C.1 (ci := 4) (eq_of_beq h2) (by decide) rfl) rfl rfl (by exact Nat.le_of_ble_eq_true rfl) dX5_numberNow_54 (fun _ u1 => ?_)
  refine v_aload_n C.1.1 0 rfl rfl dX5_numberNow_57 ?_
  refine v_chk (fun h3 => ?_)
  refine v_hget C.1 (v := .int (hI u1 p0 8)) 4 8 (eq_of_beq h3) (by decide) rfl in_X5 (by decide) (Or.inl q857) (fun _ h => h) (hF_i (ci := 4) (eq_of_beq h3) (by decide)) dX5_numberNow_58 ?_
  exact v_xiret C.1 dX5_numberNow_61
def hX5_numberNow_14 (p0 : Nat) (p1 : Int32) (p2 : Int32) (s0 : Nat) (s1 : Int32) (u : HS) : Option (OH (PX Int32)) :=
  mchk (hC u s0 == 5) <|
  hx (hX5_want s0 s1 1 u) fun _ u1 =>
  mchk (hC u1 p0 == 5) <|
  mchk (hC u1 p0 == 5) <|
  if 4 < ((hI u1 p0 7) - (hI u1 p0 6)) then
    hX5_numberNow_53 p0 p1 p2 p0 0 u1
  else
    mchk (hC u1 p0 == 5) <|
    if (hI u1 p0 8) < p1 then
      hX5_numberNow_53 p0 p1 p2 p0 0 u1
    else
      mchk (hC u1 p0 == 5) <|
      if p2 < (hI u1 p0 8) then
        hX5_numberNow_53 p0 p1 p2 p0 0 u1
      else
        hX5_numberNow_53 p0 p1 p2 p0 1 u1
theorem whX5_numberNow_14 {K1 K2 : Nat} {p : Program} {e : Env} {s : State} {m : MethodId} {args : Array Value} {below : List Frame} {meth : Method} {c : Code} (hl0 : l.stackTraces = false) (C : CxX t G l p s m args meth c yX5_numberNow cX5_numberNow 3 (some .int)) (p0 : Nat) (p1 : Int32) (p2 : Int32) (s0 : Nat) (s1 : Int32) (u : HS) : VX mkI t G p l e 9 K1 K2 s m args below meth c 3 14 [(0, .ref p0), (1, .int p1), (2, .int p2)] [.int s1, .ref s0] u (hX5_numberNow_14 p0 p1 p2 s0 s1 u) := by
  unfold hX5_numberNow_14
  refine v_iconst C.1.1 1 (by decide) dX5_numberNow_14 ?_
  refine v_chk (fun h2 => ?_)
  refine v_callVX C [.int s1, .int 1] [] (ctX5_want t G l hl0 s0 s1 1 u) (fun _ _ => cwX5_want C.1 q1008 (by decide)) (recO C.1 (ci := 4) (eq_of_beq h2) (by decide) rfl) rfl rfl (by exact Nat.le_of_ble_eq_true rfl) dX5_numberNow_15 (fun _ u1 => ?_)
  refine v_aload_n C.1.1 0 rfl rfl dX5_numberNow_18 ?_
  refine v_aload_n C.1.1 0 rfl rfl dX5_numberNow_19 ?_
  refine v_chk (fun h3 => ?_)
  refine v_hget C.1 (v := .int (hI u1 p0 7)) 4 7 (eq_of_beq h3) (by decide) rfl in_X5 (by decide) (Or.inl q856) (fun _ h => h) (hF_i (ci := 4) (eq_of_beq h3) (by decide)) dX5_numberNow_20 ?_
  refine v_aload_n C.1.1 0 rfl rfl dX5_numberNow_23 ?_
  refine v_chk (fun h4 => ?_)
  refine v_hget C.1 (v := .int (hI u1 p0 6)) 4 6 (eq_of_beq h4) (by decide) rfl in_X5 (by decide) (Or.inl q854) (fun _ h => h) (hF_i (ci := 4) (eq_of_beq h4) (by decide)) dX5_numberNow_24 ?_
  refine v_isub C.1.1 dX5_numberNow_27 ?_
  refine v_iconst C.1.1 4 (by decide) dX5_numberNow_28 ?_
  refine v_icmp_gt C.1.1 52 (by decide) dX5_numberNow_29 (fun _ => ?_) (fun _ => ?_)
  · refine v_iconst C.1.1 0 (by decide) dX5_numberNow_52 ?_
    refine v_sub [0] rfl ?_
    exact whX5_numberNow_53 hl0 C p0 p1 p2 p0 0 u1
  · refine v_aload_n C.1.1 0 rfl rfl dX5_numberNow_32 ?_
    refine v_chk (fun h5 => ?_)
    refine v_hget C.1 (v := .int (hI u1 p0 8)) 4 8 (eq_of_beq h5) (by decide) rfl in_X5 (by decide) (Or.inl q857) (fun _ h => h) (hF_i (ci := 4) (eq_of_beq h5) (by decide)) dX5_numberNow_33 ?_
    refine v_iload_n C.1.1 1 rfl rfl dX5_numberNow_36 ?_
    refine v_icmp_lt C.1.1 52 (by decide) dX5_numberNow_37 (fun _ => ?_) (fun _ => ?_)
    · refine v_iconst C.1.1 0 (by decide) dX5_numberNow_52 ?_
      refine v_sub [0] rfl ?_
      exact whX5_numberNow_53 hl0 C p0 p1 p2 p0 0 u1
    · refine v_aload_n C.1.1 0 rfl rfl dX5_numberNow_40 ?_
      refine v_chk (fun h6 => ?_)
      refine v_hget C.1 (v := .int (hI u1 p0 8)) 4 8 (eq_of_beq h6) (by decide) rfl in_X5 (by decide) (Or.inl q857) (fun _ h => h) (hF_i (ci := 4) (eq_of_beq h6) (by decide)) dX5_numberNow_41 ?_
      refine v_iload_n C.1.1 2 rfl rfl dX5_numberNow_44 ?_
      refine v_icmp_gt C.1.1 52 (by decide) dX5_numberNow_45 (fun _ => ?_) (fun _ => ?_)
      · refine v_iconst C.1.1 0 (by decide) dX5_numberNow_52 ?_
        refine v_sub [0] rfl ?_
        exact whX5_numberNow_53 hl0 C p0 p1 p2 p0 0 u1
      · refine v_iconst C.1.1 1 (by decide) dX5_numberNow_48 ?_
        refine v_goto C.1.1 53 (by decide) dX5_numberNow_49 ?_
        refine v_sub [0] rfl ?_
        exact whX5_numberNow_53 hl0 C p0 p1 p2 p0 1 u1
def hX5_numberNow (p0 : Nat) (p1 : Int32) (p2 : Int32) (u : HS) : Option (OH (PX Int32)) :=
  mchk (hC u p0 == 5) <|
  if (hI u p0 5) = 2 then
    hX5_numberNow_14 p0 p1 p2 p0 1 u
  else
    hX5_numberNow_14 p0 p1 p2 p0 0 u
theorem ctX5_numberNow (t : TT) (G : GH) (l : Launch) (hl0 : l.stackTraces = false) (p0 : Nat) (p1 : Int32) (p2 : Int32) (u : HS) : CtX mkI t G l yX5_numberNow cX5_numberNow 3 (some .int) 9 [.ref p0, .int p1, .int p2] u (hX5_numberNow p0 p1 p2 u) := by
  refine ctX_of [(0, .ref p0), (1, .int p1), (2, .int p2)] hl0 rfl (Nat.le_of_ble_eq_true rfl) rfl (fun K1 K2 p e s m args below meth c C => ?_)
  unfold hX5_numberNow
  refine v_aload_n C.1.1 0 rfl rfl dX5_numberNow_0 ?_
  refine v_aload_n C.1.1 0 rfl rfl dX5_numberNow_1 ?_
  refine v_chk (fun h1 => ?_)
  refine v_hget C.1 (v := .int (hI u p0 5)) 4 5 (eq_of_beq h1) (by decide) rfl in_X5 (by decide) (Or.inl q853) (fun _ h => h) (hF_i (ci := 4) (eq_of_beq h1) (by decide)) dX5_numberNow_2 ?_
  refine v_iconst C.1.1 2 (by decide) dX5_numberNow_5 ?_
  refine v_icmp_ne C.1.1 13 (by decide) dX5_numberNow_6 (fun _ => ?_) (fun _ => ?_)
  · refine v_iconst C.1.1 1 (by decide) dX5_numberNow_9 ?_
    refine v_goto C.1.1 14 (by decide) dX5_numberNow_10 ?_
    exact whX5_numberNow_14 hl0 C p0 p1 p2 p0 1 u
  · refine v_iconst C.1.1 0 (by decide) dX5_numberNow_13 ?_
    exact whX5_numberNow_14 hl0 C p0 p1 p2 p0 0 u
theorem cwX5_numberNow {t : TT} {G : GH} {l : Launch} {p : Program} {s : State} {m : MethodId} {args : Array Value} {meth : Method} {c : Code} {y0 : MethodName} {cc0 : ByteArray} {nL0 : Nat} {ret0 : Option FieldType} (C : CxH t G l p s m args meth c y0 cc0 nL0 ret0) {index lv mc ms K1 K2 : Nat} (hq : Cond.methodLink y0.cls index yX5_numberNow ∈ lw_all) (hR : 9 + 1 ≤ lv) : CallW (rmH lv K1 K2) s args y0.cls RX5 index yX5_numberNow cX5_numberNow 3 (some .int) (ws_ yX5_numberNow cX5_numberNow 3 (some .int)) (rmH 9 mc ms) mc ms 2 :=
  cwV 2 C.1.2.2.2.2.1 (lw_V hq q1042 qs21 q132 q1043) rfl rfl rfl (by decide +kernel) ⟨hR, by show 8 + (3 + 11) + 100 * 9 ≤ 100 * lv; omega⟩
end
