/-! walks in mode H, printed by tools/genh.py -/
set_option maxRecDepth 100000
section
variable {t : TT} {G : GH} {l : Launch}
def hX1_aMaster (p0 : Nat) (p1 : Int32) (u : HS) : Option (OH (PX Unit)) :=
  mchk (hC u p0 == 1) <|
  mderef (hR u p0 2) fun a2 =>
  mchk (hC u a2 == 2) <|
  hb (hX1_in p1 0 ((hI u a2 7) - 1) u) fun r6 u5 =>
  hx (hX1_found r6 u5) fun _ u7 =>
  hret (.inl ()) u7
theorem ctX1_aMaster (t : TT) (G : GH) (l : Launch) (hl0 : l.stackTraces = false) (p0 : Nat) (p1 : Int32) (u : HS) : CtX mkU t G l yX1_aMaster cX1_aMaster 2 none 9 [.ref p0, .int p1] u (hX1_aMaster p0 p1 u) := by
  refine ctX_of [(0, .ref p0), (1, .int p1)] hl0 rfl (Nat.le_of_ble_eq_true rfl) rfl (fun K1 K2 p e s m args below meth c C => ?_)
  unfold hX1_aMaster
  refine v_iload_n C.1.1 1 rfl rfl dX1_aMaster_0 ?_
  refine v_iconst C.1.1 0 (by decide) dX1_aMaster_1 ?_
  refine v_aload_n C.1.1 0 rfl rfl dX1_aMaster_2 ?_
  refine v_chk (fun h1 => ?_)
  refine v_hget C.1 (v := va_rf (hR u p0 2)) 0 2 (eq_of_beq h1) (by decide) rfl in_X1 (by decide) (Or.inl q311) (fun _ h => h) (hF_r (ci := 0) (eq_of_beq h1) (by decide)) dX1_aMaster_3 ?_
  refine v_deref (fun a2 e3 => ?_)
  refine v_chk (fun h4 => ?_)
  refine v_hget C.1 (v := .int (hI u a2 7)) 1 7 (eq_of_beq h4) (by decide) rfl in_X2 (by decide) (Or.inr ⟨_, q222⟩) (fun _ h => h) (hF_i (ci := 1) (eq_of_beq h4) (by decide)) dX1_aMaster_6 ?_
  refine v_iconst C.1.1 1 (by decide) dX1_aMaster_9 ?_
  refine v_isub C.1.1 dX1_aMaster_10 ?_
  refine v_callSH C.1 [.int p1, .int 0, .int ((hI u a2 7) - 1)] [] (ctX1_in t G l hl0 p1 0 ((hI u a2 7) - 1) u) (fun _ _ => cwX1_in C.1 q366 (by decide)) rfl rfl (by exact Nat.le_of_ble_eq_true rfl) dX1_aMaster_11 (fun r6 u5 => ?_)
  refine v_callSX C [.int r6] [] (ctX1_found t G l hl0 r6 u5) (fun _ _ => cwX1_found C.1 q1324 (by decide)) rfl rfl (by exact Nat.le_of_ble_eq_true rfl) dX1_aMaster_14 (fun _ u7 => ?_)
  exact v_xvret C.1 dX1_aMaster_17
theorem cwX1_aMaster {t : TT} {G : GH} {l : Launch} {p : Program} {s : State} {m : MethodId} {args : Array Value} {meth : Method} {c : Code} {y0 : MethodName} {cc0 : ByteArray} {nL0 : Nat} {ret0 : Option FieldType} (C : CxH t G l p s m args meth c y0 cc0 nL0 ret0) {index lv mc ms K1 K2 : Nat} (hq : Cond.methodLink y0.cls index yX1_aMaster ∈ lw_all) (hR : 9 + 1 ≤ lv) : CallW (rmH lv K1 K2) s args y0.cls RX1 index yX1_aMaster cX1_aMaster 2 none (ws_ yX1_aMaster cX1_aMaster 2 none) (rmH 9 mc ms) mc ms 1 :=
  cwV 1 C.1.2.2.2.2.1 (lw_V hq q1351 qs40 q121 q1352) rfl rfl rfl (by decide +kernel) ⟨hR, by show 8 + (2 + 11) + 100 * 9 ≤ 100 * lv; omega⟩
def hX1_oneOf (p0 : Int32) (p1 : Int32) (u : HS) : Option (OH (PX Unit)) :=
  hb (hX1_in p0 0 p1 u) fun r2 u1 =>
  hx (hX1_found r2 u1) fun _ u3 =>
  hret (.inl ()) u3
theorem ctX1_oneOf (t : TT) (G : GH) (l : Launch) (hl0 : l.stackTraces = false) (p0 : Int32) (p1 : Int32) (u : HS) : CtX mkU t G l yX1_oneOf cX1_oneOf 2 none 9 [.int p0, .int p1] u (hX1_oneOf p0 p1 u) := by
  refine ctX_of [(0, .int p0), (1, .int p1)] hl0 rfl (Nat.le_of_ble_eq_true rfl) rfl (fun K1 K2 p e s m args below meth c C => ?_)
  unfold hX1_oneOf
  refine v_iload_n C.1.1 0 rfl rfl dX1_oneOf_0 ?_
  refine v_iconst C.1.1 0 (by decide) dX1_oneOf_1 ?_
  refine v_iload_n C.1.1 1 rfl rfl dX1_oneOf_2 ?_
  refine v_callSH C.1 [.int p0, .int 0, .int p1] [] (ctX1_in t G l hl0 p0 0 p1 u) (fun _ _ => cwX1_in C.1 q366 (by decide)) rfl rfl (by exact Nat.le_of_ble_eq_true rfl) dX1_oneOf_3 (fun r2 u1 => ?_)
  refine v_callSX C [.int r2] [] (ctX1_found t G l hl0 r2 u1) (fun _ _ => cwX1_found C.1 q1324 (by decide)) rfl rfl (by exact Nat.le_of_ble_eq_true rfl) dX1_oneOf_6 (fun _ u3 => ?_)
  exact v_xvret C.1 dX1_oneOf_9
theorem cwX1_oneOf {t : TT} {G : GH} {l : Launch} {p : Program} {s : State} {m : MethodId} {args : Array Value} {meth : Method} {c : Code} {y0 : MethodName} {cc0 : ByteArray} {nL0 : Nat} {ret0 : Option FieldType} (C : CxH t G l p s m args meth c y0 cc0 nL0 ret0) {index lv mc ms K1 K2 : Nat} (hq : Cond.methodLink y0.cls index yX1_oneOf ∈ lw_all) (hR : 9 + 1 ≤ lv) : CallB (rmH lv K1 K2) s args y0.cls index yX1_oneOf cX1_oneOf 2 none (ws_ yX1_oneOf cX1_oneOf 2 none) (rmH 9 mc ms) mc ms 2 ∧ (Cond.static yX1_oneOf).before args s = true :=
  ⟨callB_of 2 C.1.2.2.2.2.1 (lw_meth q1355) rfl rfl rfl (C.1.2.2.2.2.1 _ q121) (C.1.2.2.2.2.1 _ hq) (by decide +kernel) ⟨hR, by show 8 + (2 + 11) + 100 * 9 ≤ 100 * lv; omega⟩, C.1.2.2.2.2.1 _ q1354⟩
def hX1_master_61 (p0 : Nat) (p1 : Int32) (p2 : Int32) (k : Int32 → Int32 → HS → Option (OH (PX Int32))) (x3 : Int32) (x4 : Int32) (u : HS) : Option (OH (PX Int32)) :=
  mchk (hC u p0 == 1) <|
  mderef (hR u p0 2) fun a2 =>
  mchk (hC u a2 == 2) <|
  hb (hX2_people a2 u) fun r5 u4 =>
  if r5 ≤ x4 then
    hret (.inl x3) u4
  else
    mchk (hC u4 p0 == 1) <|
    mderef (hR u4 p0 3) fun a8 =>
    mchk (hC u4 a8 == 3) <|
    mderef (hR u4 a8 1) fun a11 =>
    mchk (inA u4 x4 a11 21) <|
    if (hA u4 a11 x4.toNatClampNeg) = p1 then
      mlet (x3 ||| ((1 : Int32) <<< (x4 &&& 31))) fun v14 =>
      k v14 (x4 + 1) u4
    else
      k x3 (x4 + 1) u4
theorem whX1_master_61 {K1 K2 : Nat} {p : Program} {e : Env} {s : State} {m : MethodId} {args : Array Value} {below : List Frame} {meth : Method} {c : Code} (hl0 : l.stackTraces = false) (C : CxX t G l p s m args meth c yX1_master cX1_master 5 (some .int)) (p0 : Nat) (p1 : Int32) (p2 : Int32) (n : Nat) (x3 : Int32) (x4 : Int32) (u : HS) : VX mkI t G p l e 10 K1 K2 s m args below meth c 5 61 [(0, .ref p0), (1, .int p1), (3, .int x3), (4, .int x4)] [] u (ml2 (hX1_master_61 p0 p1 p2) n x3 x4 u) := by
  refine vl2 (L := fun x3 x4 => [(0, .ref p0), (1, .int p1), (3, .int x3), (4, .int x4)]) (fun k hk x3 x4 u => ?_) n x3 x4 u
  unfold hX1_master_61
  refine v_iload C.1.1 3 rfl dX1_master_61 ?_
  refine v_aload_n C.1.1 0 rfl rfl dX1_master_63 ?_
  refine v_chk (fun h1 => ?_)
  refine v_hget C.1 (v := va_rf (hR u p0 2)) 0 2 (eq_of_beq h1) (by decide) rfl in_X1 (by decide) (Or.inl q311) (fun _ h => h) (hF_r (ci := 0) (eq_of_beq h1) (by decide)) dX1_master_64 ?_
  refine v_deref (fun a2 e3 => ?_)
  refine v_chk (fun h6 => ?_)
  refine v_callVH C.1 [] [.int x4] (ctX2_people t G l hl0 a2 u) (fun _ _ => cwX2_people C.1 q717 (by decide)) (recO C.1 (ci := 1) (eq_of_beq h6) (by decide) rfl) rfl rfl (by exact Nat.le_of_ble_eq_true rfl) dX1_master_67 (fun r5 u4 => ?_)
  refine v_icmp_ge C.1.1 100 (by decide) dX1_master_70 (fun _ => ?_) (fun _ => ?_)
  · refine v_iload_n C.1.1 2 rfl rfl dX1_master_100 ?_
    exact v_xiret C.1 dX1_master_101
  · refine v_aload_n C.1.1 0 rfl rfl dX1_master_73 ?_
    refine v_chk (fun h7 => ?_)
    refine v_hget C.1 (v := va_rf (hR u4 p0 3)) 0 3 (eq_of_beq h7) (by decide) rfl in_X1 (by decide) (Or.inl q312) (fun _ h => h) (hF_r (ci := 0) (eq_of_beq h7) (by decide)) dX1_master_74 ?_
    refine v_deref (fun a8 e9 => ?_)
    refine v_chk (fun h10 => ?_)
    refine v_hget C.1 (v := va_rf (hR u4 a8 1)) 2 1 (eq_of_beq h10) (by decide) rfl in_X3 (by decide) (Or.inr ⟨_, q257⟩) (fun _ h => h) (hF_r (ci := 2) (eq_of_beq h10) (by decide)) dX1_master_77 ?_
    refine v_deref (fun a11 e12 => ?_)
    refine v_iload C.1.1 3 rfl dX1_master_80 ?_
    refine v_chk (fun h13 => ?_)
    refine v_haiald C.1 h13 dX1_master_82 ?_
    refine v_iload_n C.1.1 1 rfl rfl dX1_master_83 ?_
    refine v_icmp_ne C.1.1 94 (by decide) dX1_master_84 (fun _ => ?_) (fun _ => ?_)
    · refine v_iload_n C.1.1 2 rfl rfl dX1_master_87 ?_
      refine v_iconst C.1.1 1 (by decide) dX1_master_88 ?_
      refine v_iload C.1.1 3 rfl dX1_master_89 ?_
      refine v_ishl C.1.1 dX1_master_91 ?_
      refine v_ior C.1.1 dX1_master_92 ?_
      refine v_topi (fun v14 => ?_)
      refine v_istore_n C.1.1 [(3, .int v14), (0, .ref p0), (1, .int p1), (4, .int x4)] rfl (by decide) rfl dX1_master_93 ?_
      refine v_iinc C.1.1 1 [(4, .int (x4 + 1)), (3, .int v14), (0, .ref p0), (1, .int p1)] 3 rfl (by decide) (by decide) rfl dX1_master_94 ?_
      refine v_goto C.1.1 61 (by decide) dX1_master_97 ?_
      refine v_sub [2, 3, 1, 0] rfl ?_
      exact hk v14 (x4 + 1) u4
    · refine v_iinc C.1.1 1 [(4, .int (x4 + 1)), (0, .ref p0), (1, .int p1), (3, .int x3)] 3 rfl (by decide) (by decide) rfl dX1_master_94 ?_
      refine v_goto C.1.1 61 (by decide) dX1_master_97 ?_
      refine v_sub [1, 2, 3, 0] rfl ?_
      exact hk x3 (x4 + 1) u4
def hX1_master (p0 : Nat) (p1 : Int32) (p2 : Int32) (u : HS) : Option (OH (PX Int32)) :=
  mchk (hC u p0 == 1) <|
  hx (hX1_aMaster p0 p1 u) fun _ u1 =>
  hx (hX1_oneOf p2 3 u1) fun _ u3 =>
  if p2 = 0 then
    mchk (hC u3 p0 == 1) <|
    mderef (hR u3 p0 3) fun a5 =>
    mchk (hC u3 a5 == 3) <|
    mderef (hR u3 a5 3) fun a8 =>
    mchk (inA u3 p1 a8 21) <|
    hret (.inl (hA u3 a8 p1.toNatClampNeg)) u3
  else
    if 3 ≤ p2 then
      ml2 (hX1_master_61 p0 p1 p2) FUEL 0 0 u3
    else
      if p2 = 1 then
        mchk (hC u3 p0 == 1) <|
        mderef (hR u3 p0 2) fun a5 =>
        mchk (hC u3 a5 == 2) <|
        mderef (hR u3 a5 4) fun a8 =>
        mchk (inA u3 p1 a8 21) <|
        hret (.inl (hA u3 a8 p1.toNatClampNeg)) u3
      else
        mchk (hC u3 p0 == 1) <|
        mderef (hR u3 p0 2) fun a5 =>
        mchk (hC u3 a5 == 2) <|
        mderef (hR u3 a5 5) fun a8 =>
        mchk (inA u3 p1 a8 21) <|
        hret (.inl (hA u3 a8 p1.toNatClampNeg)) u3
theorem ctX1_master (t : TT) (G : GH) (l : Launch) (hl0 : l.stackTraces = false) (p0 : Nat) (p1 : Int32) (p2 : Int32) (u : HS) : CtX mkI t G l yX1_master cX1_master 5 (some .int) 10 [.ref p0, .int p1, .int p2] u (hX1_master p0 p1 p2 u) := by
  refine ctX_of [(0, .ref p0), (1, .int p1), (2, .int p2)] hl0 rfl (Nat.le_of_ble_eq_true rfl) rfl (fun K1 K2 p e s m args below meth c C => ?_)
  unfold hX1_master
  refine v_aload_n C.1.1 0 rfl rfl dX1_master_0 ?_
  refine v_iload_n C.1.1 1 rfl rfl dX1_master_1 ?_
  refine v_chk (fun h2 => ?_)
  refine v_callVX C [.int p1] [] (ctX1_aMaster t G l hl0 p0 p1 u) (fun _ _ => cwX1_aMaster C.1 q1349 (by decide)) (recO C.1 (ci := 0) (eq_of_beq h2) (by decide) rfl) rfl rfl (by exact Nat.le_of_ble_eq_true rfl) dX1_master_2 (fun _ u1 => ?_)
  refine v_iload_n C.1.1 2 rfl rfl dX1_master_5 ?_
  refine v_iconst C.1.1 3 (by decide) dX1_master_6 ?_
  refine v_callSX C [.int p2, .int 3] [] (ctX1_oneOf t G l hl0 p2 3 u1) (fun _ _ => cwX1_oneOf C.1 q1353 (by decide)) rfl rfl (by exact Nat.le_of_ble_eq_true rfl) dX1_master_7 (fun _ u3 => ?_)
  refine v_iload_n C.1.1 2 rfl rfl dX1_master_10 ?_
  refine v_if_ne C.1.1 24 (by decide) dX1_master_11 (fun _ => ?_) (fun _ => ?_)
  · refine v_aload_n C.1.1 0 rfl rfl dX1_master_14 ?_
    refine v_chk (fun h4 => ?_)
    refine v_hget C.1 (v := va_rf (hR u3 p0 3)) 0 3 (eq_of_beq h4) (by decide) rfl in_X1 (by decide) (Or.inl q312) (fun _ h => h) (hF_r (ci := 0) (eq_of_beq h4) (by decide)) dX1_master_15 ?_
    refine v_deref (fun a5 e6 => ?_)
    refine v_chk (fun h7 => ?_)
    refine v_hget C.1 (v := va_rf (hR u3 a5 3)) 2 3 (eq_of_beq h7) (by decide) rfl in_X3 (by decide) (Or.inr ⟨_, q262⟩) (fun _ h => h) (hF_r (ci := 2) (eq_of_beq h7) (by decide)) dX1_master_18 ?_
    refine v_deref (fun a8 e9 => ?_)
    refine v_iload_n C.1.1 1 rfl rfl dX1_master_21 ?_
    refine v_chk (fun h10 => ?_)
    refine v_haiald C.1 h10 dX1_master_22 ?_
    exact v_xiret C.1 dX1_master_23
  · refine v_iload_n C.1.1 2 rfl rfl dX1_master_24 ?_
    refine v_iconst C.1.1 3 (by decide) dX1_master_25 ?_
    refine v_icmp_ge C.1.1 56 (by decide) dX1_master_26 (fun _ => ?_) (fun _ => ?_)
    · refine v_iconst C.1.1 0 (by decide) dX1_master_56 ?_
      refine v_istore_n C.1.1 [(3, .int 0), (0, .ref p0), (1, .int p1), (2, .int p2)] rfl (by decide) rfl dX1_master_57 ?_
      refine v_iconst C.1.1 0 (by decide) dX1_master_58 ?_
      refine v_istore C.1.1 [(4, .int 0), (3, .int 0), (0, .ref p0), (1, .int p1), (2, .int p2)] (by decide) rfl dX1_master_59 ?_
      refine v_sub [2, 3, 1, 0] rfl ?_
      exact whX1_master_61 hl0 C p0 p1 p2 FUEL 0 0 u3
    · refine v_iload_n C.1.1 2 rfl rfl dX1_master_29 ?_
      refine v_iconst C.1.1 1 (by decide) dX1_master_30 ?_
      refine v_icmp_ne C.1.1 46 (by decide) dX1_master_31 (fun _ => ?_) (fun _ => ?_)
      · refine v_aload_n C.1.1 0 rfl rfl dX1_master_34 ?_
        refine v_chk (fun h4 => ?_)
        refine v_hget C.1 (v := va_rf (hR u3 p0 2)) 0 2 (eq_of_beq h4) (by decide) rfl in_X1 (by decide) (Or.inl q311) (fun _ h => h) (hF_r (ci := 0) (eq_of_beq h4) (by decide)) dX1_master_35 ?_
        refine v_deref (fun a5 e6 => ?_)
        refine v_chk (fun h7 => ?_)
        refine v_hget C.1 (v := va_rf (hR u3 a5 4)) 1 4 (eq_of_beq h7) (by decide) rfl in_X2 (by decide) (Or.inr ⟨_, q213⟩) (fun _ h => h) (hF_r (ci := 1) (eq_of_beq h7) (by decide)) dX1_master_38 ?_
        refine v_deref (fun a8 e9 => ?_)
        refine v_iload_n C.1.1 1 rfl rfl dX1_master_41 ?_
        refine v_chk (fun h10 => ?_)
        refine v_haiald C.1 h10 dX1_master_42 ?_
        refine v_goto C.1.1 55 (by decide) dX1_master_43 ?_
        exact v_xiret C.1 dX1_master_55
      · refine v_aload_n C.1.1 0 rfl rfl dX1_master_46 ?_
        refine v_chk (fun h4 => ?_)
        refine v_hget C.1 (v := va_rf (hR u3 p0 2)) 0 2 (eq_of_beq h4) (by decide) rfl in_X1 (by decide) (Or.inl q311) (fun _ h => h) (hF_r (ci := 0) (eq_of_beq h4) (by decide)) dX1_master_47 ?_
        refine v_deref (fun a5 e6 => ?_)
        refine v_chk (fun h7 => ?_)
        refine v_hget C.1 (v := va_rf (hR u3 a5 5)) 1 5 (eq_of_beq h7) (by decide) rfl in_X2 (by decide) (Or.inr ⟨_, q217⟩) (fun _ h => h) (hF_r (ci := 1) (eq_of_beq h7) (by decide)) dX1_master_50 ?_
        refine v_deref (fun a8 e9 => ?_)
        refine v_iload_n C.1.1 1 rfl rfl dX1_master_53 ?_
        refine v_chk (fun h10 => ?_)
        refine v_haiald C.1 h10 dX1_master_54 ?_
        exact v_xiret C.1 dX1_master_55
theorem cwX1_master {t : TT} {G : GH} {l : Launch} {p : Program} {s : State} {m : MethodId} {args : Array Value} {meth : Method} {c : Code} {y0 : MethodName} {cc0 : ByteArray} {nL0 : Nat} {ret0 : Option FieldType} (C : CxH t G l p s m args meth c y0 cc0 nL0 ret0) {index lv mc ms K1 K2 : Nat} (hq : Cond.methodLink y0.cls index yX1_master ∈ lw_all) (hR : 10 + 1 ≤ lv) : CallW (rmH lv K1 K2) s args y0.cls RX1 index yX1_master cX1_master 5 (some .int) (ws_ yX1_master cX1_master 5 (some .int)) (rmH 10 mc ms) mc ms 2 :=
  cwV 2 C.1.2.2.2.2.1 (lw_V hq q1346 q1347 q121 q1348) rfl rfl rfl (by decide +kernel) ⟨hR, by show 8 + (5 + 11) + 100 * 10 ≤ 100 * lv; omega⟩
def hX1_aPlace (p0 : Nat) (p1 : Int32) (u : HS) : Option (OH (PX Unit)) :=
  mchk (hC u p0 == 1) <|
  mderef (hR u p0 2) fun a2 =>
  mchk (hC u a2 == 2) <|
  mderef (hR u a2 0) fun a5 =>
  mchk (hC u a5 == 12) <|
  hb (hJ2_size a5 u) fun r8 u7 =>
  hb (hX1_in p1 0 (r8 - 1) u7) fun r11 u10 =>
  hx (hX1_found r11 u10) fun _ u12 =>
  hret (.inl ()) u12
theorem ctX1_aPlace (t : TT) (G : GH) (l : Launch) (hl0 : l.stackTraces = false) (p0 : Nat) (p1 : Int32) (u : HS) : CtX mkU t G l yX1_aPlace cX1_aPlace 2 none 9 [.ref p0, .int p1] u (hX1_aPlace p0 p1 u) := by
  refine ctX_of [(0, .ref p0), (1, .int p1)] hl0 rfl (Nat.le_of_ble_eq_true rfl) rfl (fun K1 K2 p e s m args below meth c C => ?_)
  unfold hX1_aPlace
  refine v_iload_n C.1.1 1 rfl rfl dX1_aPlace_0 ?_
  refine v_iconst C.1.1 0 (by decide) dX1_aPlace_1 ?_
  refine v_aload_n C.1.1 0 rfl rfl dX1_aPlace_2 ?_
  refine v_chk (fun h1 => ?_)
  refine v_hget C.1 (v := va_rf (hR u p0 2)) 0 2 (eq_of_beq h1) (by decide) rfl in_X1 (by decide) (Or.inl q311) (fun _ h => h) (hF_r (ci := 0) (eq_of_beq h1) (by decide)) dX1_aPlace_3 ?_
  refine v_deref (fun a2 e3 => ?_)
  refine v_chk (fun h4 => ?_)
  refine v_hget C.1 (v := va_rf (hR u a2 0)) 1 0 (eq_of_beq h4) (by decide) rfl in_X2 (by decide) (Or.inr ⟨_, q197⟩) (fun _ h => h) (hF_r (ci := 1) (eq_of_beq h4) (by decide)) dX1_aPlace_6 ?_
  refine v_deref (fun a5 e6 => ?_)
  refine v_chk (fun h9 => ?_)
  refine v_callFH C.1 [] [.int 0, .int p1] (ctJ2_size t G l hl0 a5 u) (fun _ _ => cwJ2_sizeF C.1 q453 (by decide)) (eq_of_beq h9) (by decide) rfl rfl rfl (by exact Nat.le_of_ble_eq_true rfl) dX1_aPlace_9 (fun r8 u7 => ?_)
  refine v_iconst C.1.1 1 (by decide) dX1_aPlace_14 ?_
  refine v_isub C.1.1 dX1_aPlace_15 ?_
  refine v_callSH C.1 [.int p1, .int 0, .int (r8 - 1)] [] (ctX1_in t G l hl0 p1 0 (r8 - 1) u7) (fun _ _ => cwX1_in C.1 q366 (by decide)) rfl rfl (by exact Nat.le_of_ble_eq_true rfl) dX1_aPlace_16 (fun r11 u10 => ?_)
  refine v_callSX C [.int r11] [] (ctX1_found t G l hl0 r11 u10) (fun _ _ => cwX1_found C.1 q1324 (by decide)) rfl rfl (by exact Nat.le_of_ble_eq_true rfl) dX1_aPlace_19 (fun _ u12 => ?_)
  exact v_xvret C.1 dX1_aPlace_22
theorem cwX1_aPlace {t : TT} {G : GH} {l : Launch} {p : Program} {s : State} {m : MethodId} {args : Array Value} {meth : Method} {c : Code} {y0 : MethodName} {cc0 : ByteArray} {nL0 : Nat} {ret0 : Option FieldType} (C : CxH t G l p s m args meth c y0 cc0 nL0 ret0) {index lv mc ms K1 K2 : Nat} (hq : Cond.methodLink y0.cls index yX1_aPlace ∈ lw_all) (hR : 9 + 1 ≤ lv) : CallW (rmH lv K1 K2) s args y0.cls RX1 index yX1_aPlace cX1_aPlace 2 none (ws_ yX1_aPlace cX1_aPlace 2 none) (rmH 9 mc ms) mc ms 1 :=
  cwV 1 C.1.2.2.2.2.1 (lw_V hq q1365 qs41 q121 q1366) rfl rfl rfl (by decide +kernel) ⟨hR, by show 8 + (2 + 11) + 100 * 9 ≤ 100 * lv; omega⟩
def hX7_from (p0 : Nat) (p1 : Int32) (u : HS) : Option (OH Int32) :=
  mchk (hC u p0 == 7) <|
  if p1 = (hI u p0 0) then
    mchk (hC u p0 == 7) <|
    hret (hI u p0 1) u
  else
    mchk (hC u p0 == 7) <|
    if p1 = (hI u p0 1) then
      mchk (hC u p0 == 7) <|
      hret (hI u p0 0) u
    else
      hret (-1) u
theorem ctX7_from (t : TT) (G : GH) (l : Launch) (hl0 : l.stackTraces = false) (p0 : Nat) (p1 : Int32) (u : HS) : CtH mkI t G l yX7_from cX7_from 2 (some .int) 2 [.ref p0, .int p1] u (hX7_from p0 p1 u) := by
  refine ctH_of [(0, .ref p0), (1, .int p1)] hl0 rfl (Nat.le_of_ble_eq_true rfl) rfl (fun K1 K2 p e s m args below meth c C => ?_)
  unfold hX7_from
  refine v_iload_n C.1 1 rfl rfl dX7_from_0 ?_
  refine v_aload_n C.1 0 rfl rfl dX7_from_1 ?_
  refine v_chk (fun h1 => ?_)
  refine v_hget C (v := .int (hI u p0 0)) 6 0 (eq_of_beq h1) (by decide) rfl in_X7 (by decide) (Or.inl q1089) (fun _ h => h) (hF_i (ci := 6) (eq_of_beq h1) (by decide)) dX7_from_2 ?_
  refine v_icmp_ne C.1 15 (by decide) dX7_from_5 (fun _ => ?_) (fun _ => ?_)
  · refine v_aload_n C.1 0 rfl rfl dX7_from_8 ?_
    refine v_chk (fun h2 => ?_)
    refine v_hget C (v := .int (hI u p0 1)) 6 1 (eq_of_beq h2) (by decide) rfl in_X7 (by decide) (Or.inl q1091) (fun _ h => h) (hF_i (ci := 6) (eq_of_beq h2) (by decide)) dX7_from_9 ?_
    refine v_goto C.1 31 (by decide) dX7_from_12 ?_
    exact v_hiret C dX7_from_31
  · refine v_iload_n C.1 1 rfl rfl dX7_from_15 ?_
    refine v_aload_n C.1 0 rfl rfl dX7_from_16 ?_
    refine v_chk (fun h2 => ?_)
    refine v_hget C (v := .int (hI u p0 1)) 6 1 (eq_of_beq h2) (by decide) rfl in_X7 (by decide) (Or.inl q1091) (fun _ h => h) (hF_i (ci := 6) (eq_of_beq h2) (by decide)) dX7_from_17 ?_
    refine v_icmp_ne C.1 30 (by decide) dX7_from_20 (fun _ => ?_) (fun _ => ?_)
    · refine v_aload_n C.1 0 rfl rfl dX7_from_23 ?_
      refine v_chk (fun h3 => ?_)
      refine v_hget C (v := .int (hI u p0 0)) 6 0 (eq_of_beq h3) (by decide) rfl in_X7 (by decide) (Or.inl q1089) (fun _ h => h) (hF_i (ci := 6) (eq_of_beq h3) (by decide)) dX7_from_24 ?_
      refine v_goto C.1 31 (by decide) dX7_from_27 ?_
      exact v_hiret C dX7_from_31
    · refine v_iconst C.1 (-1) (by decide) dX7_from_30 ?_
      exact v_hiret C dX7_from_31
theorem cwX7_from {t : TT} {G : GH} {l : Launch} {p : Program} {s : State} {m : MethodId} {args : Array Value} {meth : Method} {c : Code} {y0 : MethodName} {cc0 : ByteArray} {nL0 : Nat} {ret0 : Option FieldType} (C : CxH t G l p s m args meth c y0 cc0 nL0 ret0) {index lv mc ms K1 K2 : Nat} (hq : Cond.methodLink y0.cls index yX7_from ∈ lw_all) (hR : 2 + 1 ≤ lv) : CallW (rmH lv K1 K2) s args y0.cls RX7 index yX7_from cX7_from 2 (some .int) (ws_ yX7_from cX7_from 2 (some .int)) (rmH 2 mc ms) mc ms 1 :=
  cwV 1 C.1.2.2.2.2.1 (lw_V hq q1080 q1081 q147 q1082) rfl rfl rfl (by decide +kernel) ⟨hR, by show 8 + (2 + 11) + 100 * 2 ≤ 100 * lv; omega⟩
def hX1_place_86 (p0 : Nat) (p1 : Int32) (p2 : Int32) (k : Int32 → Int32 → HS → Option (OH (PX Int32))) (x3 : Int32) (x4 : Int32) (u : HS) : Option (OH (PX Int32)) :=
  mchk (hC u p0 == 1) <|
  mderef (hR u p0 2) fun a2 =>
  mchk (hC u a2 == 2) <|
  mderef (hR u a2 2) fun a5 =>
  mchk (hC u a5 == 12) <|
  hb (hJ2_size a5 u) fun r8 u7 =>
  if r8 ≤ x4 then
    hret (.inl x3) u7
  else
    if p2 = 2 then
      mchk (hC u7 p0 == 1) <|
      mderef (hR u7 p0 2) fun a11 =>
      mchk (hC u7 a11 == 2) <|
      mderef (hR u7 a11 2) fun a14 =>
      mchk (hC u7 a14 == 12) <|
      hb (hJ2_get a14 x4 u7) fun r17 u16 =>
      mchk (hC u16 r17 == 7) <|
      mchk (hC u16 r17 == 7) <|
      hb (hX7_from r17 p1 u16) fun r21 u20 =>
      if r21 = (-1) then
        k x3 (x4 + 1) u20
      else
        k (x3 + 1) (x4 + 1) u20
    else
      hret (.inl x3) u7
theorem whX1_place_86 {K1 K2 : Nat} {p : Program} {e : Env} {s : State} {m : MethodId} {args : Array Value} {below : List Frame} {meth : Method} {c : Code} (hl0 : l.stackTraces = false) (C : CxX t G l p s m args meth c yX1_place cX1_place 5 (some .int)) (p0 : Nat) (p1 : Int32) (p2 : Int32) (n : Nat) (x3 : Int32) (x4 : Int32) (u : HS) : VX mkI t G p l e 10 K1 K2 s m args below meth c 5 86 [(0, .ref p0), (1, .int p1), (2, .int p2), (3, .int x3), (4, .int x4)] [] u (ml2 (hX1_place_86 p0 p1 p2) n x3 x4 u) := by
  refine vl2 (L := fun x3 x4 => [(0, .ref p0), (1, .int p1), (2, .int p2), (3, .int x3), (4, .int x4)]) (fun k hk x3 x4 u => ?_) n x3 x4 u
  unfold hX1_place_86
  refine v_iload C.1.1 4 rfl dX1_place_86 ?_
  refine v_aload_n C.1.1 0 rfl rfl dX1_place_88 ?_
  refine v_chk (fun h1 => ?_)
  refine v_hget C.1 (v := va_rf (hR u p0 2)) 0 2 (eq_of_beq h1) (by decide) rfl in_X1 (by decide) (Or.inl q311) (fun _ h => h) (hF_r (ci := 0) (eq_of_beq h1) (by decide)) dX1_place_89 ?_
  refine v_deref (fun a2 e3 => ?_)
  refine v_chk (fun h4 => ?_)
  refine v_hget C.1 (v := va_rf (hR u a2 2)) 1 2 (eq_of_beq h4) (by decide) rfl in_X2 (by decide) (Or.inr ⟨_, q205⟩) (fun _ h => h) (hF_r (ci := 1) (eq_of_beq h4) (by decide)) dX1_place_92 ?_
  refine v_deref (fun a5 e6 => ?_)
  refine v_chk (fun h9 => ?_)
  refine v_callFH C.1 [] [.int x4] (ctJ2_size t G l hl0 a5 u) (fun _ _ => cwJ2_sizeF C.1 q453 (by decide)) (eq_of_beq h9) (by decide) rfl rfl rfl (by exact Nat.le_of_ble_eq_true rfl) dX1_place_95 (fun r8 u7 => ?_)
  refine v_icmp_ge C.1.1 142 (by decide) dX1_place_100 (fun _ => ?_) (fun _ => ?_)
  · refine v_iload_n C.1.1 3 rfl rfl dX1_place_142 ?_
    exact v_xiret C.1 dX1_place_143
  · refine v_iload_n C.1.1 2 rfl rfl dX1_place_103 ?_
    refine v_iconst C.1.1 2 (by decide) dX1_place_104 ?_
    refine v_icmp_ne C.1.1 142 (by decide) dX1_place_105 (fun _ => ?_) (fun _ => ?_)
    · refine v_aload_n C.1.1 0 rfl rfl dX1_place_108 ?_
      refine v_chk (fun h10 => ?_)
      refine v_hget C.1 (v := va_rf (hR u7 p0 2)) 0 2 (eq_of_beq h10) (by decide) rfl in_X1 (by decide) (Or.inl q311) (fun _ h => h) (hF_r (ci := 0) (eq_of_beq h10) (by decide)) dX1_place_109 ?_
      refine v_deref (fun a11 e12 => ?_)
      refine v_chk (fun h13 => ?_)
      refine v_hget C.1 (v := va_rf (hR u7 a11 2)) 1 2 (eq_of_beq h13) (by decide) rfl in_X2 (by decide) (Or.inr ⟨_, q205⟩) (fun _ h => h) (hF_r (ci := 1) (eq_of_beq h13) (by decide)) dX1_place_112 ?_
      refine v_deref (fun a14 e15 => ?_)
      refine v_iload C.1.1 4 rfl dX1_place_115 ?_
      refine v_chk (fun h18 => ?_)
      refine v_callFH C.1 [.int x4] [] (ctJ2_get t G l hl0 a14 x4 u7) (fun _ _ => cwJ2_getF C.1 q1368 (by decide)) (eq_of_beq h18) (by decide) rfl rfl rfl (by exact Nat.le_of_ble_eq_true rfl) dX1_place_117 (fun r17 u16 => ?_)
      refine v_chk (fun h19 => ?_)
      refine v_hcastS C.1 6 (eq_of_beq h19) (by decide) rfl q1371 dX1_place_122 ?_
      refine v_iload_n C.1.1 1 rfl rfl dX1_place_125 ?_
      refine v_chk (fun h22 => ?_)
      refine v_callVH C.1 [.int p1] [] (ctX7_from t G l hl0 r17 p1 u16) (fun _ _ => cwX7_from C.1 q1372 (by decide)) (recO C.1 (ci := 6) (eq_of_beq h22) (by decide) rfl) rfl rfl (by exact Nat.le_of_ble_eq_true rfl) dX1_place_126 (fun r21 u20 => ?_)
      refine v_iconst C.1.1 (-1) (by decide) dX1_place_129 ?_
      refine v_icmp_eq C.1.1 136 (by decide) dX1_place_130 (fun _ => ?_) (fun _ => ?_)
      · refine v_iinc C.1.1 1 [(4, .int (x4 + 1)), (0, .ref p0), (1, .int p1), (2, .int p2), (3, .int x3)] 4 rfl (by decide) (by decide) rfl dX1_place_136 ?_
        refine v_goto C.1.1 86 (by decide) dX1_place_139 ?_
        refine v_sub [1, 2, 3, 4, 0] rfl ?_
        exact hk x3 (x4 + 1) u20
      · refine v_iinc C.1.1 1 [(3, .int (x3 + 1)), (0, .ref p0), (1, .int p1), (2, .int p2), (4, .int x4)] 3 rfl (by decide) (by decide) rfl dX1_place_133 ?_
        refine v_iinc C.1.1 1 [(4, .int (x4 + 1)), (3, .int (x3 + 1)), (0, .ref p0), (1, .int p1), (2, .int p2)] 4 rfl (by decide) (by decide) rfl dX1_place_136 ?_
        refine v_goto C.1.1 86 (by decide) dX1_place_139 ?_
        refine v_sub [2, 3, 4, 1, 0] rfl ?_
        exact hk (x3 + 1) (x4 + 1) u20
    · refine v_iload_n C.1.1 3 rfl rfl dX1_place_142 ?_
      exact v_xiret C.1 dX1_place_143
def hX1_place_39 (p0 : Nat) (p1 : Int32) (p2 : Int32) (k : Int32 → Int32 → HS → Option (OH (PX Int32))) (x3 : Int32) (x4 : Int32) (u : HS) : Option (OH (PX Int32)) :=
  mchk (hC u p0 == 1) <|
  mderef (hR u p0 2) fun a2 =>
  mchk (hC u a2 == 2) <|
  hb (hX2_people a2 u) fun r5 u4 =>
  if r5 ≤ x4 then
    ml2 (hX1_place_86 p0 p1 p2) FUEL x3 0 u4
  else
    if p2 = 1 then
      mchk (hC u4 p0 == 1) <|
      mderef (hR u4 p0 3) fun a8 =>
      mchk (hC u4 a8 == 3) <|
      mderef (hR u4 a8 2) fun a11 =>
      mchk (inA u4 x4 a11 21) <|
      if (hA u4 a11 x4.toNatClampNeg) = p1 then
        mlet (x3 ||| ((1 : Int32) <<< (x4 &&& 31))) fun v14 =>
        k v14 (x4 + 1) u4
      else
        k x3 (x4 + 1) u4
    else
      ml2 (hX1_place_86 p0 p1 p2) FUEL x3 0 u4
theorem whX1_place_39 {K1 K2 : Nat} {p : Program} {e : Env} {s : State} {m : MethodId} {args : Array Value} {below : List Frame} {meth : Method} {c : Code} (hl0 : l.stackTraces = false) (C : CxX t G l p s m args meth c yX1_place cX1_place 5 (some .int)) (p0 : Nat) (p1 : Int32) (p2 : Int32) (n : Nat) (x3 : Int32) (x4 : Int32) (u : HS) : VX mkI t G p l e 10 K1 K2 s m args below meth c 5 39 [(0, .ref p0), (1, .int p1), (2, .int p2), (3, .int x3), (4, .int x4)] [] u (ml2 (hX1_place_39 p0 p1 p2) n x3 x4 u) := by
  refine vl2 (L := fun x3 x4 => [(0, .ref p0), (1, .int p1), (2, .int p2), (3, .int x3), (4, .int x4)]) (fun k hk x3 x4 u => ?_) n x3 x4 u
  unfold hX1_place_39
  refine v_iload C.1.1 4 rfl dX1_place_39 ?_
  refine v_aload_n C.1.1 0 rfl rfl dX1_place_41 ?_
  refine v_chk (fun h1 => ?_)
  refine v_hget C.1 (v := va_rf (hR u p0 2)) 0 2 (eq_of_beq h1) (by decide) rfl in_X1 (by decide) (Or.inl q311) (fun _ h => h) (hF_r (ci := 0) (eq_of_beq h1) (by decide)) dX1_place_42 ?_
  refine v_deref (fun a2 e3 => ?_)
  refine v_chk (fun h6 => ?_)
  refine v_callVH C.1 [] [.int x4] (ctX2_people t G l hl0 a2 u) (fun _ _ => cwX2_people C.1 q717 (by decide)) (recO C.1 (ci := 1) (eq_of_beq h6) (by decide) rfl) rfl rfl (by exact Nat.le_of_ble_eq_true rfl) dX1_place_45 (fun r5 u4 => ?_)
  refine v_icmp_ge C.1.1 83 (by decide) dX1_place_48 (fun _ => ?_) (fun _ => ?_)
  · refine v_iconst C.1.1 0 (by decide) dX1_place_83 ?_
    refine v_istore C.1.1 [(4, .int 0), (0, .ref p0), (1, .int p1), (2, .int p2), (3, .int x3)] (by decide) rfl dX1_place_84 ?_
    refine v_sub [1, 2, 3, 4, 0] rfl ?_
    exact whX1_place_86 hl0 C p0 p1 p2 FUEL x3 0 u4
  · refine v_iload_n C.1.1 2 rfl rfl dX1_place_51 ?_
    refine v_iconst C.1.1 1 (by decide) dX1_place_52 ?_
    refine v_icmp_ne C.1.1 83 (by decide) dX1_place_53 (fun _ => ?_) (fun _ => ?_)
    · refine v_aload_n C.1.1 0 rfl rfl dX1_place_56 ?_
      refine v_chk (fun h7 => ?_)
      refine v_hget C.1 (v := va_rf (hR u4 p0 3)) 0 3 (eq_of_beq h7) (by decide) rfl in_X1 (by decide) (Or.inl q312) (fun _ h => h) (hF_r (ci := 0) (eq_of_beq h7) (by decide)) dX1_place_57 ?_
      refine v_deref (fun a8 e9 => ?_)
      refine v_chk (fun h10 => ?_)
      refine v_hget C.1 (v := va_rf (hR u4 a8 2)) 2 2 (eq_of_beq h10) (by decide) rfl in_X3 (by decide) (Or.inr ⟨_, q259⟩) (fun _ h => h) (hF_r (ci := 2) (eq_of_beq h10) (by decide)) dX1_place_60 ?_
      refine v_deref (fun a11 e12 => ?_)
      refine v_iload C.1.1 4 rfl dX1_place_63 ?_
      refine v_chk (fun h13 => ?_)
      refine v_haiald C.1 h13 dX1_place_65 ?_
      refine v_iload_n C.1.1 1 rfl rfl dX1_place_66 ?_
      refine v_icmp_ne C.1.1 77 (by decide) dX1_place_67 (fun _ => ?_) (fun _ => ?_)
      · refine v_iload_n C.1.1 3 rfl rfl dX1_place_70 ?_
        refine v_iconst C.1.1 1 (by decide) dX1_place_71 ?_
        refine v_iload C.1.1 4 rfl dX1_place_72 ?_
        refine v_ishl C.1.1 dX1_place_74 ?_
        refine v_ior C.1.1 dX1_place_75 ?_
        refine v_topi (fun v14 => ?_)
        refine v_istore_n C.1.1 [(3, .int v14), (0, .ref p0), (1, .int p1), (2, .int p2), (4, .int x4)] rfl (by decide) rfl dX1_place_76 ?_
        refine v_iinc C.1.1 1 [(4, .int (x4 + 1)), (3, .int v14), (0, .ref p0), (1, .int p1), (2, .int p2)] 4 rfl (by decide) (by decide) rfl dX1_place_77 ?_
        refine v_goto C.1.1 39 (by decide) dX1_place_80 ?_
        refine v_sub [2, 3, 4, 1, 0] rfl ?_
        exact hk v14 (x4 + 1) u4
      · refine v_iinc C.1.1 1 [(4, .int (x4 + 1)), (0, .ref p0), (1, .int p1), (2, .int p2), (3, .int x3)] 4 rfl (by decide) (by decide) rfl dX1_place_77 ?_
        refine v_goto C.1.1 39 (by decide) dX1_place_80 ?_
        refine v_sub [1, 2, 3, 4, 0] rfl ?_
        exact hk x3 (x4 + 1) u4
    · refine v_iconst C.1.1 0 (by decide) dX1_place_83 ?_
      refine v_istore C.1.1 [(4, .int 0), (0, .ref p0), (1, .int p1), (2, .int p2), (3, .int x3)] (by decide) rfl dX1_place_84 ?_
      refine v_sub [1, 2, 3, 4, 0] rfl ?_
      exact whX1_place_86 hl0 C p0 p1 p2 FUEL x3 0 u4
def hX1_place (p0 : Nat) (p1 : Int32) (p2 : Int32) (u : HS) : Option (OH (PX Int32)) :=
  mchk (hC u p0 == 1) <|
  hx (hX1_aPlace p0 p1 u) fun _ u1 =>
  hx (hX1_oneOf p2 2 u1) fun _ u3 =>
  if p2 = 0 then
    mchk (hC u3 p0 == 1) <|
    mderef (hR u3 p0 2) fun a5 =>
    mchk (hC u3 a5 == 2) <|
    mderef (hR u3 a5 0) fun a8 =>
    mchk (hC u3 a8 == 12) <|
    hb (hJ2_get a8 p1 u3) fun r11 u10 =>
    mchk (hC u10 r11 == 31) <|
    mchk (hC u10 r11 == 31) <|
    hb (hJ16_intValue r11 u10) fun r15 u14 =>
    hret (.inl r15) u14
  else
    ml2 (hX1_place_39 p0 p1 p2) FUEL 0 0 u3
theorem ctX1_place (t : TT) (G : GH) (l : Launch) (hl0 : l.stackTraces = false) (p0 : Nat) (p1 : Int32) (p2 : Int32) (u : HS) : CtX mkI t G l yX1_place cX1_place 5 (some .int) 10 [.ref p0, .int p1, .int p2] u (hX1_place p0 p1 p2 u) := by
  refine ctX_of [(0, .ref p0), (1, .int p1), (2, .int p2)] hl0 rfl (Nat.le_of_ble_eq_true rfl) rfl (fun K1 K2 p e s m args below meth c C => ?_)
  unfold hX1_place
  refine v_aload_n C.1.1 0 rfl rfl dX1_place_0 ?_
  refine v_iload_n C.1.1 1 rfl rfl dX1_place_1 ?_
  refine v_chk (fun h2 => ?_)
  refine v_callVX C [.int p1] [] (ctX1_aPlace t G l hl0 p0 p1 u) (fun _ _ => cwX1_aPlace C.1 q1363 (by decide)) (recO C.1 (ci := 0) (eq_of_beq h2) (by decide) rfl) rfl rfl (by exact Nat.le_of_ble_eq_true rfl) dX1_place_2 (fun _ u1 => ?_)
  refine v_iload_n C.1.1 2 rfl rfl dX1_place_5 ?_
  refine v_iconst C.1.1 2 (by decide) dX1_place_6 ?_
  refine v_callSX C [.int p2, .int 2] [] (ctX1_oneOf t G l hl0 p2 2 u1) (fun _ _ => cwX1_oneOf C.1 q1353 (by decide)) rfl rfl (by exact Nat.le_of_ble_eq_true rfl) dX1_place_7 (fun _ u3 => ?_)
  refine v_iload_n C.1.1 2 rfl rfl dX1_place_10 ?_
  refine v_if_ne C.1.1 34 (by decide) dX1_place_11 (fun _ => ?_) (fun _ => ?_)
  · refine v_aload_n C.1.1 0 rfl rfl dX1_place_14 ?_
    refine v_chk (fun h4 => ?_)
    refine v_hget C.1 (v := va_rf (hR u3 p0 2)) 0 2 (eq_of_beq h4) (by decide) rfl in_X1 (by decide) (Or.inl q311) (fun _ h => h) (hF_r (ci := 0) (eq_of_beq h4) (by decide)) dX1_place_15 ?_
    refine v_deref (fun a5 e6 => ?_)
    refine v_chk (fun h7 => ?_)
    refine v_hget C.1 (v := va_rf (hR u3 a5 0)) 1 0 (eq_of_beq h7) (by decide) rfl in_X2 (by decide) (Or.inr ⟨_, q197⟩) (fun _ h => h) (hF_r (ci := 1) (eq_of_beq h7) (by decide)) dX1_place_18 ?_
    refine v_deref (fun a8 e9 => ?_)
    refine v_iload_n C.1.1 1 rfl rfl dX1_place_21 ?_
    refine v_chk (fun h12 => ?_)
    refine v_callFH C.1 [.int p1] [] (ctJ2_get t G l hl0 a8 p1 u3) (fun _ _ => cwJ2_getF C.1 q1368 (by decide)) (eq_of_beq h12) (by decide) rfl rfl rfl (by exact Nat.le_of_ble_eq_true rfl) dX1_place_22 (fun r11 u10 => ?_)
    refine v_chk (fun h13 => ?_)
    refine v_hcastB C.1 (eq_of_beq h13) q1369 dX1_place_27 ?_
    refine v_chk (fun h16 => ?_)
    refine v_callVH C.1 [] [] (ctJ16_intValue t G l hl0 r11 u10) (fun _ _ => cwJ16_intValue C.1 q1370 (by decide)) (recB C.1 (eq_of_beq h16)) rfl rfl (by exact Nat.le_of_ble_eq_true rfl) dX1_place_30 (fun r15 u14 => ?_)
    exact v_xiret C.1 dX1_place_33
  · refine v_iconst C.1.1 0 (by decide) dX1_place_34 ?_
    refine v_istore_n C.1.1 [(3, .int 0), (0, .ref p0), (1, .int p1), (2, .int p2)] rfl (by decide) rfl dX1_place_35 ?_
    refine v_iconst C.1.1 0 (by decide) dX1_place_36 ?_
    refine v_istore C.1.1 [(4, .int 0), (3, .int 0), (0, .ref p0), (1, .int p1), (2, .int p2)] (by decide) rfl dX1_place_37 ?_
    refine v_sub [2, 3, 4, 1, 0] rfl ?_
    exact whX1_place_39 hl0 C p0 p1 p2 FUEL 0 0 u3
theorem cwX1_place {t : TT} {G : GH} {l : Launch} {p : Program} {s : State} {m : MethodId} {args : Array Value} {meth : Method} {c : Code} {y0 : MethodName} {cc0 : ByteArray} {nL0 : Nat} {ret0 : Option FieldType} (C : CxH t G l p s m args meth c y0 cc0 nL0 ret0) {index lv mc ms K1 K2 : Nat} (hq : Cond.methodLink y0.cls index yX1_place ∈ lw_all) (hR : 10 + 1 ≤ lv) : CallW (rmH lv K1 K2) s args y0.cls RX1 index yX1_place cX1_place 5 (some .int) (ws_ yX1_place cX1_place 5 (some .int)) (rmH 10 mc ms) mc ms 2 :=
  cwV 2 C.1.2.2.2.2.1 (lw_V hq q1360 q1361 q121 q1362) rfl rfl rfl (by decide +kernel) ⟨hR, by show 8 + (5 + 11) + 100 * 10 ≤ 100 * lv; omega⟩
def hX1_aPerson (p0 : Nat) (p1 : Int32) (u : HS) : Option (OH (PX Unit)) :=
  mchk (hC u p0 == 1) <|
  mderef (hR u p0 2) fun a2 =>
  mchk (hC u a2 == 2) <|
  hb (hX2_people a2 u) fun r5 u4 =>
  hb (hX1_in p1 0 (r5 - 1) u4) fun r8 u7 =>
  hx (hX1_found r8 u7) fun _ u9 =>
  hret (.inl ()) u9
theorem ctX1_aPerson (t : TT) (G : GH) (l : Launch) (hl0 : l.stackTraces = false) (p0 : Nat) (p1 : Int32) (u : HS) : CtX mkU t G l yX1_aPerson cX1_aPerson 2 none 9 [.ref p0, .int p1] u (hX1_aPerson p0 p1 u) := by
  refine ctX_of [(0, .ref p0), (1, .int p1)] hl0 rfl (Nat.le_of_ble_eq_true rfl) rfl (fun K1 K2 p e s m args below meth c C => ?_)
  unfold hX1_aPerson
  refine v_iload_n C.1.1 1 rfl rfl dX1_aPerson_0 ?_
  refine v_iconst C.1.1 0 (by decide) dX1_aPerson_1 ?_
  refine v_aload_n C.1.1 0 rfl rfl dX1_aPerson_2 ?_
  refine v_chk (fun h1 => ?_)
  refine v_hget C.1 (v := va_rf (hR u p0 2)) 0 2 (eq_of_beq h1) (by decide) rfl in_X1 (by decide) (Or.inl q311) (fun _ h => h) (hF_r (ci := 0) (eq_of_beq h1) (by decide)) dX1_aPerson_3 ?_
  refine v_deref (fun a2 e3 => ?_)
  refine v_chk (fun h6 => ?_)
  refine v_callVH C.1 [] [.int 0, .int p1] (ctX2_people t G l hl0 a2 u) (fun _ _ => cwX2_people C.1 q717 (by decide)) (recO C.1 (ci := 1) (eq_of_beq h6) (by decide) rfl) rfl rfl (by exact Nat.le_of_ble_eq_true rfl) dX1_aPerson_6 (fun r5 u4 => ?_)
  refine v_iconst C.1.1 1 (by decide) dX1_aPerson_9 ?_
  refine v_isub C.1.1 dX1_aPerson_10 ?_
  refine v_callSH C.1 [.int p1, .int 0, .int (r5 - 1)] [] (ctX1_in t G l hl0 p1 0 (r5 - 1) u4) (fun _ _ => cwX1_in C.1 q366 (by decide)) rfl rfl (by exact Nat.le_of_ble_eq_true rfl) dX1_aPerson_11 (fun r8 u7 => ?_)
  refine v_callSX C [.int r8] [] (ctX1_found t G l hl0 r8 u7) (fun _ _ => cwX1_found C.1 q1324 (by decide)) rfl rfl (by exact Nat.le_of_ble_eq_true rfl) dX1_aPerson_14 (fun _ u9 => ?_)
  exact v_xvret C.1 dX1_aPerson_17
theorem cwX1_aPerson {t : TT} {G : GH} {l : Launch} {p : Program} {s : State} {m : MethodId} {args : Array Value} {meth : Method} {c : Code} {y0 : MethodName} {cc0 : ByteArray} {nL0 : Nat} {ret0 : Option FieldType} (C : CxH t G l p s m args meth c y0 cc0 nL0 ret0) {index lv mc ms K1 K2 : Nat} (hq : Cond.methodLink y0.cls index yX1_aPerson ∈ lw_all) (hR : 9 + 1 ≤ lv) : CallW (rmH lv K1 K2) s args y0.cls RX1 index yX1_aPerson cX1_aPerson 2 none (ws_ yX1_aPerson cX1_aPerson 2 none) (rmH 9 mc ms) mc ms 1 :=
  cwV 1 C.1.2.2.2.2.1 (lw_V hq q1382 qs42 q121 q1383) rfl rfl rfl (by decide +kernel) ⟨hR, by show 8 + (2 + 11) + 100 * 9 ≤ 100 * lv; omega⟩
def hX1_person_110 (p0 : Nat) (p1 : Int32) (p2 : Int32) (s0 : Int32) (u : HS) : Option (OH (PX Int32)) :=
  hx (hX1_found s0 u) fun _ u1 =>
  mchk (hC u1 p0 == 1) <|
  mderef (hR u1 p0 3) fun a3 =>
  mchk (hC u1 a3 == 3) <|
  hb (hX3_price a3 p1 u1) fun r6 u5 =>
  hret (.inl r6) u5
theorem whX1_person_110 {K1 K2 : Nat} {p : Program} {e : Env} {s : State} {m : MethodId} {args : Array Value} {below : List Frame} {meth : Method} {c : Code} (hl0 : l.stackTraces = false) (C : CxX t G l p s m args meth c yX1_person cX1_person 3 (some .int)) (p0 : Nat) (p1 : Int32) (p2 : Int32) (s0 : Int32) (u : HS) : VX mkI t G p l e 10 K1 K2 s m args below meth c 3 110 [(0, .ref p0), (1, .int p1)] [.int s0] u (hX1_person_110 p0 p1 p2 s0 u) := by
  unfold hX1_person_110
  refine v_callSX C [.int s0] [] (ctX1_found t G l hl0 s0 u) (fun _ _ => cwX1_found C.1 q1324 (by decide)) rfl rfl (by exact Nat.le_of_ble_eq_true rfl) dX1_person_110 (fun _ u1 => ?_)
  refine v_aload_n C.1.1 0 rfl rfl dX1_person_113 ?_
  refine v_chk (fun h2 => ?_)
  refine v_hget C.1 (v := va_rf (hR u1 p0 3)) 0 3 (eq_of_beq h2) (by decide) rfl in_X1 (by decide) (Or.inl q312) (fun _ h => h) (hF_r (ci := 0) (eq_of_beq h2) (by decide)) dX1_person_114 ?_
  refine v_deref (fun a3 e4 => ?_)
  refine v_iload_n C.1.1 1 rfl rfl dX1_person_117 ?_
  refine v_chk (fun h7 => ?_)
  refine v_callVH C.1 [.int p1] [] (ctX3_price t G l hl0 a3 p1 u1) (fun _ _ => cwX3_price C.1 q1384 (by decide)) (recO C.1 (ci := 2) (eq_of_beq h7) (by decide) rfl) rfl rfl (by exact Nat.le_of_ble_eq_true rfl) dX1_person_118 (fun r6 u5 => ?_)
  exact v_xiret C.1 dX1_person_121
def hX1_person (p0 : Nat) (p1 : Int32) (p2 : Int32) (u : HS) : Option (OH (PX Int32)) :=
  mchk (hC u p0 == 1) <|
  hx (hX1_aPerson p0 p1 u) fun _ u1 =>
  if p2 = 0 then
    mchk (hC u1 p0 == 1) <|
    mderef (hR u1 p0 2) fun a5 =>
    mchk (hC u1 a5 == 2) <|
    mderef (hR u1 a5 1) fun a8 =>
    mchk (hC u1 a8 == 12) <|
    hb (hJ2_get a8 p1 u1) fun r11 u10 =>
    mchk (hC u10 r11 == 31) <|
    mchk (hC u10 r11 == 31) <|
    hb (hJ16_intValue r11 u10) fun r15 u14 =>
    hret (.inl r15) u14
  else
    if p2 = 1 then
      mchk (hC u1 p0 == 1) <|
      mderef (hR u1 p0 3) fun a6 =>
      mchk (hC u1 a6 == 3) <|
      mderef (hR u1 a6 2) fun a9 =>
      mchk (inA u1 p1 a9 21) <|
      hret (.inl (hA u1 a9 p1.toNatClampNeg)) u1
    else
      if p2 = 2 then
        mchk (hC u1 p0 == 1) <|
        mderef (hR u1 p0 2) fun a7 =>
        mchk (hC u1 a7 == 2) <|
        mderef (hR u1 a7 3) fun a10 =>
        mchk (inA u1 p1 a10 21) <|
        hret (.inl (hA u1 a10 p1.toNatClampNeg)) u1
      else
        if p2 = 3 then
          mchk (hC u1 p0 == 1) <|
          mderef (hR u1 p0 3) fun a8 =>
          mchk (hC u1 a8 == 3) <|
          mderef (hR u1 a8 0) fun a11 =>
          mchk (inA u1 p1 a11 21) <|
          hret (.inl (hA u1 a11 p1.toNatClampNeg)) u1
        else
          if p2 = 4 then
            mchk (hC u1 p0 == 1) <|
            mderef (hR u1 p0 3) fun a9 =>
            mchk (hC u1 a9 == 3) <|
            mderef (hR u1 a9 1) fun a12 =>
            mchk (inA u1 p1 a12 21) <|
            hret (.inl (hA u1 a12 p1.toNatClampNeg)) u1
          else
            if p2 = 5 then
              hX1_person_110 p0 p1 p2 1 u1
            else
              hX1_person_110 p0 p1 p2 0 u1
theorem ctX1_person (t : TT) (G : GH) (l : Launch) (hl0 : l.stackTraces = false) (p0 : Nat) (p1 : Int32) (p2 : Int32) (u : HS) : CtX mkI t G l yX1_person cX1_person 3 (some .int) 10 [.ref p0, .int p1, .int p2] u (hX1_person p0 p1 p2 u) := by
  refine ctX_of [(0, .ref p0), (1, .int p1), (2, .int p2)] hl0 rfl (Nat.le_of_ble_eq_true rfl) rfl (fun K1 K2 p e s m args below meth c C => ?_)
  unfold hX1_person
  refine v_aload_n C.1.1 0 rfl rfl dX1_person_0 ?_
  refine v_iload_n C.1.1 1 rfl rfl dX1_person_1 ?_
  refine v_chk (fun h2 => ?_)
  refine v_callVX C [.int p1] [] (ctX1_aPerson t G l hl0 p0 p1 u) (fun _ _ => cwX1_aPerson C.1 q1380 (by decide)) (recO C.1 (ci := 0) (eq_of_beq h2) (by decide) rfl) rfl rfl (by exact Nat.le_of_ble_eq_true rfl) dX1_person_2 (fun _ u1 => ?_)
  refine v_iload_n C.1.1 2 rfl rfl dX1_person_5 ?_
  refine v_if (fun h3 => ?_) (fun h3 => ?_)
  · refine v_tableIn C.1.1 (34) 40 (by rw [h3]; decide) (by rw [h3]; decide) (by rw [h3]; rfl) (by decide) dX1_person_6 ?_
    refine v_aload_n C.1.1 0 rfl rfl dX1_person_40 ?_
    refine v_chk (fun h4 => ?_)
    refine v_hget C.1 (v := va_rf (hR u1 p0 2)) 0 2 (eq_of_beq h4) (by decide) rfl in_X1 (by decide) (Or.inl q311) (fun _ h => h) (hF_r (ci := 0) (eq_of_beq h4) (by decide)) dX1_person_41 ?_
    refine v_deref (fun a5 e6 => ?_)
    refine v_chk (fun h7 => ?_)
    refine v_hget C.1 (v := va_rf (hR u1 a5 1)) 1 1 (eq_of_beq h7) (by decide) rfl in_X2 (by decide) (Or.inr ⟨_, q202⟩) (fun _ h => h) (hF_r (ci := 1) (eq_of_beq h7) (by decide)) dX1_person_44 ?_
    refine v_deref (fun a8 e9 => ?_)
    refine v_iload_n C.1.1 1 rfl rfl dX1_person_47 ?_
    refine v_chk (fun h12 => ?_)
    refine v_callFH C.1 [.int p1] [] (ctJ2_get t G l hl0 a8 p1 u1) (fun _ _ => cwJ2_getF C.1 q1368 (by decide)) (eq_of_beq h12) (by decide) rfl rfl rfl (by exact Nat.le_of_ble_eq_true rfl) dX1_person_48 (fun r11 u10 => ?_)
    refine v_chk (fun h13 => ?_)
    refine v_hcastB C.1 (eq_of_beq h13) q1369 dX1_person_53 ?_
    refine v_chk (fun h16 => ?_)
    refine v_callVH C.1 [] [] (ctJ16_intValue t G l hl0 r11 u10) (fun _ _ => cwJ16_intValue C.1 q1370 (by decide)) (recB C.1 (eq_of_beq h16)) rfl rfl (by exact Nat.le_of_ble_eq_true rfl) dX1_person_56 (fun r15 u14 => ?_)
    exact v_xiret C.1 dX1_person_59
  · skip
    refine v_if (fun h4 => ?_) (fun h4 => ?_)
    · refine v_tableIn C.1.1 (54) 60 (by rw [h4]; decide) (by rw [h4]; decide) (by rw [h4]; rfl) (by decide) dX1_person_6 ?_
      refine v_aload_n C.1.1 0 rfl rfl dX1_person_60 ?_
      refine v_chk (fun h5 => ?_)
      refine v_hget C.1 (v := va_rf (hR u1 p0 3)) 0 3 (eq_of_beq h5) (by decide) rfl in_X1 (by decide) (Or.inl q312) (fun _ h => h) (hF_r (ci := 0) (eq_of_beq h5) (by decide)) dX1_person_61 ?_
      refine v_deref (fun a6 e7 => ?_)
      refine v_chk (fun h8 => ?_)
      refine v_hget C.1 (v := va_rf (hR u1 a6 2)) 2 2 (eq_of_beq h8) (by decide) rfl in_X3 (by decide) (Or.inr ⟨_, q259⟩) (fun _ h => h) (hF_r (ci := 2) (eq_of_beq h8) (by decide)) dX1_person_64 ?_
      refine v_deref (fun a9 e10 => ?_)
      refine v_iload_n C.1.1 1 rfl rfl dX1_person_67 ?_
      refine v_chk (fun h11 => ?_)
      refine v_haiald C.1 h11 dX1_person_68 ?_
      exact v_xiret C.1 dX1_person_69
    · skip
      refine v_if (fun h5 => ?_) (fun h5 => ?_)
      · refine v_tableIn C.1.1 (64) 70 (by rw [h5]; decide) (by rw [h5]; decide) (by rw [h5]; rfl) (by decide) dX1_person_6 ?_
        refine v_aload_n C.1.1 0 rfl rfl dX1_person_70 ?_
        refine v_chk (fun h6 => ?_)
        refine v_hget C.1 (v := va_rf (hR u1 p0 2)) 0 2 (eq_of_beq h6) (by decide) rfl in_X1 (by decide) (Or.inl q311) (fun _ h => h) (hF_r (ci := 0) (eq_of_beq h6) (by decide)) dX1_person_71 ?_
        refine v_deref (fun a7 e8 => ?_)
        refine v_chk (fun h9 => ?_)
        refine v_hget C.1 (v := va_rf (hR u1 a7 3)) 1 3 (eq_of_beq h9) (by decide) rfl in_X2 (by decide) (Or.inr ⟨_, q209⟩) (fun _ h => h) (hF_r (ci := 1) (eq_of_beq h9) (by decide)) dX1_person_74 ?_
        refine v_deref (fun a10 e11 => ?_)
        refine v_iload_n C.1.1 1 rfl rfl dX1_person_77 ?_
        refine v_chk (fun h12 => ?_)
        refine v_haiald C.1 h12 dX1_person_78 ?_
        exact v_xiret C.1 dX1_person_79
      · skip
        refine v_if (fun h6 => ?_) (fun h6 => ?_)
        · refine v_tableIn C.1.1 (74) 80 (by rw [h6]; decide) (by rw [h6]; decide) (by rw [h6]; rfl) (by decide) dX1_person_6 ?_
          refine v_aload_n C.1.1 0 rfl rfl dX1_person_80 ?_
          refine v_chk (fun h7 => ?_)
          refine v_hget C.1 (v := va_rf (hR u1 p0 3)) 0 3 (eq_of_beq h7) (by decide) rfl in_X1 (by decide) (Or.inl q312) (fun _ h => h) (hF_r (ci := 0) (eq_of_beq h7) (by decide)) dX1_person_81 ?_
          refine v_deref (fun a8 e9 => ?_)
          refine v_chk (fun h10 => ?_)
          refine v_hget C.1 (v := va_rf (hR u1 a8 0)) 2 0 (eq_of_beq h10) (by decide) rfl in_X3 (by decide) (Or.inr ⟨_, q255⟩) (fun _ h => h) (hF_r (ci := 2) (eq_of_beq h10) (by decide)) dX1_person_84 ?_
          refine v_deref (fun a11 e12 => ?_)
          refine v_iload_n C.1.1 1 rfl rfl dX1_person_87 ?_
          refine v_chk (fun h13 => ?_)
          refine v_haiald C.1 h13 dX1_person_88 ?_
          exact v_xiret C.1 dX1_person_89
        · skip
          refine v_if (fun h7 => ?_) (fun h7 => ?_)
          · refine v_tableIn C.1.1 (84) 90 (by rw [h7]; decide) (by rw [h7]; decide) (by rw [h7]; rfl) (by decide) dX1_person_6 ?_
            refine v_aload_n C.1.1 0 rfl rfl dX1_person_90 ?_
            refine v_chk (fun h8 => ?_)
            refine v_hget C.1 (v := va_rf (hR u1 p0 3)) 0 3 (eq_of_beq h8) (by decide) rfl in_X1 (by decide) (Or.inl q312) (fun _ h => h) (hF_r (ci := 0) (eq_of_beq h8) (by decide)) dX1_person_91 ?_
            refine v_deref (fun a9 e10 => ?_)
            refine v_chk (fun h11 => ?_)
            refine v_hget C.1 (v := va_rf (hR u1 a9 1)) 2 1 (eq_of_beq h11) (by decide) rfl in_X3 (by decide) (Or.inr ⟨_, q257⟩) (fun _ h => h) (hF_r (ci := 2) (eq_of_beq h11) (by decide)) dX1_person_94 ?_
            refine v_deref (fun a12 e13 => ?_)
            refine v_iload_n C.1.1 1 rfl rfl dX1_person_97 ?_
            refine v_chk (fun h14 => ?_)
            refine v_haiald C.1 h14 dX1_person_98 ?_
            exact v_xiret C.1 dX1_person_99
          · skip
            refine v_tableOut C.1.1 100 (by have := lv_neT (a := 0) h3 (by decide); have := lv_neT (a := 1) h4 (by decide); have := lv_neT (a := 2) h5 (by decide); have := lv_neT (a := 3) h6 (by decide); have := lv_neT (a := 4) h7 (by decide); omega) (by decide) dX1_person_6 ?_
            refine v_iload_n C.1.1 2 rfl rfl dX1_person_100 ?_
            refine v_iconst C.1.1 5 (by decide) dX1_person_101 ?_
            refine v_icmp_ne C.1.1 109 (by decide) dX1_person_102 (fun _ => ?_) (fun _ => ?_)
            · refine v_iconst C.1.1 1 (by decide) dX1_person_105 ?_
              refine v_goto C.1.1 110 (by decide) dX1_person_106 ?_
              refine v_sub [0, 1] rfl ?_
              exact whX1_person_110 hl0 C p0 p1 p2 1 u1
            · refine v_iconst C.1.1 0 (by decide) dX1_person_109 ?_
              refine v_sub [0, 1] rfl ?_
              exact whX1_person_110 hl0 C p0 p1 p2 0 u1
theorem cwX1_person {t : TT} {G : GH} {l : Launch} {p : Program} {s : State} {m : MethodId} {args : Array Value} {meth : Method} {c : Code} {y0 : MethodName} {cc0 : ByteArray} {nL0 : Nat} {ret0 : Option FieldType} (C : CxH t G l p s m args meth c y0 cc0 nL0 ret0) {index lv mc ms K1 K2 : Nat} (hq : Cond.methodLink y0.cls index yX1_person ∈ lw_all) (hR : 10 + 1 ≤ lv) : CallW (rmH lv K1 K2) s args y0.cls RX1 index yX1_person cX1_person 3 (some .int) (ws_ yX1_person cX1_person 3 (some .int)) (rmH 10 mc ms) mc ms 2 :=
  cwV 2 C.1.2.2.2.2.1 (lw_V hq q1377 q1378 q121 q1379) rfl rfl rfl (by decide +kernel) ⟨hR, by show 8 + (3 + 11) + 100 * 10 ≤ 100 * lv; omega⟩
def hX1_grudge (p0 : Nat) (p1 : Int32) (p2 : Int32) (u : HS) : Option (OH (PX Int32)) :=
  mchk (hC u p0 == 1) <|
  hx (hX1_aMaster p0 p1 u) fun _ u1 =>
  mchk (hC u1 p0 == 1) <|
  hx (hX1_aPerson p0 p2 u1) fun _ u3 =>
  mchk (hC u3 p0 == 1) <|
  mderef (hR u3 p0 3) fun a6 =>
  mchk (hC u3 a6 == 3) <|
  hb (hX3_grudge a6 p1 p2 u3) fun r9 u8 =>
  hret (.inl r9) u8
theorem ctX1_grudge (t : TT) (G : GH) (l : Launch) (hl0 : l.stackTraces = false) (p0 : Nat) (p1 : Int32) (p2 : Int32) (u : HS) : CtX mkI t G l yX1_grudge cX1_grudge 3 (some .int) 421 [.ref p0, .int p1, .int p2] u (hX1_grudge p0 p1 p2 u) := by
  refine ctX_of [(0, .ref p0), (1, .int p1), (2, .int p2)] hl0 rfl (Nat.le_of_ble_eq_true rfl) rfl (fun K1 K2 p e s m args below meth c C => ?_)
  unfold hX1_grudge
  refine v_aload_n C.1.1 0 rfl rfl dX1_grudge_0 ?_
  refine v_iload_n C.1.1 1 rfl rfl dX1_grudge_1 ?_
  refine v_chk (fun h2 => ?_)
  refine v_callVX C [.int p1] [] (ctX1_aMaster t G l hl0 p0 p1 u) (fun _ _ => cwX1_aMaster C.1 q1349 (by decide)) (recO C.1 (ci := 0) (eq_of_beq h2) (by decide) rfl) rfl rfl (by exact Nat.le_of_ble_eq_true rfl) dX1_grudge_2 (fun _ u1 => ?_)
  refine v_aload_n C.1.1 0 rfl rfl dX1_grudge_5 ?_
  refine v_iload_n C.1.1 2 rfl rfl dX1_grudge_6 ?_
  refine v_chk (fun h4 => ?_)
  refine v_callVX C [.int p2] [] (ctX1_aPerson t G l hl0 p0 p2 u1) (fun _ _ => cwX1_aPerson C.1 q1380 (by decide)) (recO C.1 (ci := 0) (eq_of_beq h4) (by decide) rfl) rfl rfl (by exact Nat.le_of_ble_eq_true rfl) dX1_grudge_7 (fun _ u3 => ?_)
  refine v_aload_n C.1.1 0 rfl rfl dX1_grudge_10 ?_
  refine v_chk (fun h5 => ?_)
  refine v_hget C.1 (v := va_rf (hR u3 p0 3)) 0 3 (eq_of_beq h5) (by decide) rfl in_X1 (by decide) (Or.inl q312) (fun _ h => h) (hF_r (ci := 0) (eq_of_beq h5) (by decide)) dX1_grudge_11 ?_
  refine v_deref (fun a6 e7 => ?_)
  refine v_iload_n C.1.1 1 rfl rfl dX1_grudge_14 ?_
  refine v_iload_n C.1.1 2 rfl rfl dX1_grudge_15 ?_
  refine v_chk (fun h10 => ?_)
  refine v_callVH C.1 [.int p1, .int p2] [] (ctX3_grudge t G l hl0 a6 p1 p2 u3) (fun _ _ => cwX3_grudge C.1 q1392 (by decide)) (recO C.1 (ci := 2) (eq_of_beq h10) (by decide) rfl) rfl rfl (by exact Nat.le_of_ble_eq_true rfl) dX1_grudge_16 (fun r9 u8 => ?_)
  exact v_xiret C.1 dX1_grudge_19
theorem cwX1_grudge {t : TT} {G : GH} {l : Launch} {p : Program} {s : State} {m : MethodId} {args : Array Value} {meth : Method} {c : Code} {y0 : MethodName} {cc0 : ByteArray} {nL0 : Nat} {ret0 : Option FieldType} (C : CxH t G l p s m args meth c y0 cc0 nL0 ret0) {index lv mc ms K1 K2 : Nat} (hq : Cond.methodLink y0.cls index yX1_grudge ∈ lw_all) (hR : 421 + 1 ≤ lv) : CallW (rmH lv K1 K2) s args y0.cls RX1 index yX1_grudge cX1_grudge 3 (some .int) (ws_ yX1_grudge cX1_grudge 3 (some .int)) (rmH 421 mc ms) mc ms 2 :=
  cwV 2 C.1.2.2.2.2.1 (lw_V hq q1389 q1390 q121 q1391) rfl rfl rfl (by decide +kernel) ⟨hR, by show 8 + (3 + 11) + 100 * 421 ≤ 100 * lv; omega⟩
def hX1_go_100 (p0 : Nat) (p1 : Int32) (p2 : Int32) (u : HS) : Option (OH (PX Int32)) :=
  mchk (hC u p0 == 1) <|
  hb (hX1_refuse p0 1 u) fun r2 u1 =>
  hret (.inl r2) u1
theorem whX1_go_100 {K1 K2 : Nat} {p : Program} {e : Env} {s : State} {m : MethodId} {args : Array Value} {below : List Frame} {meth : Method} {c : Code} (hl0 : l.stackTraces = false) (C : CxX t G l p s m args meth c yX1_go cX1_go 5 (some .int)) (p0 : Nat) (p1 : Int32) (p2 : Int32) (u : HS) : VX mkI t G p l e 10 K1 K2 s m args below meth c 5 100 [(0, .ref p0)] [] u (hX1_go_100 p0 p1 p2 u) := by
  unfold hX1_go_100
  refine v_aload_n C.1.1 0 rfl rfl dX1_go_100 ?_
  refine v_iconst C.1.1 1 (by decide) dX1_go_101 ?_
  refine v_chk (fun h3 => ?_)
  refine v_callVH C.1 [.int 1] [] (ctX1_refuse t G l hl0 p0 1 u) (fun _ _ => cwX1_refuse C.1 q369 (by decide)) (recO C.1 (ci := 0) (eq_of_beq h3) (by decide) rfl) rfl rfl (by exact Nat.le_of_ble_eq_true rfl) dX1_go_102 (fun r2 u1 => ?_)
  exact v_xiret C.1 dX1_go_105
def hX1_go (p0 : Nat) (p1 : Int32) (p2 : Int32) (u : HS) : Option (OH (PX Int32)) :=
  mchk (hC u p0 == 1) <|
  hx (hX1_aPerson p0 p1 u) fun _ u1 =>
  mchk (hC u1 p0 == 1) <|
  mderef (hR u1 p0 2) fun a4 =>
  mchk (hC u1 a4 == 2) <|
  mderef (hR u1 a4 2) fun a7 =>
  mchk (hC u1 a7 == 12) <|
  hb (hJ2_size a7 u1) fun r10 u9 =>
  hx (hX1_oneOf p2 (r10 - 1) u9) fun _ u12 =>
  mchk (hC u12 p0 == 1) <|
  mderef (hR u12 p0 2) fun a14 =>
  mchk (hC u12 a14 == 2) <|
  mderef (hR u12 a14 2) fun a17 =>
  mchk (hC u12 a17 == 12) <|
  hb (hJ2_get a17 p2 u12) fun r20 u19 =>
  mchk (hC u19 r20 == 7) <|
  mchk (hC u19 p0 == 1) <|
  mderef (hR u19 p0 3) fun a24 =>
  mchk (hC u19 a24 == 3) <|
  mderef (hR u19 a24 2) fun a27 =>
  mchk (inA u19 p1 a27 21) <|
  mchk (hC u19 r20 == 7) <|
  hb (hX7_from r20 (hA u19 a27 p1.toNatClampNeg) u19) fun r31 u30 =>
  mchk (hC u30 p0 == 1) <|
  mderef (hR u30 p0 3) fun a34 =>
  mchk (hC u30 a34 == 3) <|
  hb (hX1_isOf (hI u30 a34 7) p1 u30) fun r38 u37 =>
  if r38 = 0 then
    mchk (hC u37 p0 == 1) <|
    mderef (hR u37 p0 3) fun a40 =>
    mchk (hC u37 a40 == 3) <|
    hb (hX3_isAway a40 p1 u37) fun r43 u42 =>
    if r43 = 0 then
      if r31 = (-1) then
        hX1_go_100 p0 p1 p2 u42
      else
        mchk (hC u42 p0 == 1) <|
        mderef (hR u42 p0 3) fun a46 =>
        mchk (hC u42 a46 == 3) <|
        mchk (hC u42 r20 == 7) <|
        if (hI u42 a46 6) < (hI u42 r20 2) then
          mchk (hC u42 p0 == 1) <|
          hb (hX1_keep p0 u42) fun _ u50 =>
          mchk (hC u50 p0 == 1) <|
          mderef (hR u50 p0 3) fun a53 =>
          mchk (hC u50 a53 == 3) <|
          mderef (hR u50 a53 2) fun a56 =>
          mchk (inA u50 p1 a56 21) <|
          mlet (uA u50 a56 p1.toNatClampNeg r31) fun u58 =>
          hret (.inl r31) u58
        else
          hX1_go_100 p0 p1 p2 u42
    else
      hX1_go_100 p0 p1 p2 u42
  else
    hX1_go_100 p0 p1 p2 u37
theorem ctX1_go (t : TT) (G : GH) (l : Launch) (hl0 : l.stackTraces = false) (p0 : Nat) (p1 : Int32) (p2 : Int32) (u : HS) : CtX mkI t G l yX1_go cX1_go 5 (some .int) 10 [.ref p0, .int p1, .int p2] u (hX1_go p0 p1 p2 u) := by
  refine ctX_of [(0, .ref p0), (1, .int p1), (2, .int p2)] hl0 rfl (Nat.le_of_ble_eq_true rfl) rfl (fun K1 K2 p e s m args below meth c C => ?_)
  unfold hX1_go
  refine v_aload_n C.1.1 0 rfl rfl dX1_go_0 ?_
  refine v_iload_n C.1.1 1 rfl rfl dX1_go_1 ?_
  refine v_chk (fun h2 => ?_)
  refine v_callVX C [.int p1] [] (ctX1_aPerson t G l hl0 p0 p1 u) (fun _ _ => cwX1_aPerson C.1 q1380 (by decide)) (recO C.1 (ci := 0) (eq_of_beq h2) (by decide) rfl) rfl rfl (by exact Nat.le_of_ble_eq_true rfl) dX1_go_2 (fun _ u1 => ?_)
  refine v_iload_n C.1.1 2 rfl rfl dX1_go_5 ?_
  refine v_aload_n C.1.1 0 rfl rfl dX1_go_6 ?_
  refine v_chk (fun h3 => ?_)
  refine v_hget C.1 (v := va_rf (hR u1 p0 2)) 0 2 (eq_of_beq h3) (by decide) rfl in_X1 (by decide) (Or.inl q311) (fun _ h => h) (hF_r (ci := 0) (eq_of_beq h3) (by decide)) dX1_go_7 ?_
  refine v_deref (fun a4 e5 => ?_)
  refine v_chk (fun h6 => ?_)
  refine v_hget C.1 (v := va_rf (hR u1 a4 2)) 1 2 (eq_of_beq h6) (by decide) rfl in_X2 (by decide) (Or.inr ⟨_, q205⟩) (fun _ h => h) (hF_r (ci := 1) (eq_of_beq h6) (by decide)) dX1_go_10 ?_
  refine v_deref (fun a7 e8 => ?_)
  refine v_chk (fun h11 => ?_)
  refine v_callFH C.1 [] [.int p2] (ctJ2_size t G l hl0 a7 u1) (fun _ _ => cwJ2_sizeF C.1 q453 (by decide)) (eq_of_beq h11) (by decide) rfl rfl rfl (by exact Nat.le_of_ble_eq_true rfl) dX1_go_13 (fun r10 u9 => ?_)
  refine v_iconst C.1.1 1 (by decide) dX1_go_18 ?_
  refine v_isub C.1.1 dX1_go_19 ?_
  refine v_callSX C [.int p2, .int (r10 - 1)] [] (ctX1_oneOf t G l hl0 p2 (r10 - 1) u9) (fun _ _ => cwX1_oneOf C.1 q1353 (by decide)) rfl rfl (by exact Nat.le_of_ble_eq_true rfl) dX1_go_20 (fun _ u12 => ?_)
  refine v_aload_n C.1.1 0 rfl rfl dX1_go_23 ?_
  refine v_chk (fun h13 => ?_)
  refine v_hget C.1 (v := va_rf (hR u12 p0 2)) 0 2 (eq_of_beq h13) (by decide) rfl in_X1 (by decide) (Or.inl q311) (fun _ h => h) (hF_r (ci := 0) (eq_of_beq h13) (by decide)) dX1_go_24 ?_
  refine v_deref (fun a14 e15 => ?_)
  refine v_chk (fun h16 => ?_)
  refine v_hget C.1 (v := va_rf (hR u12 a14 2)) 1 2 (eq_of_beq h16) (by decide) rfl in_X2 (by decide) (Or.inr ⟨_, q205⟩) (fun _ h => h) (hF_r (ci := 1) (eq_of_beq h16) (by decide)) dX1_go_27 ?_
  refine v_deref (fun a17 e18 => ?_)
  refine v_iload_n C.1.1 2 rfl rfl dX1_go_30 ?_
  refine v_chk (fun h21 => ?_)
  refine v_callFH C.1 [.int p2] [] (ctJ2_get t G l hl0 a17 p2 u12) (fun _ _ => cwJ2_getF C.1 q1368 (by decide)) (eq_of_beq h21) (by decide) rfl rfl rfl (by exact Nat.le_of_ble_eq_true rfl) dX1_go_31 (fun r20 u19 => ?_)
  refine v_chk (fun h22 => ?_)
  refine v_hcastS C.1 6 (eq_of_beq h22) (by decide) rfl q1371 dX1_go_36 ?_
  refine v_astore_n C.1.1 [(3, .ref r20), (0, .ref p0), (1, .int p1), (2, .int p2)] rfl (by decide) rfl dX1_go_39 ?_
  refine v_aload_n C.1.1 0 rfl rfl dX1_go_40 ?_
  refine v_aload_n C.1.1 1 rfl rfl dX1_go_41 ?_
  refine v_chk (fun h23 => ?_)
  refine v_hget C.1 (v := va_rf (hR u19 p0 3)) 0 3 (eq_of_beq h23) (by decide) rfl in_X1 (by decide) (Or.inl q312) (fun _ h => h) (hF_r (ci := 0) (eq_of_beq h23) (by decide)) dX1_go_42 ?_
  refine v_deref (fun a24 e25 => ?_)
  refine v_chk (fun h26 => ?_)
  refine v_hget C.1 (v := va_rf (hR u19 a24 2)) 2 2 (eq_of_beq h26) (by decide) rfl in_X3 (by decide) (Or.inr ⟨_, q259⟩) (fun _ h => h) (hF_r (ci := 2) (eq_of_beq h26) (by decide)) dX1_go_45 ?_
  refine v_deref (fun a27 e28 => ?_)
  refine v_iload_n C.1.1 2 rfl rfl dX1_go_48 ?_
  refine v_chk (fun h29 => ?_)
  refine v_haiald C.1 h29 dX1_go_49 ?_
  refine v_chk (fun h32 => ?_)
  refine v_callVH C.1 [.int (hA u19 a27 p1.toNatClampNeg)] [] (ctX7_from t G l hl0 r20 (hA u19 a27 p1.toNatClampNeg) u19) (fun _ _ => cwX7_from C.1 q1372 (by decide)) (recO C.1 (ci := 6) (eq_of_beq h32) (by decide) rfl) rfl rfl (by exact Nat.le_of_ble_eq_true rfl) dX1_go_50 (fun r31 u30 => ?_)
  refine v_istore C.1.1 [(4, .int r31), (3, .ref r20), (0, .ref p0), (1, .int p1), (2, .int p2)] (by decide) rfl dX1_go_53 ?_
  refine v_aload_n C.1.1 2 rfl rfl dX1_go_55 ?_
  refine v_chk (fun h33 => ?_)
  refine v_hget C.1 (v := va_rf (hR u30 p0 3)) 0 3 (eq_of_beq h33) (by decide) rfl in_X1 (by decide) (Or.inl q312) (fun _ h => h) (hF_r (ci := 0) (eq_of_beq h33) (by decide)) dX1_go_56 ?_
  refine v_deref (fun a34 e35 => ?_)
  refine v_chk (fun h36 => ?_)
  refine v_hget C.1 (v := .int (hI u30 a34 7)) 2 7 (eq_of_beq h36) (by decide) rfl in_X3 (by decide) (Or.inr ⟨_, q271⟩) (fun _ h => h) (hF_i (ci := 2) (eq_of_beq h36) (by decide)) dX1_go_59 ?_
  refine v_iload_n C.1.1 3 rfl rfl dX1_go_62 ?_
  refine v_callSH C.1 [.int (hI u30 a34 7), .int p1] [] (ctX1_isOf t G l hl0 (hI u30 a34 7) p1 u30) (fun _ _ => cwX1_isOf C.1 q1323 (by decide)) rfl rfl (by exact Nat.le_of_ble_eq_true rfl) dX1_go_63 (fun r38 u37 => ?_)
  refine v_if_ne C.1.1 100 (by decide) dX1_go_66 (fun _ => ?_) (fun _ => ?_)
  · refine v_aload_n C.1.1 2 rfl rfl dX1_go_69 ?_
    refine v_chk (fun h39 => ?_)
    refine v_hget C.1 (v := va_rf (hR u37 p0 3)) 0 3 (eq_of_beq h39) (by decide) rfl in_X1 (by decide) (Or.inl q312) (fun _ h => h) (hF_r (ci := 0) (eq_of_beq h39) (by decide)) dX1_go_70 ?_
    refine v_deref (fun a40 e41 => ?_)
    refine v_iload_n C.1.1 3 rfl rfl dX1_go_73 ?_
    refine v_chk (fun h44 => ?_)
    refine v_callVH C.1 [.int p1] [] (ctX3_isAway t G l hl0 a40 p1 u37) (fun _ _ => cwX3_isAway C.1 q1400 (by decide)) (recO C.1 (ci := 2) (eq_of_beq h44) (by decide) rfl) rfl rfl (by exact Nat.le_of_ble_eq_true rfl) dX1_go_74 (fun r43 u42 => ?_)
    refine v_if_ne C.1.1 100 (by decide) dX1_go_77 (fun _ => ?_) (fun _ => ?_)
    · refine v_iload C.1.1 0 rfl dX1_go_80 ?_
      refine v_iconst C.1.1 (-1) (by decide) dX1_go_82 ?_
      refine v_icmp_eq C.1.1 100 (by decide) dX1_go_83 (fun _ => ?_) (fun _ => ?_)
      · refine v_sub [2] rfl ?_
        exact whX1_go_100 hl0 C p0 p1 p2 u42
      · refine v_aload_n C.1.1 2 rfl rfl dX1_go_86 ?_
        refine v_chk (fun h45 => ?_)
        refine v_hget C.1 (v := va_rf (hR u42 p0 3)) 0 3 (eq_of_beq h45) (by decide) rfl in_X1 (by decide) (Or.inl q312) (fun _ h => h) (hF_r (ci := 0) (eq_of_beq h45) (by decide)) dX1_go_87 ?_
        refine v_deref (fun a46 e47 => ?_)
        refine v_chk (fun h48 => ?_)
        refine v_hget C.1 (v := .int (hI u42 a46 6)) 2 6 (eq_of_beq h48) (by decide) rfl in_X3 (by decide) (Or.inr ⟨_, q269⟩) (fun _ h => h) (hF_i (ci := 2) (eq_of_beq h48) (by decide)) dX1_go_90 ?_
        refine v_aload_n C.1.1 1 rfl rfl dX1_go_93 ?_
        refine v_chk (fun h49 => ?_)
        refine v_hget C.1 (v := .int (hI u42 r20 2)) 6 2 (eq_of_beq h49) (by decide) rfl in_X7 (by decide) (Or.inr ⟨_, q1094⟩) (fun _ h => h) (hF_i (ci := 6) (eq_of_beq h49) (by decide)) dX1_go_94 ?_
        refine v_icmp_lt C.1.1 106 (by decide) dX1_go_97 (fun _ => ?_) (fun _ => ?_)
        · refine v_aload_n C.1.1 2 rfl rfl dX1_go_106 ?_
          refine v_chk (fun h51 => ?_)
          refine v_callVH C.1 [] [] (ctX1_keep t G l hl0 p0 u42) (fun _ _ => cwX1_keep C.1 q373 (by decide)) (recO C.1 (ci := 0) (eq_of_beq h51) (by decide) rfl) rfl rfl (by exact Nat.le_of_ble_eq_true rfl) dX1_go_107 (fun _ u50 => ?_)
          refine v_aload_n C.1.1 2 rfl rfl dX1_go_110 ?_
          refine v_chk (fun h52 => ?_)
          refine v_hget C.1 (v := va_rf (hR u50 p0 3)) 0 3 (eq_of_beq h52) (by decide) rfl in_X1 (by decide) (Or.inl q312) (fun _ h => h) (hF_r (ci := 0) (eq_of_beq h52) (by decide)) dX1_go_111 ?_
          refine v_deref (fun a53 e54 => ?_)
          refine v_chk (fun h55 => ?_)
          refine v_hget C.1 (v := va_rf (hR u50 a53 2)) 2 2 (eq_of_beq h55) (by decide) rfl in_X3 (by decide) (Or.inr ⟨_, q259⟩) (fun _ h => h) (hF_r (ci := 2) (eq_of_beq h55) (by decide)) dX1_go_114 ?_
          refine v_deref (fun a56 e57 => ?_)
          refine v_iload_n C.1.1 3 rfl rfl dX1_go_117 ?_
          refine v_iload C.1.1 0 rfl dX1_go_118 ?_
          refine v_chk (fun h59 => ?_)
          refine v_haiast C.1 h59 dX1_go_120 (fun u58 => ?_)
          refine v_iload C.1.1 0 rfl dX1_go_121 ?_
          exact v_xiret C.1 dX1_go_123
        · refine v_sub [2] rfl ?_
          exact whX1_go_100 hl0 C p0 p1 p2 u42
    · refine v_sub [2] rfl ?_
      exact whX1_go_100 hl0 C p0 p1 p2 u42
  · refine v_sub [2] rfl ?_
    exact whX1_go_100 hl0 C p0 p1 p2 u37
theorem cwX1_go {t : TT} {G : GH} {l : Launch} {p : Program} {s : State} {m : MethodId} {args : Array Value} {meth : Method} {c : Code} {y0 : MethodName} {cc0 : ByteArray} {nL0 : Nat} {ret0 : Option FieldType} (C : CxH t G l p s m args meth c y0 cc0 nL0 ret0) {index lv mc ms K1 K2 : Nat} (hq : Cond.methodLink y0.cls index yX1_go ∈ lw_all) (hR : 10 + 1 ≤ lv) : CallW (rmH lv K1 K2) s args y0.cls RX1 index yX1_go cX1_go 5 (some .int) (ws_ yX1_go cX1_go 5 (some .int)) (rmH 10 mc ms) mc ms 2 :=
  cwV 2 C.1.2.2.2.2.1 (lw_V hq q1397 q1398 q121 q1399) rfl rfl rfl (by decide +kernel) ⟨hR, by show 8 + (5 + 11) + 100 * 10 ≤ 100 * lv; omega⟩
def hX1_write (p0 : Nat) (p1 : Int32) (u : HS) : Option (OH (PX Int32)) :=
  mchk (hC u p0 == 1) <|
  hx (hX1_aPerson p0 p1 u) fun _ u1 =>
  mchk (hC u1 p0 == 1) <|
  mderef (hR u1 p0 3) fun a4 =>
  mchk (hC u1 a4 == 3) <|
  hb (hX3_isListed a4 p1 u1) fun r7 u6 =>
  if r7 = 0 then
    mchk (hC u6 p0 == 1) <|
    hb (hX1_keep p0 u6) fun _ u9 =>
    mchk (hC u9 p0 == 1) <|
    mderef (hR u9 p0 3) fun a12 =>
    mchk (hC u9 a12 == 3) <|
    hb (hX3_write a12 p1 (-2) u9) fun _ u14 =>
    hz .inl 1 u14
  else
    mchk (hC u6 p0 == 1) <|
    hb (hX1_refuses p0 u6) fun r10 u9 =>
    hz .inl r10 u9
theorem ctX1_write (t : TT) (G : GH) (l : Launch) (hl0 : l.stackTraces = false) (p0 : Nat) (p1 : Int32) (u : HS) : CtX mkI t G l yX1_write cX1_write 2 (some .boolean) 10 [.ref p0, .int p1] u (hX1_write p0 p1 u) := by
  refine ctX_of [(0, .ref p0), (1, .int p1)] hl0 rfl (Nat.le_of_ble_eq_true rfl) rfl (fun K1 K2 p e s m args below meth c C => ?_)
  unfold hX1_write
  refine v_aload_n C.1.1 0 rfl rfl dX1_write_0 ?_
  refine v_iload_n C.1.1 1 rfl rfl dX1_write_1 ?_
  refine v_chk (fun h2 => ?_)
  refine v_callVX C [.int p1] [] (ctX1_aPerson t G l hl0 p0 p1 u) (fun _ _ => cwX1_aPerson C.1 q1380 (by decide)) (recO C.1 (ci := 0) (eq_of_beq h2) (by decide) rfl) rfl rfl (by exact Nat.le_of_ble_eq_true rfl) dX1_write_2 (fun _ u1 => ?_)
  refine v_aload_n C.1.1 0 rfl rfl dX1_write_5 ?_
  refine v_chk (fun h3 => ?_)
  refine v_hget C.1 (v := va_rf (hR u1 p0 3)) 0 3 (eq_of_beq h3) (by decide) rfl in_X1 (by decide) (Or.inl q312) (fun _ h => h) (hF_r (ci := 0) (eq_of_beq h3) (by decide)) dX1_write_6 ?_
  refine v_deref (fun a4 e5 => ?_)
  refine v_iload_n C.1.1 1 rfl rfl dX1_write_9 ?_
  refine v_chk (fun h8 => ?_)
  refine v_callVH C.1 [.int p1] [] (ctX3_isListed t G l hl0 a4 p1 u1) (fun _ _ => cwX3_isListed C.1 q1408 (by decide)) (recO C.1 (ci := 2) (eq_of_beq h8) (by decide) rfl) rfl rfl (by exact Nat.le_of_ble_eq_true rfl) dX1_write_10 (fun r7 u6 => ?_)
  refine v_if_eq C.1.1 21 (by decide) dX1_write_13 (fun _ => ?_) (fun _ => ?_)
  · refine v_aload_n C.1.1 0 rfl rfl dX1_write_21 ?_
    refine v_chk (fun h10 => ?_)
    refine v_callVH C.1 [] [] (ctX1_keep t G l hl0 p0 u6) (fun _ _ => cwX1_keep C.1 q373 (by decide)) (recO C.1 (ci := 0) (eq_of_beq h10) (by decide) rfl) rfl rfl (by exact Nat.le_of_ble_eq_true rfl) dX1_write_22 (fun _ u9 => ?_)
    refine v_aload_n C.1.1 0 rfl rfl dX1_write_25 ?_
    refine v_chk (fun h11 => ?_)
    refine v_hget C.1 (v := va_rf (hR u9 p0 3)) 0 3 (eq_of_beq h11) (by decide) rfl in_X1 (by decide) (Or.inl q312) (fun _ h => h) (hF_r (ci := 0) (eq_of_beq h11) (by decide)) dX1_write_26 ?_
    refine v_deref (fun a12 e13 => ?_)
    refine v_iload_n C.1.1 1 rfl rfl dX1_write_29 ?_
    refine v_bipush C.1.1 (-2) (by decide) dX1_write_30 ?_
    refine v_chk (fun h15 => ?_)
    refine v_callVH C.1 [.int p1, .int (-2)] [] (ctX3_write t G l hl0 a12 p1 (-2) u9) (fun _ _ => cwX3_write C.1 q1409 (by decide)) (recO C.1 (ci := 2) (eq_of_beq h15) (by decide) rfl) rfl rfl (by exact Nat.le_of_ble_eq_true rfl) dX1_write_32 (fun _ u14 => ?_)
    refine v_iconst C.1.1 1 (by decide) dX1_write_35 ?_
    exact v_xzret C.1 dX1_write_36
  · refine v_aload_n C.1.1 0 rfl rfl dX1_write_16 ?_
    refine v_chk (fun h11 => ?_)
    refine v_callVH C.1 [] [] (ctX1_refuses t G l hl0 p0 u6) (fun _ _ => cwX1_refuses C.1 q669 (by decide)) (recO C.1 (ci := 0) (eq_of_beq h11) (by decide) rfl) rfl rfl (by exact Nat.le_of_ble_eq_true rfl) dX1_write_17 (fun r10 u9 => ?_)
    exact v_xzret C.1 dX1_write_20
theorem cwX1_write {t : TT} {G : GH} {l : Launch} {p : Program} {s : State} {m : MethodId} {args : Array Value} {meth : Method} {c : Code} {y0 : MethodName} {cc0 : ByteArray} {nL0 : Nat} {ret0 : Option FieldType} (C : CxH t G l p s m args meth c y0 cc0 nL0 ret0) {index lv mc ms K1 K2 : Nat} (hq : Cond.methodLink y0.cls index yX1_write ∈ lw_all) (hR : 10 + 1 ≤ lv) : CallW (rmH lv K1 K2) s args y0.cls RX1 index yX1_write cX1_write 2 (some .boolean) (ws_ yX1_write cX1_write 2 (some .boolean)) (rmH 10 mc ms) mc ms 1 :=
  cwV 1 C.1.2.2.2.2.1 (lw_V hq q1405 q1406 q121 q1407) rfl rfl rfl (by decide +kernel) ⟨hR, by show 8 + (2 + 11) + 100 * 10 ≤ 100 * lv; omega⟩
def hX1_strike_30 (p0 : Nat) (p1 : Int32) (u : HS) : Option (OH (PX Int32)) :=
  mchk (hC u p0 == 1) <|
  hb (hX1_refuse p0 1 u) fun r2 u1 =>
  hret (.inl r2) u1
theorem whX1_strike_30 {K1 K2 : Nat} {p : Program} {e : Env} {s : State} {m : MethodId} {args : Array Value} {below : List Frame} {meth : Method} {c : Code} (hl0 : l.stackTraces = false) (C : CxX t G l p s m args meth c yX1_strike cX1_strike 3 (some .int)) (p0 : Nat) (p1 : Int32) (u : HS) : VX mkI t G p l e 10 K1 K2 s m args below meth c 3 30 [(0, .ref p0)] [] u (hX1_strike_30 p0 p1 u) := by
  unfold hX1_strike_30
  refine v_aload_n C.1.1 0 rfl rfl dX1_strike_30 ?_
  refine v_iconst C.1.1 1 (by decide) dX1_strike_31 ?_
  refine v_chk (fun h3 => ?_)
  refine v_callVH C.1 [.int 1] [] (ctX1_refuse t G l hl0 p0 1 u) (fun _ _ => cwX1_refuse C.1 q369 (by decide)) (recO C.1 (ci := 0) (eq_of_beq h3) (by decide) rfl) rfl rfl (by exact Nat.le_of_ble_eq_true rfl) dX1_strike_32 (fun r2 u1 => ?_)
  exact v_xiret C.1 dX1_strike_35
def hX1_strike (p0 : Nat) (p1 : Int32) (u : HS) : Option (OH (PX Int32)) :=
  mchk (hC u p0 == 1) <|
  hx (hX1_aPerson p0 p1 u) fun _ u1 =>
  mchk (hC u1 p0 == 1) <|
  mderef (hR u1 p0 3) fun a4 =>
  mchk (hC u1 a4 == 3) <|
  hb (hX3_isListed a4 p1 u1) fun r7 u6 =>
  if r7 = 0 then
    hX1_strike_30 p0 p1 u6
  else
    mchk (hC u6 p0 == 1) <|
    mderef (hR u6 p0 3) fun a10 =>
    mchk (hC u6 a10 == 3) <|
    hb (hX1_isOf (hI u6 a10 7) p1 u6) fun r14 u13 =>
    if r14 = 0 then
      mchk (hC u13 p0 == 1) <|
      hb (hX1_keep p0 u13) fun _ u15 =>
      mchk (hC u15 p0 == 1) <|
      mderef (hR u15 p0 3) fun a18 =>
      mchk (hC u15 a18 == 3) <|
      mderef (hR u15 a18 1) fun a21 =>
      mchk (inA u15 p1 a21 21) <|
      mlet (hA u15 a21 p1.toNatClampNeg) fun v24 =>
      mchk (hC u15 p0 == 1) <|
      mderef (hR u15 p0 3) fun a26 =>
      mchk (hC u15 a26 == 3) <|
      mderef (hR u15 a26 1) fun a29 =>
      mchk (inA u15 p1 a29 21) <|
      mlet (uA u15 a29 p1.toNatClampNeg (-1)) fun u31 =>
      mchk (hC u31 p0 == 1) <|
      mderef (hR u31 p0 3) fun a34 =>
      mchk (hC u31 a34 == 3) <|
      mderef (hR u31 a34 0) fun a37 =>
      mchk (inA u31 p1 a37 21) <|
      mlet (uA u31 a37 p1.toNatClampNeg (-1)) fun u39 =>
      hret (.inl v24) u39
    else
      hX1_strike_30 p0 p1 u13
theorem ctX1_strike (t : TT) (G : GH) (l : Launch) (hl0 : l.stackTraces = false) (p0 : Nat) (p1 : Int32) (u : HS) : CtX mkI t G l yX1_strike cX1_strike 3 (some .int) 10 [.ref p0, .int p1] u (hX1_strike p0 p1 u) := by
  refine ctX_of [(0, .ref p0), (1, .int p1)] hl0 rfl (Nat.le_of_ble_eq_true rfl) rfl (fun K1 K2 p e s m args below meth c C => ?_)
  unfold hX1_strike
  refine v_aload_n C.1.1 0 rfl rfl dX1_strike_0 ?_
  refine v_iload_n C.1.1 1 rfl rfl dX1_strike_1 ?_
  refine v_chk (fun h2 => ?_)
  refine v_callVX C [.int p1] [] (ctX1_aPerson t G l hl0 p0 p1 u) (fun _ _ => cwX1_aPerson C.1 q1380 (by decide)) (recO C.1 (ci := 0) (eq_of_beq h2) (by decide) rfl) rfl rfl (by exact Nat.le_of_ble_eq_true rfl) dX1_strike_2 (fun _ u1 => ?_)
  refine v_aload_n C.1.1 0 rfl rfl dX1_strike_5 ?_
  refine v_chk (fun h3 => ?_)
  refine v_hget C.1 (v := va_rf (hR u1 p0 3)) 0 3 (eq_of_beq h3) (by decide) rfl in_X1 (by decide) (Or.inl q312) (fun _ h => h) (hF_r (ci := 0) (eq_of_beq h3) (by decide)) dX1_strike_6 ?_
  refine v_deref (fun a4 e5 => ?_)
  refine v_iload_n C.1.1 1 rfl rfl dX1_strike_9 ?_
  refine v_chk (fun h8 => ?_)
  refine v_callVH C.1 [.int p1] [] (ctX3_isListed t G l hl0 a4 p1 u1) (fun _ _ => cwX3_isListed C.1 q1408 (by decide)) (recO C.1 (ci := 2) (eq_of_beq h8) (by decide) rfl) rfl rfl (by exact Nat.le_of_ble_eq_true rfl) dX1_strike_10 (fun r7 u6 => ?_)
  refine v_if_eq C.1.1 30 (by decide) dX1_strike_13 (fun _ => ?_) (fun _ => ?_)
  · refine v_sub [0] rfl ?_
    exact whX1_strike_30 hl0 C p0 p1 u6
  · refine v_aload_n C.1.1 0 rfl rfl dX1_strike_16 ?_
    refine v_chk (fun h9 => ?_)
    refine v_hget C.1 (v := va_rf (hR u6 p0 3)) 0 3 (eq_of_beq h9) (by decide) rfl in_X1 (by decide) (Or.inl q312) (fun _ h => h) (hF_r (ci := 0) (eq_of_beq h9) (by decide)) dX1_strike_17 ?_
    refine v_deref (fun a10 e11 => ?_)
    refine v_chk (fun h12 => ?_)
    refine v_hget C.1 (v := .int (hI u6 a10 7)) 2 7 (eq_of_beq h12) (by decide) rfl in_X3 (by decide) (Or.inr ⟨_, q271⟩) (fun _ h => h) (hF_i (ci := 2) (eq_of_beq h12) (by decide)) dX1_strike_20 ?_
    refine v_iload_n C.1.1 1 rfl rfl dX1_strike_23 ?_
    refine v_callSH C.1 [.int (hI u6 a10 7), .int p1] [] (ctX1_isOf t G l hl0 (hI u6 a10 7) p1 u6) (fun _ _ => cwX1_isOf C.1 q1323 (by decide)) rfl rfl (by exact Nat.le_of_ble_eq_true rfl) dX1_strike_24 (fun r14 u13 => ?_)
    refine v_if_eq C.1.1 36 (by decide) dX1_strike_27 (fun _ => ?_) (fun _ => ?_)
    · refine v_aload_n C.1.1 0 rfl rfl dX1_strike_36 ?_
      refine v_chk (fun h16 => ?_)
      refine v_callVH C.1 [] [] (ctX1_keep t G l hl0 p0 u13) (fun _ _ => cwX1_keep C.1 q373 (by decide)) (recO C.1 (ci := 0) (eq_of_beq h16) (by decide) rfl) rfl rfl (by exact Nat.le_of_ble_eq_true rfl) dX1_strike_37 (fun _ u15 => ?_)
      refine v_aload_n C.1.1 0 rfl rfl dX1_strike_40 ?_
      refine v_chk (fun h17 => ?_)
      refine v_hget C.1 (v := va_rf (hR u15 p0 3)) 0 3 (eq_of_beq h17) (by decide) rfl in_X1 (by decide) (Or.inl q312) (fun _ h => h) (hF_r (ci := 0) (eq_of_beq h17) (by decide)) dX1_strike_41 ?_
      refine v_deref (fun a18 e19 => ?_)
      refine v_chk (fun h20 => ?_)
      refine v_hget C.1 (v := va_rf (hR u15 a18 1)) 2 1 (eq_of_beq h20) (by decide) rfl in_X3 (by decide) (Or.inr ⟨_, q257⟩) (fun _ h => h) (hF_r (ci := 2) (eq_of_beq h20) (by decide)) dX1_strike_44 ?_
      refine v_deref (fun a21 e22 => ?_)
      refine v_iload_n C.1.1 1 rfl rfl dX1_strike_47 ?_
      refine v_chk (fun h23 => ?_)
      refine v_haiald C.1 h23 dX1_strike_48 ?_
      refine v_topi (fun v24 => ?_)
      refine v_istore_n C.1.1 [(2, .int v24), (0, .ref p0), (1, .int p1)] rfl (by decide) rfl dX1_strike_49 ?_
      refine v_aload_n C.1.1 1 rfl rfl dX1_strike_50 ?_
      refine v_chk (fun h25 => ?_)
      refine v_hget C.1 (v := va_rf (hR u15 p0 3)) 0 3 (eq_of_beq h25) (by decide) rfl in_X1 (by decide) (Or.inl q312) (fun _ h => h) (hF_r (ci := 0) (eq_of_beq h25) (by decide)) dX1_strike_51 ?_
      refine v_deref (fun a26 e27 => ?_)
      refine v_chk (fun h28 => ?_)
      refine v_hget C.1 (v := va_rf (hR u15 a26 1)) 2 1 (eq_of_beq h28) (by decide) rfl in_X3 (by decide) (Or.inr ⟨_, q257⟩) (fun _ h => h) (hF_r (ci := 2) (eq_of_beq h28) (by decide)) dX1_strike_54 ?_
      refine v_deref (fun a29 e30 => ?_)
      refine v_iload_n C.1.1 2 rfl rfl dX1_strike_57 ?_
      refine v_iconst C.1.1 (-1) (by decide) dX1_strike_58 ?_
      refine v_chk (fun h32 => ?_)
      refine v_haiast C.1 h32 dX1_strike_59 (fun u31 => ?_)
      refine v_aload_n C.1.1 1 rfl rfl dX1_strike_60 ?_
      refine v_chk (fun h33 => ?_)
      refine v_hget C.1 (v := va_rf (hR u31 p0 3)) 0 3 (eq_of_beq h33) (by decide) rfl in_X1 (by decide) (Or.inl q312) (fun _ h => h) (hF_r (ci := 0) (eq_of_beq h33) (by decide)) dX1_strike_61 ?_
      refine v_deref (fun a34 e35 => ?_)
      refine v_chk (fun h36 => ?_)
      refine v_hget C.1 (v := va_rf (hR u31 a34 0)) 2 0 (eq_of_beq h36) (by decide) rfl in_X3 (by decide) (Or.inr ⟨_, q255⟩) (fun _ h => h) (hF_r (ci := 2) (eq_of_beq h36) (by decide)) dX1_strike_64 ?_
      refine v_deref (fun a37 e38 => ?_)
      refine v_iload_n C.1.1 2 rfl rfl dX1_strike_67 ?_
      refine v_iconst C.1.1 (-1) (by decide) dX1_strike_68 ?_
      refine v_chk (fun h40 => ?_)
      refine v_haiast C.1 h40 dX1_strike_69 (fun u39 => ?_)
      refine v_iload_n C.1.1 0 rfl rfl dX1_strike_70 ?_
      exact v_xiret C.1 dX1_strike_71
    · refine v_sub [0] rfl ?_
      exact whX1_strike_30 hl0 C p0 p1 u13
theorem cwX1_strike {t : TT} {G : GH} {l : Launch} {p : Program} {s : State} {m : MethodId} {args : Array Value} {meth : Method} {c : Code} {y0 : MethodName} {cc0 : ByteArray} {nL0 : Nat} {ret0 : Option FieldType} (C : CxH t G l p s m args meth c y0 cc0 nL0 ret0) {index lv mc ms K1 K2 : Nat} (hq : Cond.methodLink y0.cls index yX1_strike ∈ lw_all) (hR : 10 + 1 ≤ lv) : CallW (rmH lv K1 K2) s args y0.cls RX1 index yX1_strike cX1_strike 3 (some .int) (ws_ yX1_strike cX1_strike 3 (some .int)) (rmH 10 mc ms) mc ms 1 :=
  cwV 1 C.1.2.2.2.2.1 (lw_V hq q1414 q1415 q121 q1416) rfl rfl rfl (by decide +kernel) ⟨hR, by show 8 + (3 + 11) + 100 * 10 ≤ 100 * lv; omega⟩
def hX1_when (p0 : Nat) (p1 : Int32) (p2 : Int32) (u : HS) : Option (OH (PX Int32)) :=
  mchk (hC u p0 == 1) <|
  hx (hX1_aPerson p0 p1 u) fun _ u1 =>
  hx (hX1_oneOf p2 1 u1) fun _ u3 =>
  mchk (hC u3 p0 == 1) <|
  hb (hX1_later p0 30 u3) fun r5 u4 =>
  if p2 = 0 then
    mchk (hC u4 r5 == 3) <|
    mderef (hR u4 r5 0) fun a8 =>
    mchk (inA u4 p1 a8 21) <|
    hret (.inl (hA u4 a8 p1.toNatClampNeg)) u4
  else
    mchk (hC u4 r5 == 3) <|
    mderef (hR u4 r5 1) fun a8 =>
    mchk (inA u4 p1 a8 21) <|
    hret (.inl (hA u4 a8 p1.toNatClampNeg)) u4
theorem ctX1_when (t : TT) (G : GH) (l : Launch) (hl0 : l.stackTraces = false) (p0 : Nat) (p1 : Int32) (p2 : Int32) (u : HS) : CtX mkI t G l yX1_when cX1_when 4 (some .int) 425 [.ref p0, .int p1, .int p2] u (hX1_when p0 p1 p2 u) := by
  refine ctX_of [(0, .ref p0), (1, .int p1), (2, .int p2)] hl0 rfl (Nat.le_of_ble_eq_true rfl) rfl (fun K1 K2 p e s m args below meth c C => ?_)
  unfold hX1_when
  refine v_aload_n C.1.1 0 rfl rfl dX1_when_0 ?_
  refine v_iload_n C.1.1 1 rfl rfl dX1_when_1 ?_
  refine v_chk (fun h2 => ?_)
  refine v_callVX C [.int p1] [] (ctX1_aPerson t G l hl0 p0 p1 u) (fun _ _ => cwX1_aPerson C.1 q1380 (by decide)) (recO C.1 (ci := 0) (eq_of_beq h2) (by decide) rfl) rfl rfl (by exact Nat.le_of_ble_eq_true rfl) dX1_when_2 (fun _ u1 => ?_)
  refine v_iload_n C.1.1 2 rfl rfl dX1_when_5 ?_
  refine v_iconst C.1.1 1 (by decide) dX1_when_6 ?_
  refine v_callSX C [.int p2, .int 1] [] (ctX1_oneOf t G l hl0 p2 1 u1) (fun _ _ => cwX1_oneOf C.1 q1353 (by decide)) rfl rfl (by exact Nat.le_of_ble_eq_true rfl) dX1_when_7 (fun _ u3 => ?_)
  refine v_aload_n C.1.1 0 rfl rfl dX1_when_10 ?_
  refine v_bipush C.1.1 30 (by decide) dX1_when_11 ?_
  refine v_chk (fun h6 => ?_)
  refine v_callVH C.1 [.int 30] [] (ctX1_later t G l hl0 p0 30 u3) (fun _ _ => cwX1_later C.1 q704 (by decide)) (recO C.1 (ci := 0) (eq_of_beq h6) (by decide) rfl) rfl rfl (by exact Nat.le_of_ble_eq_true rfl) dX1_when_13 (fun r5 u4 => ?_)
  refine v_astore_n C.1.1 [(3, .ref r5), (0, .ref p0), (1, .int p1), (2, .int p2)] rfl (by decide) rfl dX1_when_16 ?_
  refine v_iload_n C.1.1 3 rfl rfl dX1_when_17 ?_
  refine v_if_ne C.1.1 30 (by decide) dX1_when_18 (fun _ => ?_) (fun _ => ?_)
  · refine v_aload_n C.1.1 0 rfl rfl dX1_when_21 ?_
    refine v_chk (fun h7 => ?_)
    refine v_hget C.1 (v := va_rf (hR u4 r5 0)) 2 0 (eq_of_beq h7) (by decide) rfl in_X3 (by decide) (Or.inr ⟨_, q255⟩) (fun _ h => h) (hF_r (ci := 2) (eq_of_beq h7) (by decide)) dX1_when_22 ?_
    refine v_deref (fun a8 e9 => ?_)
    refine v_iload_n C.1.1 2 rfl rfl dX1_when_25 ?_
    refine v_chk (fun h10 => ?_)
    refine v_haiald C.1 h10 dX1_when_26 ?_
    refine v_goto C.1.1 36 (by decide) dX1_when_27 ?_
    exact v_xiret C.1 dX1_when_36
  · refine v_aload_n C.1.1 0 rfl rfl dX1_when_30 ?_
    refine v_chk (fun h7 => ?_)
    refine v_hget C.1 (v := va_rf (hR u4 r5 1)) 2 1 (eq_of_beq h7) (by decide) rfl in_X3 (by decide) (Or.inr ⟨_, q257⟩) (fun _ h => h) (hF_r (ci := 2) (eq_of_beq h7) (by decide)) dX1_when_31 ?_
    refine v_deref (fun a8 e9 => ?_)
    refine v_iload_n C.1.1 2 rfl rfl dX1_when_34 ?_
    refine v_chk (fun h10 => ?_)
    refine v_haiald C.1 h10 dX1_when_35 ?_
    exact v_xiret C.1 dX1_when_36
theorem cwX1_when {t : TT} {G : GH} {l : Launch} {p : Program} {s : State} {m : MethodId} {args : Array Value} {meth : Method} {c : Code} {y0 : MethodName} {cc0 : ByteArray} {nL0 : Nat} {ret0 : Option FieldType} (C : CxH t G l p s m args meth c y0 cc0 nL0 ret0) {index lv mc ms K1 K2 : Nat} (hq : Cond.methodLink y0.cls index yX1_when ∈ lw_all) (hR : 425 + 1 ≤ lv) : CallW (rmH lv K1 K2) s args y0.cls RX1 index yX1_when cX1_when 4 (some .int) (ws_ yX1_when cX1_when 4 (some .int)) (rmH 425 mc ms) mc ms 2 :=
  cwV 2 C.1.2.2.2.2.1 (lw_V hq q1421 q1422 q121 q1423) rfl rfl rfl (by decide +kernel) ⟨hR, by show 8 + (4 + 11) + 100 * 425 ≤ 100 * lv; omega⟩
def hX1_found_2_39 (p0 : Nat) (p1 : Int32) (k : Nat → Int32 → Int32 → HS → Option (OH (PX Int32))) (x2 : Nat) (x3 : Int32) (x4 : Int32) (u : HS) : Option (OH (PX Int32)) :=
  if x3 ≤ x4 then
    hret (.inl (-1)) u
  else
    mchk (hC u x2 == 3) <|
    hb (hX3_morning x2 u) fun r2 u1 =>
    mchk (hC u1 r2 == 3) <|
    hb (hX1_isOf (hI u1 r2 7) p1 u1) fun r6 u5 =>
    if r6 = 0 then
      k x2 x3 (x4 + 1) u5
    else
      mchk (hC u5 x2 == 3) <|
      hret (.inl ((hI u5 x2 6) - 1)) u5
theorem whX1_found_2_39 {K1 K2 : Nat} {p : Program} {e : Env} {s : State} {m : MethodId} {args : Array Value} {below : List Frame} {meth : Method} {c : Code} (hl0 : l.stackTraces = false) (C : CxX t G l p s m args meth c yX1_found_2 cX1_found_2 5 (some .int)) (p0 : Nat) (p1 : Int32) (n : Nat) (x2 : Nat) (x3 : Int32) (x4 : Int32) (u : HS) : VX mkI t G p l e 423 K1 K2 s m args below meth c 5 39 [(1, .int p1), (2, .ref x2), (3, .int x3), (4, .int x4)] [] u (ml3 (hX1_found_2_39 p0 p1) n x2 x3 x4 u) := by
  refine vl3 (L := fun x2 x3 x4 => [(1, .int p1), (2, .ref x2), (3, .int x3), (4, .int x4)]) (fun k hk x2 x3 x4 u => ?_) n x2 x3 x4 u
  unfold hX1_found_2_39
  refine v_iload C.1.1 3 rfl dX1_found_2_39 ?_
  refine v_iload_n C.1.1 2 rfl rfl dX1_found_2_41 ?_
  refine v_icmp_ge C.1.1 72 (by decide) dX1_found_2_42 (fun _ => ?_) (fun _ => ?_)
  · refine v_iconst C.1.1 (-1) (by decide) dX1_found_2_72 ?_
    exact v_xiret C.1 dX1_found_2_73
  · refine v_aload_n C.1.1 1 rfl rfl dX1_found_2_45 ?_
    refine v_chk (fun h3 => ?_)
    refine v_callVH C.1 [] [] (ctX3_morning t G l hl0 x2 u) (fun _ _ => cwX3_morning C.1 q695 (by decide)) (recO C.1 (ci := 2) (eq_of_beq h3) (by decide) rfl) rfl rfl (by exact Nat.le_of_ble_eq_true rfl) dX1_found_2_46 (fun r2 u1 => ?_)
    refine v_chk (fun h4 => ?_)
    refine v_hget C.1 (v := .int (hI u1 r2 7)) 2 7 (eq_of_beq h4) (by decide) rfl in_X3 (by decide) (Or.inr ⟨_, q271⟩) (fun _ h => h) (hF_i (ci := 2) (eq_of_beq h4) (by decide)) dX1_found_2_49 ?_
    refine v_iload_n C.1.1 0 rfl rfl dX1_found_2_52 ?_
    refine v_callSH C.1 [.int (hI u1 r2 7), .int p1] [] (ctX1_isOf t G l hl0 (hI u1 r2 7) p1 u1) (fun _ _ => cwX1_isOf C.1 q1323 (by decide)) rfl rfl (by exact Nat.le_of_ble_eq_true rfl) dX1_found_2_53 (fun r6 u5 => ?_)
    refine v_if_eq C.1.1 66 (by decide) dX1_found_2_56 (fun _ => ?_) (fun _ => ?_)
    · refine v_iinc C.1.1 1 [(4, .int (x4 + 1)), (1, .int p1), (2, .ref x2), (3, .int x3)] 3 rfl (by decide) (by decide) rfl dX1_found_2_66 ?_
      refine v_goto C.1.1 39 (by decide) dX1_found_2_69 ?_
      refine v_sub [1, 2, 3, 0] rfl ?_
      exact hk x2 x3 (x4 + 1) u5
    · refine v_aload_n C.1.1 1 rfl rfl dX1_found_2_59 ?_
      refine v_chk (fun h7 => ?_)
      refine v_hget C.1 (v := .int (hI u5 x2 6)) 2 6 (eq_of_beq h7) (by decide) rfl in_X3 (by decide) (Or.inr ⟨_, q269⟩) (fun _ h => h) (hF_i (ci := 2) (eq_of_beq h7) (by decide)) dX1_found_2_60 ?_
      refine v_iconst C.1.1 1 (by decide) dX1_found_2_63 ?_
      refine v_isub C.1.1 dX1_found_2_64 ?_
      exact v_xiret C.1 dX1_found_2_65
def hX1_found_2 (p0 : Nat) (p1 : Int32) (u : HS) : Option (OH (PX Int32)) :=
  mchk (hC u p0 == 1) <|
  hx (hX1_aPerson p0 p1 u) fun _ u1 =>
  mchk (hC u1 p0 == 1) <|
  mderef (hR u1 p0 3) fun a4 =>
  mchk (hC u1 a4 == 3) <|
  hb (hX1_isOf (hI u1 a4 7) p1 u1) fun r8 u7 =>
  if r8 = 0 then
    mchk (hC u7 p0 == 1) <|
    mderef (hR u7 p0 3) fun a10 =>
    mchk (hC u7 a10 == 3) <|
    hb (hX3_copy a10 u7) fun r13 u12 =>
    mchk (hC u12 r13 == 3) <|
    hb (hX3_ahead r13 30 u12) fun r16 u15 =>
    ml3 (hX1_found_2_39 p0 p1) FUEL r13 r16 0 u15
  else
    hret (.inl (-1)) u7
theorem ctX1_found_2 (t : TT) (G : GH) (l : Launch) (hl0 : l.stackTraces = false) (p0 : Nat) (p1 : Int32) (u : HS) : CtX mkI t G l yX1_found_2 cX1_found_2 5 (some .int) 423 [.ref p0, .int p1] u (hX1_found_2 p0 p1 u) := by
  refine ctX_of [(0, .ref p0), (1, .int p1)] hl0 rfl (Nat.le_of_ble_eq_true rfl) rfl (fun K1 K2 p e s m args below meth c C => ?_)
  unfold hX1_found_2
  refine v_aload_n C.1.1 0 rfl rfl dX1_found_2_0 ?_
  refine v_iload_n C.1.1 1 rfl rfl dX1_found_2_1 ?_
  refine v_chk (fun h2 => ?_)
  refine v_callVX C [.int p1] [] (ctX1_aPerson t G l hl0 p0 p1 u) (fun _ _ => cwX1_aPerson C.1 q1380 (by decide)) (recO C.1 (ci := 0) (eq_of_beq h2) (by decide) rfl) rfl rfl (by exact Nat.le_of_ble_eq_true rfl) dX1_found_2_2 (fun _ u1 => ?_)
  refine v_aload_n C.1.1 0 rfl rfl dX1_found_2_5 ?_
  refine v_chk (fun h3 => ?_)
  refine v_hget C.1 (v := va_rf (hR u1 p0 3)) 0 3 (eq_of_beq h3) (by decide) rfl in_X1 (by decide) (Or.inl q312) (fun _ h => h) (hF_r (ci := 0) (eq_of_beq h3) (by decide)) dX1_found_2_6 ?_
  refine v_deref (fun a4 e5 => ?_)
  refine v_chk (fun h6 => ?_)
  refine v_hget C.1 (v := .int (hI u1 a4 7)) 2 7 (eq_of_beq h6) (by decide) rfl in_X3 (by decide) (Or.inr ⟨_, q271⟩) (fun _ h => h) (hF_i (ci := 2) (eq_of_beq h6) (by decide)) dX1_found_2_9 ?_
  refine v_iload_n C.1.1 1 rfl rfl dX1_found_2_12 ?_
  refine v_callSH C.1 [.int (hI u1 a4 7), .int p1] [] (ctX1_isOf t G l hl0 (hI u1 a4 7) p1 u1) (fun _ _ => cwX1_isOf C.1 q1323 (by decide)) rfl rfl (by exact Nat.le_of_ble_eq_true rfl) dX1_found_2_13 (fun r8 u7 => ?_)
  refine v_if_eq C.1.1 21 (by decide) dX1_found_2_16 (fun _ => ?_) (fun _ => ?_)
  · refine v_aload_n C.1.1 0 rfl rfl dX1_found_2_21 ?_
    refine v_chk (fun h9 => ?_)
    refine v_hget C.1 (v := va_rf (hR u7 p0 3)) 0 3 (eq_of_beq h9) (by decide) rfl in_X1 (by decide) (Or.inl q312) (fun _ h => h) (hF_r (ci := 0) (eq_of_beq h9) (by decide)) dX1_found_2_22 ?_
    refine v_deref (fun a10 e11 => ?_)
    refine v_chk (fun h14 => ?_)
    refine v_callVH C.1 [] [] (ctX3_copy t G l hl0 a10 u7) (fun _ _ => cwX3_copy C.1 q377 (by decide)) (recO C.1 (ci := 2) (eq_of_beq h14) (by decide) rfl) rfl rfl (by exact Nat.le_of_ble_eq_true rfl) dX1_found_2_25 (fun r13 u12 => ?_)
    refine v_astore_n C.1.1 [(2, .ref r13), (0, .ref p0), (1, .int p1)] rfl (by decide) rfl dX1_found_2_28 ?_
    refine v_aload_n C.1.1 0 rfl rfl dX1_found_2_29 ?_
    refine v_bipush C.1.1 30 (by decide) dX1_found_2_30 ?_
    refine v_chk (fun h17 => ?_)
    refine v_callVH C.1 [.int 30] [] (ctX3_ahead t G l hl0 r13 30 u12) (fun _ _ => cwX3_ahead C.1 q694 (by decide)) (recO C.1 (ci := 2) (eq_of_beq h17) (by decide) rfl) rfl rfl (by exact Nat.le_of_ble_eq_true rfl) dX1_found_2_32 (fun r16 u15 => ?_)
    refine v_istore_n C.1.1 [(3, .int r16), (2, .ref r13), (0, .ref p0), (1, .int p1)] rfl (by decide) rfl dX1_found_2_35 ?_
    refine v_iconst C.1.1 0 (by decide) dX1_found_2_36 ?_
    refine v_istore C.1.1 [(4, .int 0), (3, .int r16), (2, .ref r13), (0, .ref p0), (1, .int p1)] (by decide) rfl dX1_found_2_37 ?_
    refine v_sub [4, 2, 1, 0] rfl ?_
    exact whX1_found_2_39 hl0 C p0 p1 FUEL r13 r16 0 u15
  · refine v_iconst C.1.1 (-1) (by decide) dX1_found_2_19 ?_
    exact v_xiret C.1 dX1_found_2_20
theorem cwX1_found_2 {t : TT} {G : GH} {l : Launch} {p : Program} {s : State} {m : MethodId} {args : Array Value} {meth : Method} {c : Code} {y0 : MethodName} {cc0 : ByteArray} {nL0 : Nat} {ret0 : Option FieldType} (C : CxH t G l p s m args meth c y0 cc0 nL0 ret0) {index lv mc ms K1 K2 : Nat} (hq : Cond.methodLink y0.cls index yX1_found_2 ∈ lw_all) (hR : 423 + 1 ≤ lv) : CallW (rmH lv K1 K2) s args y0.cls RX1 index yX1_found_2 cX1_found_2 5 (some .int) (ws_ yX1_found_2 cX1_found_2 5 (some .int)) (rmH 423 mc ms) mc ms 1 :=
  cwV 1 C.1.2.2.2.2.1 (lw_V hq q1428 q1429 q121 q1430) rfl rfl rfl (by decide +kernel) ⟨hR, by show 8 + (5 + 11) + 100 * 423 ≤ 100 * lv; omega⟩
def hX1_next_9 (p0 : Nat) (p1 : Int32) (s0 : Int32) (u : HS) : Option (OH (PX Int32)) :=
  hx (hX1_right s0 u) fun _ u1 =>
  mchk (hC u1 p0 == 1) <|
  hb (hX1_later p0 30 u1) fun r3 u2 =>
  mchk (hC u2 r3 == 3) <|
  mderef (hR u2 r3 5) fun a6 =>
  mchk (hC u2 a6 == 12) <|
  hb (hJ2_size a6 u2) fun r9 u8 =>
  if r9 ≤ p1 then
    hret (.inl (-1)) u8
  else
    mchk (hC u8 a6 == 12) <|
    hb (hJ2_get a6 p1 u8) fun r12 u11 =>
    mchk (hC u11 r12 == 31) <|
    mchk (hC u11 r12 == 31) <|
    hb (hJ16_intValue r12 u11) fun r16 u15 =>
    hret (.inl r16) u15
theorem whX1_next_9 {K1 K2 : Nat} {p : Program} {e : Env} {s : State} {m : MethodId} {args : Array Value} {below : List Frame} {meth : Method} {c : Code} (hl0 : l.stackTraces = false) (C : CxX t G l p s m args meth c yX1_next cX1_next 3 (some .int)) (p0 : Nat) (p1 : Int32) (s0 : Int32) (u : HS) : VX mkI t G p l e 425 K1 K2 s m args below meth c 3 9 [(0, .ref p0), (1, .int p1)] [.int s0] u (hX1_next_9 p0 p1 s0 u) := by
  unfold hX1_next_9
  refine v_callSX C [.int s0] [] (ctX1_right t G l hl0 s0 u) (fun _ _ => cwX1_right C.1 q760 (by decide)) rfl rfl (by exact Nat.le_of_ble_eq_true rfl) dX1_next_9 (fun _ u1 => ?_)
  refine v_aload_n C.1.1 0 rfl rfl dX1_next_12 ?_
  refine v_bipush C.1.1 30 (by decide) dX1_next_13 ?_
  refine v_chk (fun h4 => ?_)
  refine v_callVH C.1 [.int 30] [] (ctX1_later t G l hl0 p0 30 u1) (fun _ _ => cwX1_later C.1 q704 (by decide)) (recO C.1 (ci := 0) (eq_of_beq h4) (by decide) rfl) rfl rfl (by exact Nat.le_of_ble_eq_true rfl) dX1_next_15 (fun r3 u2 => ?_)
  refine v_chk (fun h5 => ?_)
  refine v_hget C.1 (v := va_rf (hR u2 r3 5)) 2 5 (eq_of_beq h5) (by decide) rfl in_X3 (by decide) (Or.inr ⟨_, q267⟩) (fun _ h => h) (hF_r (ci := 2) (eq_of_beq h5) (by decide)) dX1_next_18 ?_
  refine v_deref (fun a6 e7 => ?_)
  refine v_astore_n C.1.1 [(2, .ref a6), (0, .ref p0), (1, .int p1)] rfl (by decide) rfl dX1_next_21 ?_
  refine v_iload_n C.1.1 2 rfl rfl dX1_next_22 ?_
  refine v_aload_n C.1.1 0 rfl rfl dX1_next_23 ?_
  refine v_chk (fun h10 => ?_)
  refine v_callFH C.1 [] [.int p1] (ctJ2_size t G l hl0 a6 u2) (fun _ _ => cwJ2_sizeF C.1 q453 (by decide)) (eq_of_beq h10) (by decide) rfl rfl rfl (by exact Nat.le_of_ble_eq_true rfl) dX1_next_24 (fun r9 u8 => ?_)
  refine v_icmp_ge C.1.1 48 (by decide) dX1_next_29 (fun _ => ?_) (fun _ => ?_)
  · refine v_iconst C.1.1 (-1) (by decide) dX1_next_48 ?_
    exact v_xiret C.1 dX1_next_49
  · refine v_aload_n C.1.1 0 rfl rfl dX1_next_32 ?_
    refine v_iload_n C.1.1 2 rfl rfl dX1_next_33 ?_
    refine v_chk (fun h13 => ?_)
    refine v_callFH C.1 [.int p1] [] (ctJ2_get t G l hl0 a6 p1 u8) (fun _ _ => cwJ2_getF C.1 q1368 (by decide)) (eq_of_beq h13) (by decide) rfl rfl rfl (by exact Nat.le_of_ble_eq_true rfl) dX1_next_34 (fun r12 u11 => ?_)
    refine v_chk (fun h14 => ?_)
    refine v_hcastB C.1 (eq_of_beq h14) q1369 dX1_next_39 ?_
    refine v_chk (fun h17 => ?_)
    refine v_callVH C.1 [] [] (ctJ16_intValue t G l hl0 r12 u11) (fun _ _ => cwJ16_intValue C.1 q1370 (by decide)) (recB C.1 (eq_of_beq h17)) rfl rfl (by exact Nat.le_of_ble_eq_true rfl) dX1_next_42 (fun r16 u15 => ?_)
    refine v_goto C.1.1 49 (by decide) dX1_next_45 ?_
    exact v_xiret C.1 dX1_next_49
def hX1_next (p0 : Nat) (p1 : Int32) (u : HS) : Option (OH (PX Int32)) :=
  if p1 < 0 then
    hX1_next_9 p0 p1 0 u
  else
    hX1_next_9 p0 p1 1 u
theorem ctX1_next (t : TT) (G : GH) (l : Launch) (hl0 : l.stackTraces = false) (p0 : Nat) (p1 : Int32) (u : HS) : CtX mkI t G l yX1_next cX1_next 3 (some .int) 425 [.ref p0, .int p1] u (hX1_next p0 p1 u) := by
  refine ctX_of [(0, .ref p0), (1, .int p1)] hl0 rfl (Nat.le_of_ble_eq_true rfl) rfl (fun K1 K2 p e s m args below meth c C => ?_)
  unfold hX1_next
  refine v_iload_n C.1.1 1 rfl rfl dX1_next_0 ?_
  refine v_if_lt C.1.1 8 (by decide) dX1_next_1 (fun _ => ?_) (fun _ => ?_)
  · refine v_iconst C.1.1 0 (by decide) dX1_next_8 ?_
    exact whX1_next_9 hl0 C p0 p1 0 u
  · refine v_iconst C.1.1 1 (by decide) dX1_next_4 ?_
    refine v_goto C.1.1 9 (by decide) dX1_next_5 ?_
    exact whX1_next_9 hl0 C p0 p1 1 u
theorem cwX1_next {t : TT} {G : GH} {l : Launch} {p : Program} {s : State} {m : MethodId} {args : Array Value} {meth : Method} {c : Code} {y0 : MethodName} {cc0 : ByteArray} {nL0 : Nat} {ret0 : Option FieldType} (C : CxH t G l p s m args meth c y0 cc0 nL0 ret0) {index lv mc ms K1 K2 : Nat} (hq : Cond.methodLink y0.cls index yX1_next ∈ lw_all) (hR : 425 + 1 ≤ lv) : CallW (rmH lv K1 K2) s args y0.cls RX1 index yX1_next cX1_next 3 (some .int) (ws_ yX1_next cX1_next 3 (some .int)) (rmH 425 mc ms) mc ms 1 :=
  cwV 1 C.1.2.2.2.2.1 (lw_V hq q1435 q1436 q121 q1437) rfl rfl rfl (by decide +kernel) ⟨hR, by show 8 + (3 + 11) + 100 * 425 ≤ 100 * lv; omega⟩
def hX1_owes (p0 : Nat) (p1 : Int32) (p2 : Int32) (u : HS) : Option (OH (PX Int32)) :=
  mchk (hC u p0 == 1) <|
  hx (hX1_aMaster p0 p1 u) fun _ u1 =>
  hb (hX1_in p2 0 30 u1) fun r4 u3 =>
  hx (hX1_right r4 u3) fun _ u5 =>
  mchk (hC u5 p0 == 1) <|
  hb (hX1_later p0 p2 u5) fun r7 u6 =>
  mchk (hC u6 r7 == 3) <|
  mderef (hR u6 r7 3) fun a10 =>
  mchk (inA u6 p1 a10 21) <|
  hret (.inl (hA u6 a10 p1.toNatClampNeg)) u6
theorem ctX1_owes (t : TT) (G : GH) (l : Launch) (hl0 : l.stackTraces = false) (p0 : Nat) (p1 : Int32) (p2 : Int32) (u : HS) : CtX mkI t G l yX1_owes cX1_owes 3 (some .int) 425 [.ref p0, .int p1, .int p2] u (hX1_owes p0 p1 p2 u) := by
  refine ctX_of [(0, .ref p0), (1, .int p1), (2, .int p2)] hl0 rfl (Nat.le_of_ble_eq_true rfl) rfl (fun K1 K2 p e s m args below meth c C => ?_)
  unfold hX1_owes
  refine v_aload_n C.1.1 0 rfl rfl dX1_owes_0 ?_
  refine v_iload_n C.1.1 1 rfl rfl dX1_owes_1 ?_
  refine v_chk (fun h2 => ?_)
  refine v_callVX C [.int p1] [] (ctX1_aMaster t G l hl0 p0 p1 u) (fun _ _ => cwX1_aMaster C.1 q1349 (by decide)) (recO C.1 (ci := 0) (eq_of_beq h2) (by decide) rfl) rfl rfl (by exact Nat.le_of_ble_eq_true rfl) dX1_owes_2 (fun _ u1 => ?_)
  refine v_iload_n C.1.1 2 rfl rfl dX1_owes_5 ?_
  refine v_iconst C.1.1 0 (by decide) dX1_owes_6 ?_
  refine v_bipush C.1.1 30 (by decide) dX1_owes_7 ?_
  refine v_callSH C.1 [.int p2, .int 0, .int 30] [] (ctX1_in t G l hl0 p2 0 30 u1) (fun _ _ => cwX1_in C.1 q366 (by decide)) rfl rfl (by exact Nat.le_of_ble_eq_true rfl) dX1_owes_9 (fun r4 u3 => ?_)
  refine v_callSX C [.int r4] [] (ctX1_right t G l hl0 r4 u3) (fun _ _ => cwX1_right C.1 q760 (by decide)) rfl rfl (by exact Nat.le_of_ble_eq_true rfl) dX1_owes_12 (fun _ u5 => ?_)
  refine v_aload_n C.1.1 0 rfl rfl dX1_owes_15 ?_
  refine v_iload_n C.1.1 2 rfl rfl dX1_owes_16 ?_
  refine v_chk (fun h8 => ?_)
  refine v_callVH C.1 [.int p2] [] (ctX1_later t G l hl0 p0 p2 u5) (fun _ _ => cwX1_later C.1 q704 (by decide)) (recO C.1 (ci := 0) (eq_of_beq h8) (by decide) rfl) rfl rfl (by exact Nat.le_of_ble_eq_true rfl) dX1_owes_17 (fun r7 u6 => ?_)
  refine v_chk (fun h9 => ?_)
  refine v_hget C.1 (v := va_rf (hR u6 r7 3)) 2 3 (eq_of_beq h9) (by decide) rfl in_X3 (by decide) (Or.inr ⟨_, q262⟩) (fun _ h => h) (hF_r (ci := 2) (eq_of_beq h9) (by decide)) dX1_owes_20 ?_
  refine v_deref (fun a10 e11 => ?_)
  refine v_iload_n C.1.1 1 rfl rfl dX1_owes_23 ?_
  refine v_chk (fun h12 => ?_)
  refine v_haiald C.1 h12 dX1_owes_24 ?_
  exact v_xiret C.1 dX1_owes_25
theorem cwX1_owes {t : TT} {G : GH} {l : Launch} {p : Program} {s : State} {m : MethodId} {args : Array Value} {meth : Method} {c : Code} {y0 : MethodName} {cc0 : ByteArray} {nL0 : Nat} {ret0 : Option FieldType} (C : CxH t G l p s m args meth c y0 cc0 nL0 ret0) {index lv mc ms K1 K2 : Nat} (hq : Cond.methodLink y0.cls index yX1_owes ∈ lw_all) (hR : 425 + 1 ≤ lv) : CallW (rmH lv K1 K2) s args y0.cls RX1 index yX1_owes cX1_owes 3 (some .int) (ws_ yX1_owes cX1_owes 3 (some .int)) (rmH 425 mc ms) mc ms 2 :=
  cwV 2 C.1.2.2.2.2.1 (lw_V hq q1442 q1443 q121 q1444) rfl rfl rfl (by decide +kernel) ⟨hR, by show 8 + (3 + 11) + 100 * 425 ≤ 100 * lv; omega⟩
def hJ16_equals (p0 : Nat) (p1 : Nat) (u : HS) : Option (OH Int32) :=
  mchk (hC u p1 == 31) <|
  if (1 : Int32) = 0 then
    hz id 0 u
  else
    mchk (hC u p0 == 31) <|
    mchk (hC u p1 == 31) <|
    mchk (hC u p1 == 31) <|
    hb (hJ16_intValue p1 u) fun r5 u4 =>
    if (hI u p0 0) = r5 then
      hz id 1 u4
    else
      hz id 0 u4
theorem ctJ16_equals (t : TT) (G : GH) (l : Launch) (hl0 : l.stackTraces = false) (p0 : Nat) (p1 : Nat) (u : HS) : CtH mkI t G l yJ16_equals cJ16_equals 2 (some .boolean) 3 [.ref p0, .ref p1] u (hJ16_equals p0 p1 u) := by
  refine ctH_of [(0, .ref p0), (1, .ref p1)] hl0 rfl (Nat.le_of_ble_eq_true rfl) rfl (fun K1 K2 p e s m args below meth c C => ?_)
  unfold hJ16_equals
  refine v_aload_n C.1 1 rfl rfl dJ16_equals_0 ?_
  refine v_chk (fun h1 => ?_)
  refine v_hinstB C (eq_of_beq h1) q618 dJ16_equals_1 ?_
  refine v_if_eq C.1 27 (by decide) dJ16_equals_4 (fun _ => ?_) (fun _ => ?_)
  · refine v_iconst C.1 0 (by decide) dJ16_equals_27 ?_
    exact v_hzret C dJ16_equals_28
  · refine v_aload_n C.1 0 rfl rfl dJ16_equals_7 ?_
    refine v_chk (fun h2 => ?_)
    refine v_hgetB C (eq_of_beq h2) q627 dJ16_equals_8 ?_
    refine v_aload_n C.1 1 rfl rfl dJ16_equals_11 ?_
    refine v_chk (fun h3 => ?_)
    refine v_hcastB C (eq_of_beq h3) q618 dJ16_equals_12 ?_
    refine v_chk (fun h6 => ?_)
    refine v_callVH C [] [.int (hI u p0 0)] (ctJ16_intValue t G l hl0 p1 u) (fun _ _ => cwJ16_intValue C q1456 (by decide)) (recB C (eq_of_beq h6)) rfl rfl (by exact Nat.le_of_ble_eq_true rfl) dJ16_equals_15 (fun r5 u4 => ?_)
    refine v_icmp_ne C.1 25 (by decide) dJ16_equals_18 (fun _ => ?_) (fun _ => ?_)
    · refine v_iconst C.1 1 (by decide) dJ16_equals_21 ?_
      refine v_goto C.1 26 (by decide) dJ16_equals_22 ?_
      exact v_hzret C dJ16_equals_26
    · refine v_iconst C.1 0 (by decide) dJ16_equals_25 ?_
      exact v_hzret C dJ16_equals_26
theorem cwJ16_equals {t : TT} {G : GH} {l : Launch} {p : Program} {s : State} {m : MethodId} {args : Array Value} {meth : Method} {c : Code} {y0 : MethodName} {cc0 : ByteArray} {nL0 : Nat} {ret0 : Option FieldType} (C : CxH t G l p s m args meth c y0 cc0 nL0 ret0) {index lv mc ms K1 K2 : Nat} (hq : Cond.methodLink y0.cls index yJ16_equals ∈ lw_all) (hR : 3 + 1 ≤ lv) : CallW (rmH lv K1 K2) s args y0.cls RJ16 index yJ16_equals cJ16_equals 2 (some .boolean) (ws_ yJ16_equals cJ16_equals 2 (some .boolean)) (rmH 3 mc ms) mc ms 1 :=
  cwV 1 C.1.2.2.2.2.1 (lw_V hq q1453 q1454 q144 q1455) rfl rfl rfl (by decide +kernel) ⟨hR, by show 8 + (2 + 11) + 100 * 3 ≤ 100 * lv; omega⟩
def hX1_instead_98 (p0 : Nat) (p1 : Int32) (x3 : Nat) (x4 : Int32) (u : HS) : Option (OH (PX Int32)) :=
  mchk (hC u x3 == 12) <|
  hb (hJ2_get x3 x4 u) fun r2 u1 =>
  mchk (hC u1 r2 == 31) <|
  mchk (hC u1 r2 == 31) <|
  hb (hJ16_intValue r2 u1) fun r6 u5 =>
  hret (.inl r6) u5
theorem whX1_instead_98 {K1 K2 : Nat} {p : Program} {e : Env} {s : State} {m : MethodId} {args : Array Value} {below : List Frame} {meth : Method} {c : Code} (hl0 : l.stackTraces = false) (C : CxX t G l p s m args meth c yX1_instead cX1_instead 5 (some .int)) (p0 : Nat) (p1 : Int32) (x3 : Nat) (x4 : Int32) (u : HS) : VX mkI t G p l e 425 K1 K2 s m args below meth c 5 98 [(3, .ref x3), (4, .int x4)] [] u (hX1_instead_98 p0 p1 x3 x4 u) := by
  unfold hX1_instead_98
  refine v_aload_n C.1.1 0 rfl rfl dX1_instead_98 ?_
  refine v_iload C.1.1 1 rfl dX1_instead_99 ?_
  refine v_chk (fun h3 => ?_)
  refine v_callFH C.1 [.int x4] [] (ctJ2_get t G l hl0 x3 x4 u) (fun _ _ => cwJ2_getF C.1 q1368 (by decide)) (eq_of_beq h3) (by decide) rfl rfl rfl (by exact Nat.le_of_ble_eq_true rfl) dX1_instead_101 (fun r2 u1 => ?_)
  refine v_chk (fun h4 => ?_)
  refine v_hcastB C.1 (eq_of_beq h4) q1369 dX1_instead_106 ?_
  refine v_chk (fun h7 => ?_)
  refine v_callVH C.1 [] [] (ctJ16_intValue t G l hl0 r2 u1) (fun _ _ => cwJ16_intValue C.1 q1370 (by decide)) (recB C.1 (eq_of_beq h7)) rfl rfl (by exact Nat.le_of_ble_eq_true rfl) dX1_instead_109 (fun r6 u5 => ?_)
  exact v_xiret C.1 dX1_instead_112
def hX1_instead_51 (p0 : Nat) (p1 : Int32) (k : Nat → Nat → Int32 → HS → Option (OH (PX Int32))) (x2 : Nat) (x3 : Nat) (x4 : Int32) (u : HS) : Option (OH (PX Int32)) :=
  mchk (hC u x3 == 12) <|
  hb (hJ2_size x3 u) fun r2 u1 =>
  if r2 ≤ x4 then
    hret (.inl (-1)) u1
  else
    mchk (hC u1 x2 == 12) <|
    hb (hJ2_size x2 u1) fun r5 u4 =>
    if r5 ≤ x4 then
      hX1_instead_98 p0 p1 x3 x4 u4
    else
      mchk (hC u4 x3 == 12) <|
      hb (hJ2_get x3 x4 u4) fun r8 u7 =>
      mchk (hC u7 r8 == 31) <|
      mchk (hC u7 x2 == 12) <|
      hb (hJ2_get x2 x4 u7) fun r12 u11 =>
      mchk (hC u11 r8 == 31) <|
      hb (hJ16_equals r8 r12 u11) fun r15 u14 =>
      if r15 = 0 then
        hX1_instead_98 p0 p1 x3 x4 u14
      else
        k x2 x3 (x4 + 1) u14
theorem whX1_instead_51 {K1 K2 : Nat} {p : Program} {e : Env} {s : State} {m : MethodId} {args : Array Value} {below : List Frame} {meth : Method} {c : Code} (hl0 : l.stackTraces = false) (C : CxX t G l p s m args meth c yX1_instead cX1_instead 5 (some .int)) (p0 : Nat) (p1 : Int32) (n : Nat) (x2 : Nat) (x3 : Nat) (x4 : Int32) (u : HS) : VX mkI t G p l e 425 K1 K2 s m args below meth c 5 51 [(2, .ref x2), (3, .ref x3), (4, .int x4)] [] u (ml3 (hX1_instead_51 p0 p1) n x2 x3 x4 u) := by
  refine vl3 (L := fun x2 x3 x4 => [(2, .ref x2), (3, .ref x3), (4, .int x4)]) (fun k hk x2 x3 x4 u => ?_) n x2 x3 x4 u
  unfold hX1_instead_51
  refine v_iload C.1.1 2 rfl dX1_instead_51 ?_
  refine v_aload_n C.1.1 1 rfl rfl dX1_instead_53 ?_
  refine v_chk (fun h3 => ?_)
  refine v_callFH C.1 [] [.int x4] (ctJ2_size t G l hl0 x3 u) (fun _ _ => cwJ2_sizeF C.1 q453 (by decide)) (eq_of_beq h3) (by decide) rfl rfl rfl (by exact Nat.le_of_ble_eq_true rfl) dX1_instead_54 (fun r2 u1 => ?_)
  refine v_icmp_ge C.1.1 119 (by decide) dX1_instead_59 (fun _ => ?_) (fun _ => ?_)
  · refine v_iconst C.1.1 (-1) (by decide) dX1_instead_119 ?_
    exact v_xiret C.1 dX1_instead_120
  · refine v_iload C.1.1 2 rfl dX1_instead_62 ?_
    refine v_aload_n C.1.1 0 rfl rfl dX1_instead_64 ?_
    refine v_chk (fun h6 => ?_)
    refine v_callFH C.1 [] [.int x4] (ctJ2_size t G l hl0 x2 u1) (fun _ _ => cwJ2_sizeF C.1 q453 (by decide)) (eq_of_beq h6) (by decide) rfl rfl rfl (by exact Nat.le_of_ble_eq_true rfl) dX1_instead_65 (fun r5 u4 => ?_)
    refine v_icmp_ge C.1.1 98 (by decide) dX1_instead_70 (fun _ => ?_) (fun _ => ?_)
    · refine v_sub [1, 2] rfl ?_
      exact whX1_instead_98 hl0 C p0 p1 x3 x4 u4
    · refine v_aload_n C.1.1 1 rfl rfl dX1_instead_73 ?_
      refine v_iload C.1.1 2 rfl dX1_instead_74 ?_
      refine v_chk (fun h9 => ?_)
      refine v_callFH C.1 [.int x4] [] (ctJ2_get t G l hl0 x3 x4 u4) (fun _ _ => cwJ2_getF C.1 q1368 (by decide)) (eq_of_beq h9) (by decide) rfl rfl rfl (by exact Nat.le_of_ble_eq_true rfl) dX1_instead_76 (fun r8 u7 => ?_)
      refine v_chk (fun h10 => ?_)
      refine v_hcastB C.1 (eq_of_beq h10) q1369 dX1_instead_81 ?_
      refine v_aload_n C.1.1 0 rfl rfl dX1_instead_84 ?_
      refine v_iload C.1.1 2 rfl dX1_instead_85 ?_
      refine v_chk (fun h13 => ?_)
      refine v_callFH C.1 [.int x4] [.ref r8] (ctJ2_get t G l hl0 x2 x4 u7) (fun _ _ => cwJ2_getF C.1 q1368 (by decide)) (eq_of_beq h13) (by decide) rfl rfl rfl (by exact Nat.le_of_ble_eq_true rfl) dX1_instead_87 (fun r12 u11 => ?_)
      refine v_chk (fun h16 => ?_)
      refine v_callVH C.1 [.ref r12] [] (ctJ16_equals t G l hl0 r8 r12 u11) (fun _ _ => cwJ16_equals C.1 q1452 (by decide)) (recB C.1 (eq_of_beq h16)) rfl rfl (by exact Nat.le_of_ble_eq_true rfl) dX1_instead_92 (fun r15 u14 => ?_)
      refine v_if_ne C.1.1 113 (by decide) dX1_instead_95 (fun _ => ?_) (fun _ => ?_)
      · refine v_sub [1, 2] rfl ?_
        exact whX1_instead_98 hl0 C p0 p1 x3 x4 u14
      · refine v_iinc C.1.1 1 [(4, .int (x4 + 1)), (2, .ref x2), (3, .ref x3)] 2 rfl (by decide) (by decide) rfl dX1_instead_113 ?_
        refine v_goto C.1.1 51 (by decide) dX1_instead_116 ?_
        refine v_sub [1, 2, 0] rfl ?_
        exact hk x2 x3 (x4 + 1) u14
def hX1_instead (p0 : Nat) (p1 : Int32) (u : HS) : Option (OH (PX Int32)) :=
  mchk (hC u p0 == 1) <|
  hx (hX1_aPerson p0 p1 u) fun _ u1 =>
  mchk (hC u1 p0 == 1) <|
  mderef (hR u1 p0 3) fun a4 =>
  mchk (hC u1 a4 == 3) <|
  hb (hX3_isListed a4 p1 u1) fun r7 u6 =>
  if r7 = 0 then
    mchk (hC u6 p0 == 1) <|
    hb (hX1_later p0 30 u6) fun r10 u9 =>
    mchk (hC u9 r10 == 3) <|
    mderef (hR u9 r10 5) fun a13 =>
    mchk (hC u9 p0 == 1) <|
    mlet (uI u9 p0 1 p1) fun u16 =>
    mchk (hC u16 p0 == 1) <|
    hb (hX1_later p0 30 u16) fun r18 u17 =>
    mchk (hC u17 r18 == 3) <|
    mderef (hR u17 r18 5) fun a21 =>
    mchk (hC u17 p0 == 1) <|
    mlet (uI u17 p0 1 (-1)) fun u24 =>
    ml3 (hX1_instead_51 p0 p1) FUEL a13 a21 0 u24
  else
    hret (.inl (-1)) u6
theorem ctX1_instead (t : TT) (G : GH) (l : Launch) (hl0 : l.stackTraces = false) (p0 : Nat) (p1 : Int32) (u : HS) : CtX mkI t G l yX1_instead cX1_instead 5 (some .int) 425 [.ref p0, .int p1] u (hX1_instead p0 p1 u) := by
  refine ctX_of [(0, .ref p0), (1, .int p1)] hl0 rfl (Nat.le_of_ble_eq_true rfl) rfl (fun K1 K2 p e s m args below meth c C => ?_)
  unfold hX1_instead
  refine v_aload_n C.1.1 0 rfl rfl dX1_instead_0 ?_
  refine v_iload_n C.1.1 1 rfl rfl dX1_instead_1 ?_
  refine v_chk (fun h2 => ?_)
  refine v_callVX C [.int p1] [] (ctX1_aPerson t G l hl0 p0 p1 u) (fun _ _ => cwX1_aPerson C.1 q1380 (by decide)) (recO C.1 (ci := 0) (eq_of_beq h2) (by decide) rfl) rfl rfl (by exact Nat.le_of_ble_eq_true rfl) dX1_instead_2 (fun _ u1 => ?_)
  refine v_aload_n C.1.1 0 rfl rfl dX1_instead_5 ?_
  refine v_chk (fun h3 => ?_)
  refine v_hget C.1 (v := va_rf (hR u1 p0 3)) 0 3 (eq_of_beq h3) (by decide) rfl in_X1 (by decide) (Or.inl q312) (fun _ h => h) (hF_r (ci := 0) (eq_of_beq h3) (by decide)) dX1_instead_6 ?_
  refine v_deref (fun a4 e5 => ?_)
  refine v_iload_n C.1.1 1 rfl rfl dX1_instead_9 ?_
  refine v_chk (fun h8 => ?_)
  refine v_callVH C.1 [.int p1] [] (ctX3_isListed t G l hl0 a4 p1 u1) (fun _ _ => cwX3_isListed C.1 q1408 (by decide)) (recO C.1 (ci := 2) (eq_of_beq h8) (by decide) rfl) rfl rfl (by exact Nat.le_of_ble_eq_true rfl) dX1_instead_10 (fun r7 u6 => ?_)
  refine v_if_eq C.1.1 18 (by decide) dX1_instead_13 (fun _ => ?_) (fun _ => ?_)
  · refine v_aload_n C.1.1 0 rfl rfl dX1_instead_18 ?_
    refine v_bipush C.1.1 30 (by decide) dX1_instead_19 ?_
    refine v_chk (fun h11 => ?_)
    refine v_callVH C.1 [.int 30] [] (ctX1_later t G l hl0 p0 30 u6) (fun _ _ => cwX1_later C.1 q704 (by decide)) (recO C.1 (ci := 0) (eq_of_beq h11) (by decide) rfl) rfl rfl (by exact Nat.le_of_ble_eq_true rfl) dX1_instead_21 (fun r10 u9 => ?_)
    refine v_chk (fun h12 => ?_)
    refine v_hget C.1 (v := va_rf (hR u9 r10 5)) 2 5 (eq_of_beq h12) (by decide) rfl in_X3 (by decide) (Or.inr ⟨_, q267⟩) (fun _ h => h) (hF_r (ci := 2) (eq_of_beq h12) (by decide)) dX1_instead_24 ?_
    refine v_deref (fun a13 e14 => ?_)
    refine v_astore_n C.1.1 [(2, .ref a13), (0, .ref p0), (1, .int p1)] rfl (by decide) rfl dX1_instead_27 ?_
    refine v_aload_n C.1.1 1 rfl rfl dX1_instead_28 ?_
    refine v_iload_n C.1.1 2 rfl rfl dX1_instead_29 ?_
    refine v_chk (fun h15 => ?_)
    refine v_hputI C.1 0 1 (eq_of_beq h15) (by decide) rfl in_X1 tyX1 tyX1_ok nmX1 (by decide) (by decide) q308 (fun _ h => h) (Or.inl rfl) ⟨rfl, rfl⟩ dX1_instead_30 (fun u16 => ?_)
    refine v_aload_n C.1.1 1 rfl rfl dX1_instead_33 ?_
    refine v_bipush C.1.1 30 (by decide) dX1_instead_34 ?_
    refine v_chk (fun h19 => ?_)
    refine v_callVH C.1 [.int 30] [] (ctX1_later t G l hl0 p0 30 u16) (fun _ _ => cwX1_later C.1 q704 (by decide)) (recO C.1 (ci := 0) (eq_of_beq h19) (by decide) rfl) rfl rfl (by exact Nat.le_of_ble_eq_true rfl) dX1_instead_36 (fun r18 u17 => ?_)
    refine v_chk (fun h20 => ?_)
    refine v_hget C.1 (v := va_rf (hR u17 r18 5)) 2 5 (eq_of_beq h20) (by decide) rfl in_X3 (by decide) (Or.inr ⟨_, q267⟩) (fun _ h => h) (hF_r (ci := 2) (eq_of_beq h20) (by decide)) dX1_instead_39 ?_
    refine v_deref (fun a21 e22 => ?_)
    refine v_astore_n C.1.1 [(3, .ref a21), (2, .ref a13), (0, .ref p0), (1, .int p1)] rfl (by decide) rfl dX1_instead_42 ?_
    refine v_aload_n C.1.1 2 rfl rfl dX1_instead_43 ?_
    refine v_iconst C.1.1 (-1) (by decide) dX1_instead_44 ?_
    refine v_chk (fun h23 => ?_)
    refine v_hputI C.1 0 1 (eq_of_beq h23) (by decide) rfl in_X1 tyX1 tyX1_ok nmX1 (by decide) (by decide) q308 (fun _ h => h) (Or.inl rfl) ⟨rfl, rfl⟩ dX1_instead_45 (fun u24 => ?_)
    refine v_iconst C.1.1 0 (by decide) dX1_instead_48 ?_
    refine v_istore C.1.1 [(4, .int 0), (3, .ref a21), (2, .ref a13), (0, .ref p0), (1, .int p1)] (by decide) rfl dX1_instead_49 ?_
    refine v_sub [2, 1, 0] rfl ?_
    exact whX1_instead_51 hl0 C p0 p1 FUEL a13 a21 0 u24
  · refine v_iconst C.1.1 (-1) (by decide) dX1_instead_16 ?_
    exact v_xiret C.1 dX1_instead_17
theorem cwX1_instead {t : TT} {G : GH} {l : Launch} {p : Program} {s : State} {m : MethodId} {args : Array Value} {meth : Method} {c : Code} {y0 : MethodName} {cc0 : ByteArray} {nL0 : Nat} {ret0 : Option FieldType} (C : CxH t G l p s m args meth c y0 cc0 nL0 ret0) {index lv mc ms K1 K2 : Nat} (hq : Cond.methodLink y0.cls index yX1_instead ∈ lw_all) (hR : 425 + 1 ≤ lv) : CallW (rmH lv K1 K2) s args y0.cls RX1 index yX1_instead cX1_instead 5 (some .int) (ws_ yX1_instead cX1_instead 5 (some .int)) (rmH 425 mc ms) mc ms 1 :=
  cwV 1 C.1.2.2.2.2.1 (lw_V hq q1449 q1450 q121 q1451) rfl rfl rfl (by decide +kernel) ⟨hR, by show 8 + (5 + 11) + 100 * 425 ≤ 100 * lv; omega⟩
def hX1_outBy_184 (p0 : Nat) (p1 : Int32) (p2 : Int32) (k53 : Int32 → Int32 → Int32 → Int32 → HS → Option (OH Int32)) (k : Int32 → Int32 → Int32 → Int32 → Int32 → Int32 → HS → Option (OH Int32)) (x3 : Int32) (x4 : Int32) (x5 : Int32) (x6 : Int32) (x7 : Int32) (x8 : Int32) (u : HS) : Option (OH Int32) :=
  mchk (hC u p0 == 1) <|
  mderef (hR u p0 2) fun a2 =>
  mchk (hC u a2 == 2) <|
  mderef (hR u a2 0) fun a5 =>
  mchk (hC u a5 == 12) <|
  hb (hJ2_size a5 u) fun r8 u7 =>
  if r8 ≤ x8 then
    k53 x3 x4 x5 (x6 + 1) u7
  else
    hb (hX1_isOf x7 x8 u7) fun r11 u10 =>
    if r11 = 0 then
      k x3 x4 x5 x6 x7 (x8 + 1) u10
    else
      mchk (hC u10 p0 == 1) <|
      mderef (hR u10 p0 2) fun a13 =>
      mchk (hC u10 a13 == 2) <|
      hb (hX2_isSea a13 x8 u10) fun r16 u15 =>
      if r16 = 0 then
        if x3 = (-1) then
          mlet (x4 ||| ((1 : Int32) <<< (x8 &&& 31))) fun v18 =>
          k x3 v18 x5 x6 x7 (x8 + 1) u15
        else
          if x6 < x3 then
            mlet (x4 ||| ((1 : Int32) <<< (x8 &&& 31))) fun v18 =>
            k x3 v18 x5 x6 x7 (x8 + 1) u15
          else
            mchk (hC u15 p0 == 1) <|
            mderef (hR u15 p0 2) fun a19 =>
            mchk (hC u15 a19 == 2) <|
            mderef (hR u15 a19 0) fun a22 =>
            mchk (hC u15 a22 == 12) <|
            hb (hJ2_get a22 x8 u15) fun r25 u24 =>
            mchk (hC u24 r25 == 31) <|
            mchk (hC u24 r25 == 31) <|
            hb (hJ16_intValue r25 u24) fun r29 u28 =>
            if 10 ≤ ((r29 + x6) - x3) then
              k x3 x4 x5 x6 x7 (x8 + 1) u28
            else
              mlet (x4 ||| ((1 : Int32) <<< (x8 &&& 31))) fun v31 =>
              k x3 v31 x5 x6 x7 (x8 + 1) u28
      else
        hret x6 u15
theorem whX1_outBy_184 {K1 K2 : Nat} {p : Program} {e : Env} {s : State} {m : MethodId} {args : Array Value} {below : List Frame} {meth : Method} {c : Code} (hl0 : l.stackTraces = false) (C : CxH t G l p s m args meth c yX1_outBy cX1_outBy 10 (some .int)) (p0 : Nat) (p1 : Int32) (p2 : Int32) (k53 : Int32 → Int32 → Int32 → Int32 → HS → Option (OH Int32)) (hk53 : ∀ (x3 : Int32) (x4 : Int32) (x5 : Int32) (x6 : Int32) (u : HS), VH mkI t G p l e 425 K1 K2 s m args below meth c 10 53 [(0, .ref p0), (2, .int p2), (3, .int x3), (4, .int x4), (5, .int x5), (6, .int x6)] [] u (k53 x3 x4 x5 x6 u)) (n : Nat) (x3 : Int32) (x4 : Int32) (x5 : Int32) (x6 : Int32) (x7 : Int32) (x8 : Int32) (u : HS) : VH mkI t G p l e 425 K1 K2 s m args below meth c 10 184 [(0, .ref p0), (2, .int p2), (3, .int x3), (4, .int x4), (5, .int x5), (6, .int x6), (7, .int x7), (8, .int x8)] [] u (ml6 (hX1_outBy_184 p0 p1 p2 k53) n x3 x4 x5 x6 x7 x8 u) := by
  refine vl6 (L := fun x3 x4 x5 x6 x7 x8 => [(0, .ref p0), (2, .int p2), (3, .int x3), (4, .int x4), (5, .int x5), (6, .int x6), (7, .int x7), (8, .int x8)]) (fun k hk x3 x4 x5 x6 x7 x8 u => ?_) n x3 x4 x5 x6 x7 x8 u
  unfold hX1_outBy_184
  refine v_iload C.1 7 rfl dX1_outBy_184 ?_
  refine v_aload_n C.1 0 rfl rfl dX1_outBy_186 ?_
  refine v_chk (fun h1 => ?_)
  refine v_hget C (v := va_rf (hR u p0 2)) 0 2 (eq_of_beq h1) (by decide) rfl in_X1 (by decide) (Or.inl q311) (fun _ h => h) (hF_r (ci := 0) (eq_of_beq h1) (by decide)) dX1_outBy_187 ?_
  refine v_deref (fun a2 e3 => ?_)
  refine v_chk (fun h4 => ?_)
  refine v_hget C (v := va_rf (hR u a2 0)) 1 0 (eq_of_beq h4) (by decide) rfl in_X2 (by decide) (Or.inr ⟨_, q197⟩) (fun _ h => h) (hF_r (ci := 1) (eq_of_beq h4) (by decide)) dX1_outBy_190 ?_
  refine v_deref (fun a5 e6 => ?_)
  refine v_chk (fun h9 => ?_)
  refine v_callFH C [] [.int x8] (ctJ2_size t G l hl0 a5 u) (fun _ _ => cwJ2_sizeF C q453 (by decide)) (eq_of_beq h9) (by decide) rfl rfl rfl (by exact Nat.le_of_ble_eq_true rfl) dX1_outBy_193 (fun r8 u7 => ?_)
  refine v_icmp_ge C.1 285 (by decide) dX1_outBy_198 (fun _ => ?_) (fun _ => ?_)
  · refine v_iinc C.1 1 [(6, .int (x6 + 1)), (0, .ref p0), (2, .int p2), (3, .int x3), (4, .int x4), (5, .int x5), (7, .int x7), (8, .int x8)] 5 rfl (by decide) (by decide) rfl dX1_outBy_285 ?_
    refine v_goto C.1 53 (by decide) dX1_outBy_288 ?_
    refine v_sub [1, 2, 3, 4, 5, 0] rfl ?_
    exact hk53 x3 x4 x5 (x6 + 1) u7
  · refine v_iload C.1 6 rfl dX1_outBy_201 ?_
    refine v_iload C.1 7 rfl dX1_outBy_203 ?_
    refine v_callSH C [.int x7, .int x8] [] (ctX1_isOf t G l hl0 x7 x8 u7) (fun _ _ => cwX1_isOf C q1323 (by decide)) rfl rfl (by exact Nat.le_of_ble_eq_true rfl) dX1_outBy_205 (fun r11 u10 => ?_)
    refine v_if_ne C.1 214 (by decide) dX1_outBy_208 (fun _ => ?_) (fun _ => ?_)
    · refine v_goto C.1 279 (by decide) dX1_outBy_211 ?_
      refine v_iinc C.1 1 [(8, .int (x8 + 1)), (0, .ref p0), (2, .int p2), (3, .int x3), (4, .int x4), (5, .int x5), (6, .int x6), (7, .int x7)] 7 rfl (by decide) (by decide) rfl dX1_outBy_279 ?_
      refine v_goto C.1 184 (by decide) dX1_outBy_282 ?_
      refine v_sub [1, 2, 3, 4, 5, 6, 7, 0] rfl ?_
      exact hk x3 x4 x5 x6 x7 (x8 + 1) u10
    · refine v_aload_n C.1 0 rfl rfl dX1_outBy_214 ?_
      refine v_chk (fun h12 => ?_)
      refine v_hget C (v := va_rf (hR u10 p0 2)) 0 2 (eq_of_beq h12) (by decide) rfl in_X1 (by decide) (Or.inl q311) (fun _ h => h) (hF_r (ci := 0) (eq_of_beq h12) (by decide)) dX1_outBy_215 ?_
      refine v_deref (fun a13 e14 => ?_)
      refine v_iload C.1 7 rfl dX1_outBy_218 ?_
      refine v_chk (fun h17 => ?_)
      refine v_callVH C [.int x8] [] (ctX2_isSea t G l hl0 a13 x8 u10) (fun _ _ => cwX2_isSea C q1468 (by decide)) (recO C (ci := 1) (eq_of_beq h17) (by decide) rfl) rfl rfl (by exact Nat.le_of_ble_eq_true rfl) dX1_outBy_220 (fun r16 u15 => ?_)
      refine v_if_eq C.1 229 (by decide) dX1_outBy_223 (fun _ => ?_) (fun _ => ?_)
      · refine v_iload_n C.1 2 rfl rfl dX1_outBy_229 ?_
        refine v_iconst C.1 (-1) (by decide) dX1_outBy_230 ?_
        refine v_icmp_eq C.1 270 (by decide) dX1_outBy_231 (fun _ => ?_) (fun _ => ?_)
        · refine v_iload C.1 3 rfl dX1_outBy_270 ?_
          refine v_iconst C.1 1 (by decide) dX1_outBy_272 ?_
          refine v_iload C.1 7 rfl dX1_outBy_273 ?_
          refine v_ishl C.1 dX1_outBy_275 ?_
          refine v_ior C.1 dX1_outBy_276 ?_
          refine v_topi (fun v18 => ?_)
          refine v_istore C.1 [(4, .int v18), (0, .ref p0), (2, .int p2), (3, .int x3), (5, .int x5), (6, .int x6), (7, .int x7), (8, .int x8)] (by decide) rfl dX1_outBy_277 ?_
          refine v_iinc C.1 1 [(8, .int (x8 + 1)), (4, .int v18), (0, .ref p0), (2, .int p2), (3, .int x3), (5, .int x5), (6, .int x6), (7, .int x7)] 7 rfl (by decide) (by decide) rfl dX1_outBy_279 ?_
          refine v_goto C.1 184 (by decide) dX1_outBy_282 ?_
          refine v_sub [2, 3, 4, 1, 5, 6, 7, 0] rfl ?_
          exact hk x3 v18 x5 x6 x7 (x8 + 1) u15
        · refine v_iload_n C.1 2 rfl rfl dX1_outBy_234 ?_
          refine v_iload C.1 5 rfl dX1_outBy_235 ?_
          refine v_icmp_gt C.1 270 (by decide) dX1_outBy_237 (fun _ => ?_) (fun _ => ?_)
          · refine v_iload C.1 3 rfl dX1_outBy_270 ?_
            refine v_iconst C.1 1 (by decide) dX1_outBy_272 ?_
            refine v_iload C.1 7 rfl dX1_outBy_273 ?_
            refine v_ishl C.1 dX1_outBy_275 ?_
            refine v_ior C.1 dX1_outBy_276 ?_
            refine v_topi (fun v18 => ?_)
            refine v_istore C.1 [(4, .int v18), (0, .ref p0), (2, .int p2), (3, .int x3), (5, .int x5), (6, .int x6), (7, .int x7), (8, .int x8)] (by decide) rfl dX1_outBy_277 ?_
            refine v_iinc C.1 1 [(8, .int (x8 + 1)), (4, .int v18), (0, .ref p0), (2, .int p2), (3, .int x3), (5, .int x5), (6, .int x6), (7, .int x7)] 7 rfl (by decide) (by decide) rfl dX1_outBy_279 ?_
            refine v_goto C.1 184 (by decide) dX1_outBy_282 ?_
            refine v_sub [2, 3, 4, 1, 5, 6, 7, 0] rfl ?_
            exact hk x3 v18 x5 x6 x7 (x8 + 1) u15
          · refine v_aload_n C.1 0 rfl rfl dX1_outBy_240 ?_
            refine v_chk (fun h18 => ?_)
            refine v_hget C (v := va_rf (hR u15 p0 2)) 0 2 (eq_of_beq h18) (by decide) rfl in_X1 (by decide) (Or.inl q311) (fun _ h => h) (hF_r (ci := 0) (eq_of_beq h18) (by decide)) dX1_outBy_241 ?_
            refine v_deref (fun a19 e20 => ?_)
            refine v_chk (fun h21 => ?_)
            refine v_hget C (v := va_rf (hR u15 a19 0)) 1 0 (eq_of_beq h21) (by decide) rfl in_X2 (by decide) (Or.inr ⟨_, q197⟩) (fun _ h => h) (hF_r (ci := 1) (eq_of_beq h21) (by decide)) dX1_outBy_244 ?_
            refine v_deref (fun a22 e23 => ?_)
            refine v_iload C.1 7 rfl dX1_outBy_247 ?_
            refine v_chk (fun h26 => ?_)
            refine v_callFH C [.int x8] [] (ctJ2_get t G l hl0 a22 x8 u15) (fun _ _ => cwJ2_getF C q1368 (by decide)) (eq_of_beq h26) (by decide) rfl rfl rfl (by exact Nat.le_of_ble_eq_true rfl) dX1_outBy_249 (fun r25 u24 => ?_)
            refine v_chk (fun h27 => ?_)
            refine v_hcastB C (eq_of_beq h27) q1369 dX1_outBy_254 ?_
            refine v_chk (fun h30 => ?_)
            refine v_callVH C [] [] (ctJ16_intValue t G l hl0 r25 u24) (fun _ _ => cwJ16_intValue C q1370 (by decide)) (recB C (eq_of_beq h30)) rfl rfl (by exact Nat.le_of_ble_eq_true rfl) dX1_outBy_257 (fun r29 u28 => ?_)
            refine v_iload C.1 5 rfl dX1_outBy_260 ?_
            refine v_iadd C.1 dX1_outBy_262 ?_
            refine v_iload_n C.1 2 rfl rfl dX1_outBy_263 ?_
            refine v_isub C.1 dX1_outBy_264 ?_
            refine v_bipush C.1 10 (by decide) dX1_outBy_265 ?_
            refine v_icmp_ge C.1 279 (by decide) dX1_outBy_267 (fun _ => ?_) (fun _ => ?_)
            · refine v_iinc C.1 1 [(8, .int (x8 + 1)), (0, .ref p0), (2, .int p2), (3, .int x3), (4, .int x4), (5, .int x5), (6, .int x6), (7, .int x7)] 7 rfl (by decide) (by decide) rfl dX1_outBy_279 ?_
              refine v_goto C.1 184 (by decide) dX1_outBy_282 ?_
              refine v_sub [1, 2, 3, 4, 5, 6, 7, 0] rfl ?_
              exact hk x3 x4 x5 x6 x7 (x8 + 1) u28
            · refine v_iload C.1 3 rfl dX1_outBy_270 ?_
              refine v_iconst C.1 1 (by decide) dX1_outBy_272 ?_
              refine v_iload C.1 7 rfl dX1_outBy_273 ?_
              refine v_ishl C.1 dX1_outBy_275 ?_
              refine v_ior C.1 dX1_outBy_276 ?_
              refine v_topi (fun v31 => ?_)
              refine v_istore C.1 [(4, .int v31), (0, .ref p0), (2, .int p2), (3, .int x3), (5, .int x5), (6, .int x6), (7, .int x7), (8, .int x8)] (by decide) rfl dX1_outBy_277 ?_
              refine v_iinc C.1 1 [(8, .int (x8 + 1)), (4, .int v31), (0, .ref p0), (2, .int p2), (3, .int x3), (5, .int x5), (6, .int x6), (7, .int x7)] 7 rfl (by decide) (by decide) rfl dX1_outBy_279 ?_
              refine v_goto C.1 184 (by decide) dX1_outBy_282 ?_
              refine v_sub [2, 3, 4, 1, 5, 6, 7, 0] rfl ?_
              exact hk x3 v31 x5 x6 x7 (x8 + 1) u28
      · refine v_iload C.1 5 rfl dX1_outBy_226 ?_
        exact v_hiret C dX1_outBy_228
def hX1_outBy_147 (p0 : Nat) (p1 : Int32) (p2 : Int32) (k53 : Int32 → Int32 → Int32 → Int32 → HS → Option (OH Int32)) (k67 : Int32 → Int32 → Int32 → Int32 → Int32 → Int32 → HS → Option (OH Int32)) (x3 : Int32) (x4 : Int32) (x5 : Int32) (x6 : Int32) (x7 : Int32) (x8 : Int32) (x9 : Nat) (u : HS) : Option (OH Int32) :=
  mchk (hC u x9 == 7) <|
  hb (hX1_isOf x4 (hI u x9 1) u) fun r3 u2 =>
  if r3 = 0 then
    k67 x3 x4 x5 x6 x7 (x8 + 1) u2
  else
    mchk (hC u2 x9 == 7) <|
    mlet (x7 ||| ((1 : Int32) <<< ((hI u2 x9 0) &&& 31))) fun v5 =>
    k67 x3 x4 x5 x6 v5 (x8 + 1) u2
theorem whX1_outBy_147 {K1 K2 : Nat} {p : Program} {e : Env} {s : State} {m : MethodId} {args : Array Value} {below : List Frame} {meth : Method} {c : Code} (hl0 : l.stackTraces = false) (C : CxH t G l p s m args meth c yX1_outBy cX1_outBy 10 (some .int)) (p0 : Nat) (p1 : Int32) (p2 : Int32) (k53 : Int32 → Int32 → Int32 → Int32 → HS → Option (OH Int32)) (k67 : Int32 → Int32 → Int32 → Int32 → Int32 → Int32 → HS → Option (OH Int32)) (hk53 : ∀ (x3 : Int32) (x4 : Int32) (x5 : Int32) (x6 : Int32) (u : HS), VH mkI t G p l e 425 K1 K2 s m args below meth c 10 53 [(0, .ref p0), (2, .int p2), (3, .int x3), (4, .int x4), (5, .int x5), (6, .int x6)] [] u (k53 x3 x4 x5 x6 u)) (hk67 : ∀ (x3 : Int32) (x4 : Int32) (x5 : Int32) (x6 : Int32) (x7 : Int32) (x8 : Int32) (u : HS), VH mkI t G p l e 425 K1 K2 s m args below meth c 10 67 [(0, .ref p0), (2, .int p2), (3, .int x3), (4, .int x4), (5, .int x5), (6, .int x6), (7, .int x7), (8, .int x8)] [] u (k67 x3 x4 x5 x6 x7 x8 u)) (x3 : Int32) (x4 : Int32) (x5 : Int32) (x6 : Int32) (x7 : Int32) (x8 : Int32) (x9 : Nat) (u : HS) : VH mkI t G p l e 425 K1 K2 s m args below meth c 10 147 [(0, .ref p0), (2, .int p2), (3, .int x3), (4, .int x4), (5, .int x5), (6, .int x6), (7, .int x7), (8, .int x8), (9, .ref x9)] [] u (hX1_outBy_147 p0 p1 p2 k53 k67 x3 x4 x5 x6 x7 x8 x9 u) := by
  unfold hX1_outBy_147
  refine v_iload C.1 3 rfl dX1_outBy_147 ?_
  refine v_aload C.1 8 rfl dX1_outBy_149 ?_
  refine v_chk (fun h1 => ?_)
  refine v_hget C (v := .int (hI u x9 1)) 6 1 (eq_of_beq h1) (by decide) rfl in_X7 (by decide) (Or.inr ⟨_, q1092⟩) (fun _ h => h) (hF_i (ci := 6) (eq_of_beq h1) (by decide)) dX1_outBy_151 ?_
  refine v_callSH C [.int x4, .int (hI u x9 1)] [] (ctX1_isOf t G l hl0 x4 (hI u x9 1) u) (fun _ _ => cwX1_isOf C q1323 (by decide)) rfl rfl (by exact Nat.le_of_ble_eq_true rfl) dX1_outBy_154 (fun r3 u2 => ?_)
  refine v_if_eq C.1 172 (by decide) dX1_outBy_157 (fun _ => ?_) (fun _ => ?_)
  · refine v_iinc C.1 1 [(8, .int (x8 + 1)), (0, .ref p0), (2, .int p2), (3, .int x3), (4, .int x4), (5, .int x5), (6, .int x6), (7, .int x7), (9, .ref x9)] 7 rfl (by decide) (by decide) rfl dX1_outBy_172 ?_
    refine v_goto C.1 67 (by decide) dX1_outBy_175 ?_
    refine v_sub [1, 2, 3, 4, 5, 6, 7, 0] rfl ?_
    exact hk67 x3 x4 x5 x6 x7 (x8 + 1) u2
  · refine v_iload C.1 6 rfl dX1_outBy_160 ?_
    refine v_iconst C.1 1 (by decide) dX1_outBy_162 ?_
    refine v_aload C.1 8 rfl dX1_outBy_163 ?_
    refine v_chk (fun h4 => ?_)
    refine v_hget C (v := .int (hI u2 x9 0)) 6 0 (eq_of_beq h4) (by decide) rfl in_X7 (by decide) (Or.inr ⟨_, q1090⟩) (fun _ h => h) (hF_i (ci := 6) (eq_of_beq h4) (by decide)) dX1_outBy_165 ?_
    refine v_ishl C.1 dX1_outBy_168 ?_
    refine v_ior C.1 dX1_outBy_169 ?_
    refine v_topi (fun v5 => ?_)
    refine v_istore C.1 [(7, .int v5), (0, .ref p0), (2, .int p2), (3, .int x3), (4, .int x4), (5, .int x5), (6, .int x6), (8, .int x8), (9, .ref x9)] (by decide) rfl dX1_outBy_170 ?_
    refine v_iinc C.1 1 [(8, .int (x8 + 1)), (7, .int v5), (0, .ref p0), (2, .int p2), (3, .int x3), (4, .int x4), (5, .int x5), (6, .int x6), (9, .ref x9)] 7 rfl (by decide) (by decide) rfl dX1_outBy_172 ?_
    refine v_goto C.1 67 (by decide) dX1_outBy_175 ?_
    refine v_sub [2, 3, 4, 5, 6, 7, 1, 0] rfl ?_
    exact hk67 x3 x4 x5 x6 v5 (x8 + 1) u2
def hX1_outBy_122 (p0 : Nat) (p1 : Int32) (p2 : Int32) (k53 : Int32 → Int32 → Int32 → Int32 → HS → Option (OH Int32)) (k67 : Int32 → Int32 → Int32 → Int32 → Int32 → Int32 → HS → Option (OH Int32)) (x3 : Int32) (x4 : Int32) (x5 : Int32) (x6 : Int32) (x7 : Int32) (x8 : Int32) (x9 : Nat) (u : HS) : Option (OH Int32) :=
  mchk (hC u x9 == 7) <|
  hb (hX1_isOf x4 (hI u x9 0) u) fun r3 u2 =>
  if r3 = 0 then
    hX1_outBy_147 p0 p1 p2 k53 k67 x3 x4 x5 x6 x7 x8 x9 u2
  else
    mchk (hC u2 x9 == 7) <|
    mlet (x7 ||| ((1 : Int32) <<< ((hI u2 x9 1) &&& 31))) fun v5 =>
    hX1_outBy_147 p0 p1 p2 k53 k67 x3 x4 x5 x6 v5 x8 x9 u2
theorem whX1_outBy_122 {K1 K2 : Nat} {p : Program} {e : Env} {s : State} {m : MethodId} {args : Array Value} {below : List Frame} {meth : Method} {c : Code} (hl0 : l.stackTraces = false) (C : CxH t G l p s m args meth c yX1_outBy cX1_outBy 10 (some .int)) (p0 : Nat) (p1 : Int32) (p2 : Int32) (k53 : Int32 → Int32 → Int32 → Int32 → HS → Option (OH Int32)) (k67 : Int32 → Int32 → Int32 → Int32 → Int32 → Int32 → HS → Option (OH Int32)) (hk53 : ∀ (x3 : Int32) (x4 : Int32) (x5 : Int32) (x6 : Int32) (u : HS), VH mkI t G p l e 425 K1 K2 s m args below meth c 10 53 [(0, .ref p0), (2, .int p2), (3, .int x3), (4, .int x4), (5, .int x5), (6, .int x6)] [] u (k53 x3 x4 x5 x6 u)) (hk67 : ∀ (x3 : Int32) (x4 : Int32) (x5 : Int32) (x6 : Int32) (x7 : Int32) (x8 : Int32) (u : HS), VH mkI t G p l e 425 K1 K2 s m args below meth c 10 67 [(0, .ref p0), (2, .int p2), (3, .int x3), (4, .int x4), (5, .int x5), (6, .int x6), (7, .int x7), (8, .int x8)] [] u (k67 x3 x4 x5 x6 x7 x8 u)) (x3 : Int32) (x4 : Int32) (x5 : Int32) (x6 : Int32) (x7 : Int32) (x8 : Int32) (x9 : Nat) (u : HS) : VH mkI t G p l e 425 K1 K2 s m args below meth c 10 122 [(0, .ref p0), (2, .int p2), (3, .int x3), (4, .int x4), (5, .int x5), (6, .int x6), (7, .int x7), (8, .int x8), (9, .ref x9)] [] u (hX1_outBy_122 p0 p1 p2 k53 k67 x3 x4 x5 x6 x7 x8 x9 u) := by
  unfold hX1_outBy_122
  refine v_iload C.1 3 rfl dX1_outBy_122 ?_
  refine v_aload C.1 8 rfl dX1_outBy_124 ?_
  refine v_chk (fun h1 => ?_)
  refine v_hget C (v := .int (hI u x9 0)) 6 0 (eq_of_beq h1) (by decide) rfl in_X7 (by decide) (Or.inr ⟨_, q1090⟩) (fun _ h => h) (hF_i (ci := 6) (eq_of_beq h1) (by decide)) dX1_outBy_126 ?_
  refine v_callSH C [.int x4, .int (hI u x9 0)] [] (ctX1_isOf t G l hl0 x4 (hI u x9 0) u) (fun _ _ => cwX1_isOf C q1323 (by decide)) rfl rfl (by exact Nat.le_of_ble_eq_true rfl) dX1_outBy_129 (fun r3 u2 => ?_)
  refine v_if_eq C.1 147 (by decide) dX1_outBy_132 (fun _ => ?_) (fun _ => ?_)
  · exact whX1_outBy_147 hl0 C p0 p1 p2 k53 k67 hk53 hk67 x3 x4 x5 x6 x7 x8 x9 u2
  · refine v_iload C.1 6 rfl dX1_outBy_135 ?_
    refine v_iconst C.1 1 (by decide) dX1_outBy_137 ?_
    refine v_aload C.1 8 rfl dX1_outBy_138 ?_
    refine v_chk (fun h4 => ?_)
    refine v_hget C (v := .int (hI u2 x9 1)) 6 1 (eq_of_beq h4) (by decide) rfl in_X7 (by decide) (Or.inr ⟨_, q1092⟩) (fun _ h => h) (hF_i (ci := 6) (eq_of_beq h4) (by decide)) dX1_outBy_140 ?_
    refine v_ishl C.1 dX1_outBy_143 ?_
    refine v_ior C.1 dX1_outBy_144 ?_
    refine v_topi (fun v5 => ?_)
    refine v_istore C.1 [(7, .int v5), (0, .ref p0), (2, .int p2), (3, .int x3), (4, .int x4), (5, .int x5), (6, .int x6), (8, .int x8), (9, .ref x9)] (by decide) rfl dX1_outBy_145 ?_
    refine v_sub [1, 2, 3, 4, 5, 6, 0, 7, 8] rfl ?_
    exact whX1_outBy_147 hl0 C p0 p1 p2 k53 k67 hk53 hk67 x3 x4 x5 x6 v5 x8 x9 u2
def hX1_outBy_67 (p0 : Nat) (p1 : Int32) (p2 : Int32) (k53 : Int32 → Int32 → Int32 → Int32 → HS → Option (OH Int32)) (k : Int32 → Int32 → Int32 → Int32 → Int32 → Int32 → HS → Option (OH Int32)) (x3 : Int32) (x4 : Int32) (x5 : Int32) (x6 : Int32) (x7 : Int32) (x8 : Int32) (u : HS) : Option (OH Int32) :=
  mchk (hC u p0 == 1) <|
  mderef (hR u p0 2) fun a2 =>
  mchk (hC u a2 == 2) <|
  mderef (hR u a2 2) fun a5 =>
  mchk (hC u a5 == 12) <|
  hb (hJ2_size a5 u) fun r8 u7 =>
  if r8 ≤ x8 then
    ml6 (hX1_outBy_184 p0 p1 p2 k53) FUEL x3 0 x5 x6 x7 0 u7
  else
    mchk (hC u7 p0 == 1) <|
    mderef (hR u7 p0 2) fun a11 =>
    mchk (hC u7 a11 == 2) <|
    mderef (hR u7 a11 2) fun a14 =>
    mchk (hC u7 a14 == 12) <|
    hb (hJ2_get a14 x8 u7) fun r17 u16 =>
    mchk (hC u16 r17 == 7) <|
    mchk (hC u16 r17 == 7) <|
    if x6 < (hI u16 r17 2) then
      hX1_outBy_122 p0 p1 p2 k53 k x3 x4 x5 x6 x7 x8 r17 u16
    else
      if x8 = p2 then
        hX1_outBy_122 p0 p1 p2 k53 k x3 x4 x5 x6 x7 x8 r17 u16
      else
        k x3 x4 x5 x6 x7 (x8 + 1) u16
theorem whX1_outBy_67 {K1 K2 : Nat} {p : Program} {e : Env} {s : State} {m : MethodId} {args : Array Value} {below : List Frame} {meth : Method} {c : Code} (hl0 : l.stackTraces = false) (C : CxH t G l p s m args meth c yX1_outBy cX1_outBy 10 (some .int)) (p0 : Nat) (p1 : Int32) (p2 : Int32) (k53 : Int32 → Int32 → Int32 → Int32 → HS → Option (OH Int32)) (hk53 : ∀ (x3 : Int32) (x4 : Int32) (x5 : Int32) (x6 : Int32) (u : HS), VH mkI t G p l e 425 K1 K2 s m args below meth c 10 53 [(0, .ref p0), (2, .int p2), (3, .int x3), (4, .int x4), (5, .int x5), (6, .int x6)] [] u (k53 x3 x4 x5 x6 u)) (n : Nat) (x3 : Int32) (x4 : Int32) (x5 : Int32) (x6 : Int32) (x7 : Int32) (x8 : Int32) (u : HS) : VH mkI t G p l e 425 K1 K2 s m args below meth c 10 67 [(0, .ref p0), (2, .int p2), (3, .int x3), (4, .int x4), (5, .int x5), (6, .int x6), (7, .int x7), (8, .int x8)] [] u (ml6 (hX1_outBy_67 p0 p1 p2 k53) n x3 x4 x5 x6 x7 x8 u) := by
  refine vl6 (L := fun x3 x4 x5 x6 x7 x8 => [(0, .ref p0), (2, .int p2), (3, .int x3), (4, .int x4), (5, .int x5), (6, .int x6), (7, .int x7), (8, .int x8)]) (fun k hk x3 x4 x5 x6 x7 x8 u => ?_) n x3 x4 x5 x6 x7 x8 u
  unfold hX1_outBy_67
  refine v_iload C.1 7 rfl dX1_outBy_67 ?_
  refine v_aload_n C.1 0 rfl rfl dX1_outBy_69 ?_
  refine v_chk (fun h1 => ?_)
  refine v_hget C (v := va_rf (hR u p0 2)) 0 2 (eq_of_beq h1) (by decide) rfl in_X1 (by decide) (Or.inl q311) (fun _ h => h) (hF_r (ci := 0) (eq_of_beq h1) (by decide)) dX1_outBy_70 ?_
  refine v_deref (fun a2 e3 => ?_)
  refine v_chk (fun h4 => ?_)
  refine v_hget C (v := va_rf (hR u a2 2)) 1 2 (eq_of_beq h4) (by decide) rfl in_X2 (by decide) (Or.inr ⟨_, q205⟩) (fun _ h => h) (hF_r (ci := 1) (eq_of_beq h4) (by decide)) dX1_outBy_73 ?_
  refine v_deref (fun a5 e6 => ?_)
  refine v_chk (fun h9 => ?_)
  refine v_callFH C [] [.int x8] (ctJ2_size t G l hl0 a5 u) (fun _ _ => cwJ2_sizeF C q453 (by decide)) (eq_of_beq h9) (by decide) rfl rfl rfl (by exact Nat.le_of_ble_eq_true rfl) dX1_outBy_76 (fun r8 u7 => ?_)
  refine v_icmp_ge C.1 178 (by decide) dX1_outBy_81 (fun _ => ?_) (fun _ => ?_)
  · refine v_iconst C.1 0 (by decide) dX1_outBy_178 ?_
    refine v_istore C.1 [(4, .int 0), (0, .ref p0), (2, .int p2), (3, .int x3), (5, .int x5), (6, .int x6), (7, .int x7), (8, .int x8)] (by decide) rfl dX1_outBy_179 ?_
    refine v_iconst C.1 0 (by decide) dX1_outBy_181 ?_
    refine v_istore C.1 [(8, .int 0), (4, .int 0), (0, .ref p0), (2, .int p2), (3, .int x3), (5, .int x5), (6, .int x6), (7, .int x7)] (by decide) rfl dX1_outBy_182 ?_
    refine v_sub [2, 3, 4, 1, 5, 6, 7, 0] rfl ?_
    exact whX1_outBy_184 hl0 C p0 p1 p2 k53 hk53 FUEL x3 0 x5 x6 x7 0 u7
  · refine v_aload_n C.1 0 rfl rfl dX1_outBy_84 ?_
    refine v_chk (fun h10 => ?_)
    refine v_hget C (v := va_rf (hR u7 p0 2)) 0 2 (eq_of_beq h10) (by decide) rfl in_X1 (by decide) (Or.inl q311) (fun _ h => h) (hF_r (ci := 0) (eq_of_beq h10) (by decide)) dX1_outBy_85 ?_
    refine v_deref (fun a11 e12 => ?_)
    refine v_chk (fun h13 => ?_)
    refine v_hget C (v := va_rf (hR u7 a11 2)) 1 2 (eq_of_beq h13) (by decide) rfl in_X2 (by decide) (Or.inr ⟨_, q205⟩) (fun _ h => h) (hF_r (ci := 1) (eq_of_beq h13) (by decide)) dX1_outBy_88 ?_
    refine v_deref (fun a14 e15 => ?_)
    refine v_iload C.1 7 rfl dX1_outBy_91 ?_
    refine v_chk (fun h18 => ?_)
    refine v_callFH C [.int x8] [] (ctJ2_get t G l hl0 a14 x8 u7) (fun _ _ => cwJ2_getF C q1368 (by decide)) (eq_of_beq h18) (by decide) rfl rfl rfl (by exact Nat.le_of_ble_eq_true rfl) dX1_outBy_93 (fun r17 u16 => ?_)
    refine v_chk (fun h19 => ?_)
    refine v_hcastS C 6 (eq_of_beq h19) (by decide) rfl q1371 dX1_outBy_98 ?_
    refine v_astore C.1 [(9, .ref r17), (0, .ref p0), (2, .int p2), (3, .int x3), (4, .int x4), (5, .int x5), (6, .int x6), (7, .int x7), (8, .int x8)] (by decide) rfl dX1_outBy_101 ?_
    refine v_iload C.1 6 rfl dX1_outBy_103 ?_
    refine v_aload C.1 0 rfl dX1_outBy_105 ?_
    refine v_chk (fun h20 => ?_)
    refine v_hget C (v := .int (hI u16 r17 2)) 6 2 (eq_of_beq h20) (by decide) rfl in_X7 (by decide) (Or.inr ⟨_, q1094⟩) (fun _ h => h) (hF_i (ci := 6) (eq_of_beq h20) (by decide)) dX1_outBy_107 ?_
    refine v_icmp_lt C.1 122 (by decide) dX1_outBy_110 (fun _ => ?_) (fun _ => ?_)
    · refine v_sub [1, 2, 3, 4, 5, 6, 7, 8, 0] rfl ?_
      exact whX1_outBy_122 hl0 C p0 p1 p2 k53 k hk53 hk x3 x4 x5 x6 x7 x8 r17 u16
    · refine v_iload C.1 8 rfl dX1_outBy_113 ?_
      refine v_iload_n C.1 2 rfl rfl dX1_outBy_115 ?_
      refine v_icmp_eq C.1 122 (by decide) dX1_outBy_116 (fun _ => ?_) (fun _ => ?_)
      · refine v_sub [1, 2, 3, 4, 5, 6, 7, 8, 0] rfl ?_
        exact whX1_outBy_122 hl0 C p0 p1 p2 k53 k hk53 hk x3 x4 x5 x6 x7 x8 r17 u16
      · refine v_goto C.1 172 (by decide) dX1_outBy_119 ?_
        refine v_iinc C.1 1 [(8, .int (x8 + 1)), (9, .ref r17), (0, .ref p0), (2, .int p2), (3, .int x3), (4, .int x4), (5, .int x5), (6, .int x6), (7, .int x7)] 8 rfl (by decide) (by decide) rfl dX1_outBy_172 ?_
        refine v_goto C.1 67 (by decide) dX1_outBy_175 ?_
        refine v_sub [2, 3, 4, 5, 6, 7, 8, 0] rfl ?_
        exact hk x3 x4 x5 x6 x7 (x8 + 1) u16
def hX1_outBy_53 (p0 : Nat) (p1 : Int32) (p2 : Int32) (k : Int32 → Int32 → Int32 → Int32 → HS → Option (OH Int32)) (x3 : Int32) (x4 : Int32) (x5 : Int32) (x6 : Int32) (u : HS) : Option (OH Int32) :=
  if x5 < x6 then
    hret (-1) u
  else
    ml6 (hX1_outBy_67 p0 p1 p2 k) FUEL x3 x4 x5 x6 x4 0 u
theorem whX1_outBy_53 {K1 K2 : Nat} {p : Program} {e : Env} {s : State} {m : MethodId} {args : Array Value} {below : List Frame} {meth : Method} {c : Code} (hl0 : l.stackTraces = false) (C : CxH t G l p s m args meth c yX1_outBy cX1_outBy 10 (some .int)) (p0 : Nat) (p1 : Int32) (p2 : Int32) (n : Nat) (x3 : Int32) (x4 : Int32) (x5 : Int32) (x6 : Int32) (u : HS) : VH mkI t G p l e 425 K1 K2 s m args below meth c 10 53 [(0, .ref p0), (2, .int p2), (3, .int x3), (4, .int x4), (5, .int x5), (6, .int x6)] [] u (ml4 (hX1_outBy_53 p0 p1 p2) n x3 x4 x5 x6 u) := by
  refine vl4 (L := fun x3 x4 x5 x6 => [(0, .ref p0), (2, .int p2), (3, .int x3), (4, .int x4), (5, .int x5), (6, .int x6)]) (fun k hk x3 x4 x5 x6 u => ?_) n x3 x4 x5 x6 u
  unfold hX1_outBy_53
  refine v_iload C.1 5 rfl dX1_outBy_53 ?_
  refine v_iload C.1 4 rfl dX1_outBy_55 ?_
  refine v_icmp_gt C.1 291 (by decide) dX1_outBy_57 (fun _ => ?_) (fun _ => ?_)
  · refine v_iconst C.1 (-1) (by decide) dX1_outBy_291 ?_
    exact v_hiret C dX1_outBy_292
  · refine v_iload C.1 3 rfl dX1_outBy_60 ?_
    refine v_istore C.1 [(7, .int x4), (0, .ref p0), (2, .int p2), (3, .int x3), (4, .int x4), (5, .int x5), (6, .int x6)] (by decide) rfl dX1_outBy_62 ?_
    refine v_iconst C.1 0 (by decide) dX1_outBy_64 ?_
    refine v_istore C.1 [(8, .int 0), (7, .int x4), (0, .ref p0), (2, .int p2), (3, .int x3), (4, .int x4), (5, .int x5), (6, .int x6)] (by decide) rfl dX1_outBy_65 ?_
    refine v_sub [2, 3, 4, 5, 6, 7, 1, 0] rfl ?_
    exact whX1_outBy_67 hl0 C p0 p1 p2 k hk FUEL x3 x4 x5 x6 x4 0 u
def hX1_outBy (p0 : Nat) (p1 : Int32) (p2 : Int32) (u : HS) : Option (OH Int32) :=
  mchk (hC u p0 == 1) <|
  hb (hX1_later p0 30 u) fun r2 u1 =>
  mchk (hC u1 r2 == 3) <|
  mderef (hR u1 r2 0) fun a5 =>
  mchk (inA u1 p1 a5 21) <|
  mlet (hA u1 a5 p1.toNatClampNeg) fun v8 =>
  mchk (hC u1 p0 == 1) <|
  mderef (hR u1 p0 3) fun a10 =>
  mchk (hC u1 a10 == 3) <|
  mderef (hR u1 a10 2) fun a13 =>
  mchk (inA u1 p1 a13 21) <|
  mlet ((1 : Int32) <<< ((hA u1 a13 p1.toNatClampNeg) &&& 31)) fun v16 =>
  mchk (hC u1 p0 == 1) <|
  mderef (hR u1 p0 3) fun a18 =>
  mchk (hC u1 a18 == 3) <|
  mchk (hC u1 p0 == 1) <|
  mderef (hR u1 p0 3) fun a22 =>
  mchk (hC u1 a22 == 3) <|
  hb (hX3_ahead a22 30 u1) fun r25 u24 =>
  mlet ((hI u1 a18 6) + r25) fun v27 =>
  mchk (hC u24 p0 == 1) <|
  mderef (hR u24 p0 3) fun a29 =>
  mchk (hC u24 a29 == 3) <|
  mlet (hI u24 a29 6) fun v32 =>
  ml4 (hX1_outBy_53 p0 p1 p2) FUEL v8 v16 v27 v32 u24
theorem ctX1_outBy (t : TT) (G : GH) (l : Launch) (hl0 : l.stackTraces = false) (p0 : Nat) (p1 : Int32) (p2 : Int32) (u : HS) : CtH mkI t G l yX1_outBy cX1_outBy 10 (some .int) 425 [.ref p0, .int p1, .int p2] u (hX1_outBy p0 p1 p2 u) := by
  refine ctH_of [(0, .ref p0), (1, .int p1), (2, .int p2)] hl0 rfl (Nat.le_of_ble_eq_true rfl) rfl (fun K1 K2 p e s m args below meth c C => ?_)
  unfold hX1_outBy
  refine v_aload_n C.1 0 rfl rfl dX1_outBy_0 ?_
  refine v_bipush C.1 30 (by decide) dX1_outBy_1 ?_
  refine v_chk (fun h3 => ?_)
  refine v_callVH C [.int 30] [] (ctX1_later t G l hl0 p0 30 u) (fun _ _ => cwX1_later C q704 (by decide)) (recO C (ci := 0) (eq_of_beq h3) (by decide) rfl) rfl rfl (by exact Nat.le_of_ble_eq_true rfl) dX1_outBy_3 (fun r2 u1 => ?_)
  refine v_chk (fun h4 => ?_)
  refine v_hget C (v := va_rf (hR u1 r2 0)) 2 0 (eq_of_beq h4) (by decide) rfl in_X3 (by decide) (Or.inr ⟨_, q255⟩) (fun _ h => h) (hF_r (ci := 2) (eq_of_beq h4) (by decide)) dX1_outBy_6 ?_
  refine v_deref (fun a5 e6 => ?_)
  refine v_iload_n C.1 1 rfl rfl dX1_outBy_9 ?_
  refine v_chk (fun h7 => ?_)
  refine v_haiald C h7 dX1_outBy_10 ?_
  refine v_topi (fun v8 => ?_)
  refine v_istore_n C.1 [(3, .int v8), (0, .ref p0), (1, .int p1), (2, .int p2)] rfl (by decide) rfl dX1_outBy_11 ?_
  refine v_iconst C.1 1 (by decide) dX1_outBy_12 ?_
  refine v_aload_n C.1 1 rfl rfl dX1_outBy_13 ?_
  refine v_chk (fun h9 => ?_)
  refine v_hget C (v := va_rf (hR u1 p0 3)) 0 3 (eq_of_beq h9) (by decide) rfl in_X1 (by decide) (Or.inl q312) (fun _ h => h) (hF_r (ci := 0) (eq_of_beq h9) (by decide)) dX1_outBy_14 ?_
  refine v_deref (fun a10 e11 => ?_)
  refine v_chk (fun h12 => ?_)
  refine v_hget C (v := va_rf (hR u1 a10 2)) 2 2 (eq_of_beq h12) (by decide) rfl in_X3 (by decide) (Or.inr ⟨_, q259⟩) (fun _ h => h) (hF_r (ci := 2) (eq_of_beq h12) (by decide)) dX1_outBy_17 ?_
  refine v_deref (fun a13 e14 => ?_)
  refine v_iload_n C.1 2 rfl rfl dX1_outBy_20 ?_
  refine v_chk (fun h15 => ?_)
  refine v_haiald C h15 dX1_outBy_21 ?_
  refine v_ishl C.1 dX1_outBy_22 ?_
  refine v_topi (fun v16 => ?_)
  refine v_istore C.1 [(4, .int v16), (3, .int v8), (0, .ref p0), (1, .int p1), (2, .int p2)] (by decide) rfl dX1_outBy_23 ?_
  refine v_aload_n C.1 2 rfl rfl dX1_outBy_25 ?_
  refine v_chk (fun h17 => ?_)
  refine v_hget C (v := va_rf (hR u1 p0 3)) 0 3 (eq_of_beq h17) (by decide) rfl in_X1 (by decide) (Or.inl q312) (fun _ h => h) (hF_r (ci := 0) (eq_of_beq h17) (by decide)) dX1_outBy_26 ?_
  refine v_deref (fun a18 e19 => ?_)
  refine v_chk (fun h20 => ?_)
  refine v_hget C (v := .int (hI u1 a18 6)) 2 6 (eq_of_beq h20) (by decide) rfl in_X3 (by decide) (Or.inr ⟨_, q269⟩) (fun _ h => h) (hF_i (ci := 2) (eq_of_beq h20) (by decide)) dX1_outBy_29 ?_
  refine v_aload_n C.1 2 rfl rfl dX1_outBy_32 ?_
  refine v_chk (fun h21 => ?_)
  refine v_hget C (v := va_rf (hR u1 p0 3)) 0 3 (eq_of_beq h21) (by decide) rfl in_X1 (by decide) (Or.inl q312) (fun _ h => h) (hF_r (ci := 0) (eq_of_beq h21) (by decide)) dX1_outBy_33 ?_
  refine v_deref (fun a22 e23 => ?_)
  refine v_bipush C.1 30 (by decide) dX1_outBy_36 ?_
  refine v_chk (fun h26 => ?_)
  refine v_callVH C [.int 30] [.int (hI u1 a18 6)] (ctX3_ahead t G l hl0 a22 30 u1) (fun _ _ => cwX3_ahead C q694 (by decide)) (recO C (ci := 2) (eq_of_beq h26) (by decide) rfl) rfl rfl (by exact Nat.le_of_ble_eq_true rfl) dX1_outBy_38 (fun r25 u24 => ?_)
  refine v_iadd C.1 dX1_outBy_41 ?_
  refine v_topi (fun v27 => ?_)
  refine v_istore C.1 [(5, .int v27), (4, .int v16), (3, .int v8), (0, .ref p0), (1, .int p1), (2, .int p2)] (by decide) rfl dX1_outBy_42 ?_
  refine v_aload_n C.1 3 rfl rfl dX1_outBy_44 ?_
  refine v_chk (fun h28 => ?_)
  refine v_hget C (v := va_rf (hR u24 p0 3)) 0 3 (eq_of_beq h28) (by decide) rfl in_X1 (by decide) (Or.inl q312) (fun _ h => h) (hF_r (ci := 0) (eq_of_beq h28) (by decide)) dX1_outBy_45 ?_
  refine v_deref (fun a29 e30 => ?_)
  refine v_chk (fun h31 => ?_)
  refine v_hget C (v := .int (hI u24 a29 6)) 2 6 (eq_of_beq h31) (by decide) rfl in_X3 (by decide) (Or.inr ⟨_, q269⟩) (fun _ h => h) (hF_i (ci := 2) (eq_of_beq h31) (by decide)) dX1_outBy_48 ?_
  refine v_topi (fun v32 => ?_)
  refine v_istore C.1 [(6, .int v32), (5, .int v27), (4, .int v16), (3, .int v8), (0, .ref p0), (1, .int p1), (2, .int p2)] (by decide) rfl dX1_outBy_51 ?_
  refine v_sub [4, 6, 3, 2, 1, 0] rfl ?_
  exact whX1_outBy_53 hl0 C p0 p1 p2 FUEL v8 v16 v27 v32 u24
theorem cwX1_outBy {t : TT} {G : GH} {l : Launch} {p : Program} {s : State} {m : MethodId} {args : Array Value} {meth : Method} {c : Code} {y0 : MethodName} {cc0 : ByteArray} {nL0 : Nat} {ret0 : Option FieldType} (C : CxH t G l p s m args meth c y0 cc0 nL0 ret0) {index lv mc ms K1 K2 : Nat} (hq : Cond.methodLink y0.cls index yX1_outBy ∈ lw_all) (hR : 425 + 1 ≤ lv) : CallW (rmH lv K1 K2) s args y0.cls RX1 index yX1_outBy cX1_outBy 10 (some .int) (ws_ yX1_outBy cX1_outBy 10 (some .int)) (rmH 425 mc ms) mc ms 2 :=
  cwV 2 C.1.2.2.2.2.1 (lw_V hq q1466 qs43 q121 q1467) rfl rfl rfl (by decide +kernel) ⟨hR, by show 8 + (10 + 11) + 100 * 425 ≤ 100 * lv; omega⟩
end
