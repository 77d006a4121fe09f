/-! walks in mode H, printed by tools/genh.py -/
set_option maxRecDepth 100000
section
variable {t : TT} {G : GH} {l : Launch}
def hX5_number (p0 : Nat) (p1 : Int32) (p2 : Int32) (u : HS) : Option (OH (PX Int32)) :=
  mchk (hC u p0 == 5) <|
  hx (hX5_numberNow p0 p1 p2 u) fun r2 u1 =>
  mchk (hC u1 p0 == 5) <|
  hb (hX5_next p0 u1) fun _ u4 =>
  hret (.inl r2) u4
theorem ctX5_number (t : TT) (G : GH) (l : Launch) (hl0 : l.stackTraces = false) (p0 : Nat) (p1 : Int32) (p2 : Int32) (u : HS) : CtX mkI t G l yX5_number cX5_number 4 (some .int) 10 [.ref p0, .int p1, .int p2] u (hX5_number p0 p1 p2 u) := by
  refine ctX_of [(0, .ref p0), (1, .int p1), (2, .int p2)] hl0 rfl (Nat.le_of_ble_eq_true rfl) rfl (fun K1 K2 p e s m args below meth c C => ?_)
  unfold hX5_number
  refine v_aload_n C.1.1 0 rfl rfl dX5_number_0 ?_
  refine v_iload_n C.1.1 1 rfl rfl dX5_number_1 ?_
  refine v_iload_n C.1.1 2 rfl rfl dX5_number_2 ?_
  refine v_chk (fun h3 => ?_)
  refine v_callVX C [.int p1, .int p2] [] (ctX5_numberNow t G l hl0 p0 p1 p2 u) (fun _ _ => cwX5_numberNow C.1 q1040 (by decide)) (recO C.1 (ci := 4) (eq_of_beq h3) (by decide) rfl) rfl rfl (by exact Nat.le_of_ble_eq_true rfl) dX5_number_3 (fun r2 u1 => ?_)
  refine v_istore_n C.1.1 [(3, .int r2), (0, .ref p0), (1, .int p1), (2, .int p2)] rfl (by decide) rfl dX5_number_6 ?_
  refine v_aload_n C.1.1 1 rfl rfl dX5_number_7 ?_
  refine v_chk (fun h5 => ?_)
  refine v_callVH C.1 [] [] (ctX5_next t G l hl0 p0 u1) (fun _ _ => cwX5_next C.1 q890 (by decide)) (recO C.1 (ci := 4) (eq_of_beq h5) (by decide) rfl) rfl rfl (by exact Nat.le_of_ble_eq_true rfl) dX5_number_8 (fun _ u4 => ?_)
  refine v_iload_n C.1.1 0 rfl rfl dX5_number_11 ?_
  exact v_xiret C.1 dX5_number_12
theorem cwX5_number {t : TT} {G : GH} {l : Launch} {p : Program} {s : State} {m : MethodId} {args : Array Value} {meth : Method} {c : Code} {y0 : MethodName} {cc0 : ByteArray} {nL0 : Nat} {ret0 : Option FieldType} (C : CxH t G l p s m args meth c y0 cc0 nL0 ret0) {index lv mc ms K1 K2 : Nat} (hq : Cond.methodLink y0.cls index yX5_number ∈ lw_all) (hR : 10 + 1 ≤ lv) : CallW (rmH lv K1 K2) s args y0.cls RX5 index yX5_number cX5_number 4 (some .int) (ws_ yX5_number cX5_number 4 (some .int)) (rmH 10 mc ms) mc ms 2 :=
  cwV 2 C.1.2.2.2.2.1 (lw_V hq q1038 qs20 q132 q1039) rfl rfl rfl (by decide +kernel) ⟨hR, by show 8 + (4 + 11) + 100 * 10 ≤ 100 * lv; omega⟩
def hX5_master_17 (p0 : Nat) (s0 : Nat) (s1 : Int32) (u : HS) : Option (OH (PX Unit)) :=
  mchk (hC u s0 == 5) <|
  hx (hX5_want s0 s1 2 u) fun _ u1 =>
  mchk (hC u1 p0 == 5) <|
  hb (hX5_next p0 u1) fun _ u3 =>
  mchk (hC u3 p0 == 5) <|
  mderef (hR u3 p0 2) fun a6 =>
  mchk (hC u3 a6 == 3) <|
  mderef (hR u3 a6 3) fun a9 =>
  mchk (hC u3 p0 == 5) <|
  mderef (hR u3 p0 1) fun a12 =>
  mchk (hC u3 a12 == 2) <|
  mchk (hC u3 p0 == 5) <|
  hx (hX5_number p0 0 999 u3) fun r16 u15 =>
  mchk (inA u15 (hI u3 a12 7) a9 21) <|
  mlet (uA u15 a9 (hI u3 a12 7).toNatClampNeg r16) fun u18 =>
  mchk (hC u18 p0 == 5) <|
  mderef (hR u18 p0 1) fun a21 =>
  mchk (hC u18 a21 == 2) <|
  mderef (hR u18 a21 6) fun a24 =>
  mlet (hZ u18) fun a26 =>
  addc 1 (cN 11) <|
  mlet (nO u18 11) fun u28 =>
  hb (hJ2_init a26 u28) fun _ u29 =>
  mchk (hC u29 a24 == 12) <|
  hb (hJ2_add a24 a26 u29) fun r31 u30 =>
  mchk (hC u30 p0 == 5) <|
  mderef (hR u30 p0 1) fun a34 =>
  mchk (hC u30 a34 == 2) <|
  mchk (hC u30 a34 == 2) <|
  mlet (uI u30 a34 7 ((hI u30 a34 7) + 1)) fun u38 =>
  hret (.inl ()) u38
theorem whX5_master_17 {K1 K2 : Nat} {p : Program} {e : Env} {s : State} {m : MethodId} {args : Array Value} {below : List Frame} {meth : Method} {c : Code} (hl0 : l.stackTraces = false) (C : CxX t G l p s m args meth c yX5_master cX5_master 1 none) (p0 : Nat) (s0 : Nat) (s1 : Int32) (u : HS) : VX mkU t G p l e 11 K1 K2 s m args below meth c 1 17 [(0, .ref p0)] [.int s1, .ref s0] u (hX5_master_17 p0 s0 s1 u) := by
  unfold hX5_master_17
  refine v_iconst C.1.1 2 (by decide) dX5_master_17 ?_
  refine v_chk (fun h2 => ?_)
  refine v_callVX C [.int s1, .int 2] [] (ctX5_want t G l hl0 s0 s1 2 u) (fun _ _ => cwX5_want C.1 q1008 (by decide)) (recO C.1 (ci := 4) (eq_of_beq h2) (by decide) rfl) rfl rfl (by exact Nat.le_of_ble_eq_true rfl) dX5_master_18 (fun _ u1 => ?_)
  refine v_aload_n C.1.1 0 rfl rfl dX5_master_21 ?_
  refine v_chk (fun h4 => ?_)
  refine v_callVH C.1 [] [] (ctX5_next t G l hl0 p0 u1) (fun _ _ => cwX5_next C.1 q890 (by decide)) (recO C.1 (ci := 4) (eq_of_beq h4) (by decide) rfl) rfl rfl (by exact Nat.le_of_ble_eq_true rfl) dX5_master_22 (fun _ u3 => ?_)
  refine v_aload_n C.1.1 0 rfl rfl dX5_master_25 ?_
  refine v_chk (fun h5 => ?_)
  refine v_hget C.1 (v := va_rf (hR u3 p0 2)) 4 2 (eq_of_beq h5) (by decide) rfl in_X5 (by decide) (Or.inl q849) (fun _ h => h) (hF_r (ci := 4) (eq_of_beq h5) (by decide)) dX5_master_26 ?_
  refine v_deref (fun a6 e7 => ?_)
  refine v_chk (fun h8 => ?_)
  refine v_hget C.1 (v := va_rf (hR u3 a6 3)) 2 3 (eq_of_beq h8) (by decide) rfl in_X3 (by decide) (Or.inr ⟨_, q263⟩) (fun _ h => h) (hF_r (ci := 2) (eq_of_beq h8) (by decide)) dX5_master_29 ?_
  refine v_deref (fun a9 e10 => ?_)
  refine v_aload_n C.1.1 0 rfl rfl dX5_master_32 ?_
  refine v_chk (fun h11 => ?_)
  refine v_hget C.1 (v := va_rf (hR u3 p0 1)) 4 1 (eq_of_beq h11) (by decide) rfl in_X5 (by decide) (Or.inl q848) (fun _ h => h) (hF_r (ci := 4) (eq_of_beq h11) (by decide)) dX5_master_33 ?_
  refine v_deref (fun a12 e13 => ?_)
  refine v_chk (fun h14 => ?_)
  refine v_hget C.1 (v := .int (hI u3 a12 7)) 1 7 (eq_of_beq h14) (by decide) rfl in_X2 (by decide) (Or.inr ⟨_, q224⟩) (fun _ h => h) (hF_i (ci := 1) (eq_of_beq h14) (by decide)) dX5_master_36 ?_
  refine v_aload_n C.1.1 0 rfl rfl dX5_master_39 ?_
  refine v_iconst C.1.1 0 (by decide) dX5_master_40 ?_
  refine v_sipush C.1.1 999 (by decide) dX5_master_41 ?_
  refine v_chk (fun h17 => ?_)
  refine v_callVX C [.int 0, .int 999] [.int (hI u3 a12 7), .ref a9] (ctX5_number t G l hl0 p0 0 999 u3) (fun _ _ => cwX5_number C.1 q1036 (by decide)) (recO C.1 (ci := 4) (eq_of_beq h17) (by decide) rfl) rfl rfl (by exact Nat.le_of_ble_eq_true rfl) dX5_master_44 (fun r16 u15 => ?_)
  refine v_chk (fun h19 => ?_)
  refine v_haiast C.1 h19 dX5_master_47 (fun u18 => ?_)
  refine v_aload_n C.1.1 0 rfl rfl dX5_master_48 ?_
  refine v_chk (fun h20 => ?_)
  refine v_hget C.1 (v := va_rf (hR u18 p0 1)) 4 1 (eq_of_beq h20) (by decide) rfl in_X5 (by decide) (Or.inl q848) (fun _ h => h) (hF_r (ci := 4) (eq_of_beq h20) (by decide)) dX5_master_49 ?_
  refine v_deref (fun a21 e22 => ?_)
  refine v_chk (fun h23 => ?_)
  refine v_hget C.1 (v := va_rf (hR u18 a21 6)) 1 6 (eq_of_beq h23) (by decide) rfl in_X2 (by decide) (Or.inr ⟨_, q220⟩) (fun _ h => h) (hF_r (ci := 1) (eq_of_beq h23) (by decide)) dX5_master_52 ?_
  refine v_deref (fun a24 e25 => ?_)
  refine v_letE (fun a26 e27 => ?_)
  refine v_hnew C.1 11 e27 (by decide) (by decide) rfl in_J2 tyJ2 tyJ2_ok df_J2 q1044 q170 q125 dX5_master_55 (fun u28 => ?_)
  refine v_dup C.1.1 rfl dX5_master_58 ?_
  refine v_callIH C.1 [] [.ref a26, .ref a24] (ctJ2_init t G l hl0 a26 u28) (fun _ _ => cwJ2_init C.1 q1045 (by decide)) rfl rfl (by exact Nat.le_of_ble_eq_true rfl) dX5_master_59 (fun _ u29 => ?_)
  refine v_chk (fun h32 => ?_)
  refine v_callFH C.1 [.ref a26] [] (ctJ2_add t G l hl0 a24 a26 u29) (fun _ _ => cwJ2_addF C.1 q1047 (by decide)) (eq_of_beq h32) (by decide) rfl rfl rfl (by exact Nat.le_of_ble_eq_true rfl) dX5_master_62 (fun r31 u30 => ?_)
  refine v_pop C.1.1 rfl dX5_master_67 ?_
  refine v_aload_n C.1.1 0 rfl rfl dX5_master_68 ?_
  refine v_chk (fun h33 => ?_)
  refine v_hget C.1 (v := va_rf (hR u30 p0 1)) 4 1 (eq_of_beq h33) (by decide) rfl in_X5 (by decide) (Or.inl q848) (fun _ h => h) (hF_r (ci := 4) (eq_of_beq h33) (by decide)) dX5_master_69 ?_
  refine v_deref (fun a34 e35 => ?_)
  refine v_dup C.1.1 rfl dX5_master_72 ?_
  refine v_chk (fun h36 => ?_)
  refine v_hget C.1 (v := .int (hI u30 a34 7)) 1 7 (eq_of_beq h36) (by decide) rfl in_X2 (by decide) (Or.inr ⟨_, q224⟩) (fun _ h => h) (hF_i (ci := 1) (eq_of_beq h36) (by decide)) dX5_master_73 ?_
  refine v_iconst C.1.1 1 (by decide) dX5_master_76 ?_
  refine v_iadd C.1.1 dX5_master_77 ?_
  refine v_chk (fun h37 => ?_)
  refine v_hputIN C.1 1 7 (eq_of_beq h37) (by decide) rfl in_X2 tyX2 tyX2_ok nmX2 (by decide) (by decide) q224 (fun _ h => h) (Or.inl rfl) rfl ⟨rfl, rfl⟩ dX5_master_78 (fun u38 => ?_)
  exact v_xvret C.1 dX5_master_81
def hX5_master (p0 : Nat) (u : HS) : Option (OH (PX Unit)) :=
  mchk (hC u p0 == 5) <|
  mderef (hR u p0 1) fun a2 =>
  mchk (hC u a2 == 2) <|
  if 3 ≤ (hI u a2 7) then
    hX5_master_17 p0 p0 0 u
  else
    hX5_master_17 p0 p0 1 u
theorem ctX5_master (t : TT) (G : GH) (l : Launch) (hl0 : l.stackTraces = false) (p0 : Nat) (u : HS) : CtX mkU t G l yX5_master cX5_master 1 none 11 [.ref p0] u (hX5_master p0 u) := by
  refine ctX_of [(0, .ref p0)] hl0 rfl (Nat.le_of_ble_eq_true rfl) rfl (fun K1 K2 p e s m args below meth c C => ?_)
  unfold hX5_master
  refine v_aload_n C.1.1 0 rfl rfl dX5_master_0 ?_
  refine v_aload_n C.1.1 0 rfl rfl dX5_master_1 ?_
  refine v_chk (fun h1 => ?_)
  refine v_hget C.1 (v := va_rf (hR u p0 1)) 4 1 (eq_of_beq h1) (by decide) rfl in_X5 (by decide) (Or.inl q848) (fun _ h => h) (hF_r (ci := 4) (eq_of_beq h1) (by decide)) dX5_master_2 ?_
  refine v_deref (fun a2 e3 => ?_)
  refine v_chk (fun h4 => ?_)
  refine v_hget C.1 (v := .int (hI u a2 7)) 1 7 (eq_of_beq h4) (by decide) rfl in_X2 (by decide) (Or.inr ⟨_, q224⟩) (fun _ h => h) (hF_i (ci := 1) (eq_of_beq h4) (by decide)) dX5_master_5 ?_
  refine v_iconst C.1.1 3 (by decide) dX5_master_8 ?_
  refine v_icmp_ge C.1.1 16 (by decide) dX5_master_9 (fun _ => ?_) (fun _ => ?_)
  · refine v_iconst C.1.1 0 (by decide) dX5_master_16 ?_
    exact whX5_master_17 hl0 C p0 p0 0 u
  · refine v_iconst C.1.1 1 (by decide) dX5_master_12 ?_
    refine v_goto C.1.1 17 (by decide) dX5_master_13 ?_
    exact whX5_master_17 hl0 C p0 p0 1 u
theorem cwX5_master {t : TT} {G : GH} {l : Launch} {p : Program} {s : State} {m : MethodId} {args : Array Value} {meth : Method} {c : Code} {y0 : MethodName} {cc0 : ByteArray} {nL0 : Nat} {ret0 : Option FieldType} (C : CxH t G l p s m args meth c y0 cc0 nL0 ret0) {index lv mc ms K1 K2 : Nat} (hq : Cond.methodLink y0.cls index yX5_master ∈ lw_all) (hR : 11 + 1 ≤ lv) : CallW (rmH lv K1 K2) s args y0.cls RX5 index yX5_master cX5_master 1 none (ws_ yX5_master cX5_master 1 none) (rmH 11 mc ms) mc ms 0 :=
  cwV 0 C.1.2.2.2.2.1 (lw_V hq q1006 qs18 q132 q1007) rfl rfl rfl (by decide +kernel) ⟨hR, by show 8 + (1 + 11) + 100 * 11 ≤ 100 * lv; omega⟩
def hX5_place_53 (p0 : Nat) (p1 : Int32) (s0 : Nat) (s1 : Int32) (u : HS) : Option (OH (PX Unit)) :=
  hb (hJ16_valueOf s1 u) fun r2 u1 =>
  mchk (hC u1 s0 == 12) <|
  hb (hJ2_add s0 r2 u1) fun r4 u3 =>
  hret (.inl ()) u3
theorem whX5_place_53 {K1 K2 : Nat} {p : Program} {e : Env} {s : State} {m : MethodId} {args : Array Value} {below : List Frame} {meth : Method} {c : Code} (hl0 : l.stackTraces = false) (C : CxX t G l p s m args meth c yX5_place cX5_place 2 none) (p0 : Nat) (p1 : Int32) (s0 : Nat) (s1 : Int32) (u : HS) : VX mkU t G p l e 11 K1 K2 s m args below meth c 2 53 [] [.int s1, .ref s0] u (hX5_place_53 p0 p1 s0 s1 u) := by
  unfold hX5_place_53
  refine v_callSH C.1 [.int s1] [.ref s0] (ctJ16_valueOf t G l hl0 s1 u) (fun _ _ => cwJ16_valueOf C.1 q1056 (by decide)) rfl rfl (by exact Nat.le_of_ble_eq_true rfl) dX5_place_53 (fun r2 u1 => ?_)
  refine v_chk (fun h5 => ?_)
  refine v_callFH C.1 [.ref r2] [] (ctJ2_add t G l hl0 s0 r2 u1) (fun _ _ => cwJ2_addF C.1 q1047 (by decide)) (eq_of_beq h5) (by decide) rfl rfl rfl (by exact Nat.le_of_ble_eq_true rfl) dX5_place_56 (fun r4 u3 => ?_)
  refine v_pop C.1.1 rfl dX5_place_61 ?_
  exact v_xvret C.1 dX5_place_62
def hX5_place_23 (p0 : Nat) (p1 : Int32) (s0 : Nat) (s1 : Int32) (u : HS) : Option (OH (PX Unit)) :=
  mchk (hC u s0 == 5) <|
  hx (hX5_want s0 s1 2 u) fun _ u1 =>
  mchk (hC u1 p0 == 5) <|
  hb (hX5_next p0 u1) fun _ u3 =>
  mchk (hC u3 p0 == 5) <|
  mderef (hR u3 p0 1) fun a6 =>
  mchk (hC u3 a6 == 2) <|
  mderef (hR u3 a6 0) fun a9 =>
  if p1 = 0 then
    mchk (hC u3 p0 == 5) <|
    hx (hX5_number p0 0 9 u3) fun r12 u11 =>
    hX5_place_53 p0 p1 a9 r12 u11
  else
    hX5_place_53 p0 p1 a9 (-1) u3
theorem whX5_place_23 {K1 K2 : Nat} {p : Program} {e : Env} {s : State} {m : MethodId} {args : Array Value} {below : List Frame} {meth : Method} {c : Code} (hl0 : l.stackTraces = false) (C : CxX t G l p s m args meth c yX5_place cX5_place 2 none) (p0 : Nat) (p1 : Int32) (s0 : Nat) (s1 : Int32) (u : HS) : VX mkU t G p l e 11 K1 K2 s m args below meth c 2 23 [(0, .ref p0), (1, .int p1)] [.int s1, .ref s0] u (hX5_place_23 p0 p1 s0 s1 u) := by
  unfold hX5_place_23
  refine v_iconst C.1.1 2 (by decide) dX5_place_23 ?_
  refine v_chk (fun h2 => ?_)
  refine v_callVX C [.int s1, .int 2] [] (ctX5_want t G l hl0 s0 s1 2 u) (fun _ _ => cwX5_want C.1 q1008 (by decide)) (recO C.1 (ci := 4) (eq_of_beq h2) (by decide) rfl) rfl rfl (by exact Nat.le_of_ble_eq_true rfl) dX5_place_24 (fun _ u1 => ?_)
  refine v_aload_n C.1.1 0 rfl rfl dX5_place_27 ?_
  refine v_chk (fun h4 => ?_)
  refine v_callVH C.1 [] [] (ctX5_next t G l hl0 p0 u1) (fun _ _ => cwX5_next C.1 q890 (by decide)) (recO C.1 (ci := 4) (eq_of_beq h4) (by decide) rfl) rfl rfl (by exact Nat.le_of_ble_eq_true rfl) dX5_place_28 (fun _ u3 => ?_)
  refine v_aload_n C.1.1 0 rfl rfl dX5_place_31 ?_
  refine v_chk (fun h5 => ?_)
  refine v_hget C.1 (v := va_rf (hR u3 p0 1)) 4 1 (eq_of_beq h5) (by decide) rfl in_X5 (by decide) (Or.inl q848) (fun _ h => h) (hF_r (ci := 4) (eq_of_beq h5) (by decide)) dX5_place_32 ?_
  refine v_deref (fun a6 e7 => ?_)
  refine v_chk (fun h8 => ?_)
  refine v_hget C.1 (v := va_rf (hR u3 a6 0)) 1 0 (eq_of_beq h8) (by decide) rfl in_X2 (by decide) (Or.inr ⟨_, q199⟩) (fun _ h => h) (hF_r (ci := 1) (eq_of_beq h8) (by decide)) dX5_place_35 ?_
  refine v_deref (fun a9 e10 => ?_)
  refine v_iload_n C.1.1 1 rfl rfl dX5_place_38 ?_
  refine v_if_eq C.1.1 46 (by decide) dX5_place_39 (fun _ => ?_) (fun _ => ?_)
  · refine v_aload_n C.1.1 0 rfl rfl dX5_place_46 ?_
    refine v_iconst C.1.1 0 (by decide) dX5_place_47 ?_
    refine v_bipush C.1.1 9 (by decide) dX5_place_48 ?_
    refine v_chk (fun h13 => ?_)
    refine v_callVX C [.int 0, .int 9] [.ref a9] (ctX5_number t G l hl0 p0 0 9 u3) (fun _ _ => cwX5_number C.1 q1036 (by decide)) (recO C.1 (ci := 4) (eq_of_beq h13) (by decide) rfl) rfl rfl (by exact Nat.le_of_ble_eq_true rfl) dX5_place_50 (fun r12 u11 => ?_)
    refine v_sub [] rfl ?_
    exact whX5_place_53 hl0 C p0 p1 a9 r12 u11
  · refine v_iconst C.1.1 (-1) (by decide) dX5_place_42 ?_
    refine v_goto C.1.1 53 (by decide) dX5_place_43 ?_
    refine v_sub [] rfl ?_
    exact whX5_place_53 hl0 C p0 p1 a9 (-1) u3
def hX5_place (p0 : Nat) (p1 : Int32) (u : HS) : Option (OH (PX Unit)) :=
  mchk (hC u p0 == 5) <|
  mderef (hR u p0 1) fun a2 =>
  mchk (hC u a2 == 2) <|
  mderef (hR u a2 0) fun a5 =>
  mchk (hC u a5 == 12) <|
  hb (hJ2_size a5 u) fun r8 u7 =>
  if 8 ≤ r8 then
    hX5_place_23 p0 p1 p0 0 u7
  else
    hX5_place_23 p0 p1 p0 1 u7
theorem ctX5_place (t : TT) (G : GH) (l : Launch) (hl0 : l.stackTraces = false) (p0 : Nat) (p1 : Int32) (u : HS) : CtX mkU t G l yX5_place cX5_place 2 none 11 [.ref p0, .int p1] u (hX5_place p0 p1 u) := by
  refine ctX_of [(0, .ref p0), (1, .int p1)] hl0 rfl (Nat.le_of_ble_eq_true rfl) rfl (fun K1 K2 p e s m args below meth c C => ?_)
  unfold hX5_place
  refine v_aload_n C.1.1 0 rfl rfl dX5_place_0 ?_
  refine v_aload_n C.1.1 0 rfl rfl dX5_place_1 ?_
  refine v_chk (fun h1 => ?_)
  refine v_hget C.1 (v := va_rf (hR u p0 1)) 4 1 (eq_of_beq h1) (by decide) rfl in_X5 (by decide) (Or.inl q848) (fun _ h => h) (hF_r (ci := 4) (eq_of_beq h1) (by decide)) dX5_place_2 ?_
  refine v_deref (fun a2 e3 => ?_)
  refine v_chk (fun h4 => ?_)
  refine v_hget C.1 (v := va_rf (hR u a2 0)) 1 0 (eq_of_beq h4) (by decide) rfl in_X2 (by decide) (Or.inr ⟨_, q199⟩) (fun _ h => h) (hF_r (ci := 1) (eq_of_beq h4) (by decide)) dX5_place_5 ?_
  refine v_deref (fun a5 e6 => ?_)
  refine v_chk (fun h9 => ?_)
  refine v_callFH C.1 [] [.ref p0] (ctJ2_size t G l hl0 a5 u) (fun _ _ => cwJ2_sizeF C.1 q1055 (by decide)) (eq_of_beq h9) (by decide) rfl rfl rfl (by exact Nat.le_of_ble_eq_true rfl) dX5_place_8 (fun r8 u7 => ?_)
  refine v_bipush C.1.1 8 (by decide) dX5_place_13 ?_
  refine v_icmp_ge C.1.1 22 (by decide) dX5_place_15 (fun _ => ?_) (fun _ => ?_)
  · refine v_iconst C.1.1 0 (by decide) dX5_place_22 ?_
    exact whX5_place_23 hl0 C p0 p1 p0 0 u7
  · refine v_iconst C.1.1 1 (by decide) dX5_place_18 ?_
    refine v_goto C.1.1 23 (by decide) dX5_place_19 ?_
    exact whX5_place_23 hl0 C p0 p1 p0 1 u7
theorem cwX5_place {t : TT} {G : GH} {l : Launch} {p : Program} {s : State} {m : MethodId} {args : Array Value} {meth : Method} {c : Code} {y0 : MethodName} {cc0 : ByteArray} {nL0 : Nat} {ret0 : Option FieldType} (C : CxH t G l p s m args meth c y0 cc0 nL0 ret0) {index lv mc ms K1 K2 : Nat} (hq : Cond.methodLink y0.cls index yX5_place ∈ lw_all) (hR : 11 + 1 ≤ lv) : CallW (rmH lv K1 K2) s args y0.cls RX5 index yX5_place cX5_place 2 none (ws_ yX5_place cX5_place 2 none) (rmH 11 mc ms) mc ms 1 :=
  cwV 1 C.1.2.2.2.2.1 (lw_V hq q1052 qs22 q132 q1053) rfl rfl rfl (by decide +kernel) ⟨hR, by show 8 + (2 + 11) + 100 * 11 ≤ 100 * lv; omega⟩
def hX5_oneNow_20 (p0 : Nat) (p1 : Int32) (x2 : Int32) (s0 : Nat) (s1 : Int32) (u : HS) : Option (OH (PX Int32)) :=
  mchk (hC u s0 == 5) <|
  hx (hX5_want s0 s1 3 u) fun _ u1 =>
  hret (.inl x2) u1
theorem whX5_oneNow_20 {K1 K2 : Nat} {p : Program} {e : Env} {s : State} {m : MethodId} {args : Array Value} {below : List Frame} {meth : Method} {c : Code} (hl0 : l.stackTraces = false) (C : CxX t G l p s m args meth c yX5_oneNow cX5_oneNow 3 (some .int)) (p0 : Nat) (p1 : Int32) (x2 : Int32) (s0 : Nat) (s1 : Int32) (u : HS) : VX mkI t G p l e 10 K1 K2 s m args below meth c 3 20 [(2, .int x2)] [.int s1, .ref s0] u (hX5_oneNow_20 p0 p1 x2 s0 s1 u) := by
  unfold hX5_oneNow_20
  refine v_iconst C.1.1 3 (by decide) dX5_oneNow_20 ?_
  refine v_chk (fun h2 => ?_)
  refine v_callVX C [.int s1, .int 3] [] (ctX5_want t G l hl0 s0 s1 3 u) (fun _ _ => cwX5_want C.1 q1008 (by decide)) (recO C.1 (ci := 4) (eq_of_beq h2) (by decide) rfl) rfl rfl (by exact Nat.le_of_ble_eq_true rfl) dX5_oneNow_21 (fun _ u1 => ?_)
  refine v_iload_n C.1.1 0 rfl rfl dX5_oneNow_24 ?_
  exact v_xiret C.1 dX5_oneNow_25
def hX5_oneNow (p0 : Nat) (p1 : Int32) (u : HS) : Option (OH (PX Int32)) :=
  mchk (hC u p0 == 5) <|
  hx (hX5_numberNow p0 0 9999 u) fun r2 u1 =>
  if p1 ≤ r2 then
    hX5_oneNow_20 p0 p1 r2 p0 0 u1
  else
    hX5_oneNow_20 p0 p1 r2 p0 1 u1
theorem ctX5_oneNow (t : TT) (G : GH) (l : Launch) (hl0 : l.stackTraces = false) (p0 : Nat) (p1 : Int32) (u : HS) : CtX mkI t G l yX5_oneNow cX5_oneNow 3 (some .int) 10 [.ref p0, .int p1] u (hX5_oneNow p0 p1 u) := by
  refine ctX_of [(0, .ref p0), (1, .int p1)] hl0 rfl (Nat.le_of_ble_eq_true rfl) rfl (fun K1 K2 p e s m args below meth c C => ?_)
  unfold hX5_oneNow
  refine v_aload_n C.1.1 0 rfl rfl dX5_oneNow_0 ?_
  refine v_iconst C.1.1 0 (by decide) dX5_oneNow_1 ?_
  refine v_sipush C.1.1 9999 (by decide) dX5_oneNow_2 ?_
  refine v_chk (fun h3 => ?_)
  refine v_callVX C [.int 0, .int 9999] [] (ctX5_numberNow t G l hl0 p0 0 9999 u) (fun _ _ => cwX5_numberNow C.1 q1040 (by decide)) (recO C.1 (ci := 4) (eq_of_beq h3) (by decide) rfl) rfl rfl (by exact Nat.le_of_ble_eq_true rfl) dX5_oneNow_5 (fun r2 u1 => ?_)
  refine v_istore_n C.1.1 [(2, .int r2), (0, .ref p0), (1, .int p1)] rfl (by decide) rfl dX5_oneNow_8 ?_
  refine v_aload_n C.1.1 1 rfl rfl dX5_oneNow_9 ?_
  refine v_iload_n C.1.1 0 rfl rfl dX5_oneNow_10 ?_
  refine v_iload_n C.1.1 2 rfl rfl dX5_oneNow_11 ?_
  refine v_icmp_ge C.1.1 19 (by decide) dX5_oneNow_12 (fun _ => ?_) (fun _ => ?_)
  · refine v_iconst C.1.1 0 (by decide) dX5_oneNow_19 ?_
    refine v_sub [0] rfl ?_
    exact whX5_oneNow_20 hl0 C p0 p1 r2 p0 0 u1
  · refine v_iconst C.1.1 1 (by decide) dX5_oneNow_15 ?_
    refine v_goto C.1.1 20 (by decide) dX5_oneNow_16 ?_
    refine v_sub [0] rfl ?_
    exact whX5_oneNow_20 hl0 C p0 p1 r2 p0 1 u1
theorem cwX5_oneNow {t : TT} {G : GH} {l : Launch} {p : Program} {s : State} {m : MethodId} {args : Array Value} {meth : Method} {c : Code} {y0 : MethodName} {cc0 : ByteArray} {nL0 : Nat} {ret0 : Option FieldType} (C : CxH t G l p s m args meth c y0 cc0 nL0 ret0) {index lv mc ms K1 K2 : Nat} (hq : Cond.methodLink y0.cls index yX5_oneNow ∈ lw_all) (hR : 10 + 1 ≤ lv) : CallW (rmH lv K1 K2) s args y0.cls RX5 index yX5_oneNow cX5_oneNow 3 (some .int) (ws_ yX5_oneNow cX5_oneNow 3 (some .int)) (rmH 10 mc ms) mc ms 1 :=
  cwV 1 C.1.2.2.2.2.1 (lw_V hq q1068 qs25 q132 q1069) rfl rfl rfl (by decide +kernel) ⟨hR, by show 8 + (3 + 11) + 100 * 10 ≤ 100 * lv; omega⟩
def hX5_one (p0 : Nat) (p1 : Int32) (u : HS) : Option (OH (PX Int32)) :=
  mchk (hC u p0 == 5) <|
  hx (hX5_oneNow p0 p1 u) fun r2 u1 =>
  mchk (hC u1 p0 == 5) <|
  hb (hX5_next p0 u1) fun _ u4 =>
  hret (.inl r2) u4
theorem ctX5_one (t : TT) (G : GH) (l : Launch) (hl0 : l.stackTraces = false) (p0 : Nat) (p1 : Int32) (u : HS) : CtX mkI t G l yX5_one cX5_one 3 (some .int) 11 [.ref p0, .int p1] u (hX5_one p0 p1 u) := by
  refine ctX_of [(0, .ref p0), (1, .int p1)] hl0 rfl (Nat.le_of_ble_eq_true rfl) rfl (fun K1 K2 p e s m args below meth c C => ?_)
  unfold hX5_one
  refine v_aload_n C.1.1 0 rfl rfl dX5_one_0 ?_
  refine v_iload_n C.1.1 1 rfl rfl dX5_one_1 ?_
  refine v_chk (fun h3 => ?_)
  refine v_callVX C [.int p1] [] (ctX5_oneNow t G l hl0 p0 p1 u) (fun _ _ => cwX5_oneNow C.1 q1066 (by decide)) (recO C.1 (ci := 4) (eq_of_beq h3) (by decide) rfl) rfl rfl (by exact Nat.le_of_ble_eq_true rfl) dX5_one_2 (fun r2 u1 => ?_)
  refine v_istore_n C.1.1 [(2, .int r2), (0, .ref p0), (1, .int p1)] rfl (by decide) rfl dX5_one_5 ?_
  refine v_aload_n C.1.1 1 rfl rfl dX5_one_6 ?_
  refine v_chk (fun h5 => ?_)
  refine v_callVH C.1 [] [] (ctX5_next t G l hl0 p0 u1) (fun _ _ => cwX5_next C.1 q890 (by decide)) (recO C.1 (ci := 4) (eq_of_beq h5) (by decide) rfl) rfl rfl (by exact Nat.le_of_ble_eq_true rfl) dX5_one_7 (fun _ u4 => ?_)
  refine v_iload_n C.1.1 0 rfl rfl dX5_one_10 ?_
  exact v_xiret C.1 dX5_one_11
theorem cwX5_one {t : TT} {G : GH} {l : Launch} {p : Program} {s : State} {m : MethodId} {args : Array Value} {meth : Method} {c : Code} {y0 : MethodName} {cc0 : ByteArray} {nL0 : Nat} {ret0 : Option FieldType} (C : CxH t G l p s m args meth c y0 cc0 nL0 ret0) {index lv mc ms K1 K2 : Nat} (hq : Cond.methodLink y0.cls index yX5_one ∈ lw_all) (hR : 11 + 1 ≤ lv) : CallW (rmH lv K1 K2) s args y0.cls RX5 index yX5_one cX5_one 3 (some .int) (ws_ yX5_one cX5_one 3 (some .int)) (rmH 11 mc ms) mc ms 1 :=
  cwV 1 C.1.2.2.2.2.1 (lw_V hq q1064 qs24 q132 q1065) rfl rfl rfl (by decide +kernel) ⟨hR, by show 8 + (3 + 11) + 100 * 11 ≤ 100 * lv; omega⟩
def hX7_init (p0 : Nat) (p1 : Int32) (p2 : Int32) (p3 : Int32) (u : HS) : Option (OH Unit) :=
  mchk (hC u p0 == 7) <|
  mlet (uI u p0 0 p1) fun u2 =>
  mchk (hC u2 p0 == 7) <|
  mlet (uI u2 p0 1 p2) fun u4 =>
  mchk (hC u4 p0 == 7) <|
  mlet (uI u4 p0 2 p3) fun u6 =>
  hret () u6
theorem ctX7_init (t : TT) (G : GH) (l : Launch) (hl0 : l.stackTraces = false) (p0 : Nat) (p1 : Int32) (p2 : Int32) (p3 : Int32) (u : HS) : CtH mkU t G l yX7_init cX7_init 4 none 2 [.ref p0, .int p1, .int p2, .int p3] u (hX7_init p0 p1 p2 p3 u) := by
  refine ctH_of [(0, .ref p0), (1, .int p1), (2, .int p2), (3, .int p3)] hl0 rfl (Nat.le_of_ble_eq_true rfl) rfl (fun K1 K2 p e s m args below meth c C => ?_)
  unfold hX7_init
  refine v_aload_n C.1 0 rfl rfl dX7_init_0 ?_
  refine v_objInit C q1088 q161 q162 (by exact Nat.le_of_ble_eq_true rfl) (by exact Nat.le_of_ble_eq_true rfl) dX7_init_1 ?_
  refine v_aload_n C.1 0 rfl rfl dX7_init_4 ?_
  refine v_iload_n C.1 1 rfl rfl dX7_init_5 ?_
  refine v_chk (fun h1 => ?_)
  refine v_hputI C 6 0 (eq_of_beq h1) (by decide) rfl in_X7 tyX7 tyX7_ok nmX7 (by decide) (by decide) q1089 (fun _ h => h) (Or.inr ⟨rfl, rfl, rfl⟩) ⟨rfl, rfl⟩ dX7_init_6 (fun u2 => ?_)
  refine v_aload_n C.1 0 rfl rfl dX7_init_9 ?_
  refine v_iload_n C.1 2 rfl rfl dX7_init_10 ?_
  refine v_chk (fun h3 => ?_)
  refine v_hputI C 6 1 (eq_of_beq h3) (by decide) rfl in_X7 tyX7 tyX7_ok nmX7 (by decide) (by decide) q1091 (fun _ h => h) (Or.inr ⟨rfl, rfl, rfl⟩) ⟨rfl, rfl⟩ dX7_init_11 (fun u4 => ?_)
  refine v_aload_n C.1 0 rfl rfl dX7_init_14 ?_
  refine v_iload_n C.1 3 rfl rfl dX7_init_15 ?_
  refine v_chk (fun h5 => ?_)
  refine v_hputI C 6 2 (eq_of_beq h5) (by decide) rfl in_X7 tyX7 tyX7_ok nmX7 (by decide) (by decide) q1093 (fun _ h => h) (Or.inr ⟨rfl, rfl, rfl⟩) ⟨rfl, rfl⟩ dX7_init_16 (fun u6 => ?_)
  exact v_hvret C dX7_init_19
theorem cwX7_init {t : TT} {G : GH} {l : Launch} {p : Program} {s : State} {m : MethodId} {args : Array Value} {meth : Method} {c : Code} {y0 : MethodName} {cc0 : ByteArray} {nL0 : Nat} {ret0 : Option FieldType} (C : CxH t G l p s m args meth c y0 cc0 nL0 ret0) {index lv mc ms K1 K2 : Nat} (hq : Cond.methodLink y0.cls index yX7_init ∈ lw_all) (hR : 2 + 1 ≤ lv) : CallB (rmH lv K1 K2) s args y0.cls index yX7_init cX7_init 4 none (ws_ yX7_init cX7_init 4 none) (rmH 2 mc ms) mc ms 3 ∧ yX7_init.name = "<init>" ∧ (Cond.instanceMethod yX7_init).before args s = true :=
  cwI 3 C.1.2.2.2.2.1 (lw_meth q1087) rfl rfl rfl (C.1.2.2.2.2.1 _ q147) (C.1.2.2.2.2.1 _ hq) (C.1.2.2.2.2.1 _ q1086) rfl (by decide +kernel) ⟨hR, by show 8 + (4 + 11) + 100 * 2 ≤ 100 * lv; omega⟩
def hX5_way_88 (p0 : Nat) (x1 : Int32) (x2 : Int32) (s0 : Nat) (s1 : Int32) (u : HS) : Option (OH (PX Unit)) :=
  mchk (hC u s0 == 5) <|
  hx (hX5_want s0 s1 4 u) fun _ u1 =>
  mchk (hC u1 p0 == 5) <|
  hb (hX5_next p0 u1) fun _ u3 =>
  mchk (hC u3 p0 == 5) <|
  mderef (hR u3 p0 1) fun a6 =>
  mchk (hC u3 a6 == 2) <|
  mderef (hR u3 a6 2) fun a9 =>
  mlet (hZ u3) fun a11 =>
  addc 1 (cN 6) <|
  mlet (nO u3 6) fun u13 =>
  mchk (hC u13 p0 == 5) <|
  hx (hX5_number p0 0 60 u13) fun r15 u14 =>
  hb (hX7_init a11 x1 x2 r15 u14) fun _ u17 =>
  mchk (hC u17 a9 == 12) <|
  hb (hJ2_add a9 a11 u17) fun r19 u18 =>
  hret (.inl ()) u18
theorem whX5_way_88 {K1 K2 : Nat} {p : Program} {e : Env} {s : State} {m : MethodId} {args : Array Value} {below : List Frame} {meth : Method} {c : Code} (hl0 : l.stackTraces = false) (C : CxX t G l p s m args meth c yX5_way cX5_way 3 none) (p0 : Nat) (x1 : Int32) (x2 : Int32) (s0 : Nat) (s1 : Int32) (u : HS) : VX mkU t G p l e 12 K1 K2 s m args below meth c 3 88 [(0, .ref p0), (1, .int x1), (2, .int x2)] [.int s1, .ref s0] u (hX5_way_88 p0 x1 x2 s0 s1 u) := by
  unfold hX5_way_88
  refine v_iconst C.1.1 4 (by decide) dX5_way_88 ?_
  refine v_chk (fun h2 => ?_)
  refine v_callVX C [.int s1, .int 4] [] (ctX5_want t G l hl0 s0 s1 4 u) (fun _ _ => cwX5_want C.1 q1008 (by decide)) (recO C.1 (ci := 4) (eq_of_beq h2) (by decide) rfl) rfl rfl (by exact Nat.le_of_ble_eq_true rfl) dX5_way_89 (fun _ u1 => ?_)
  refine v_aload_n C.1.1 0 rfl rfl dX5_way_92 ?_
  refine v_chk (fun h4 => ?_)
  refine v_callVH C.1 [] [] (ctX5_next t G l hl0 p0 u1) (fun _ _ => cwX5_next C.1 q890 (by decide)) (recO C.1 (ci := 4) (eq_of_beq h4) (by decide) rfl) rfl rfl (by exact Nat.le_of_ble_eq_true rfl) dX5_way_93 (fun _ u3 => ?_)
  refine v_aload_n C.1.1 0 rfl rfl dX5_way_96 ?_
  refine v_chk (fun h5 => ?_)
  refine v_hget C.1 (v := va_rf (hR u3 p0 1)) 4 1 (eq_of_beq h5) (by decide) rfl in_X5 (by decide) (Or.inl q848) (fun _ h => h) (hF_r (ci := 4) (eq_of_beq h5) (by decide)) dX5_way_97 ?_
  refine v_deref (fun a6 e7 => ?_)
  refine v_chk (fun h8 => ?_)
  refine v_hget C.1 (v := va_rf (hR u3 a6 2)) 1 2 (eq_of_beq h8) (by decide) rfl in_X2 (by decide) (Or.inr ⟨_, q206⟩) (fun _ h => h) (hF_r (ci := 1) (eq_of_beq h8) (by decide)) dX5_way_100 ?_
  refine v_deref (fun a9 e10 => ?_)
  refine v_letE (fun a11 e12 => ?_)
  refine v_hnew C.1 6 e12 (by decide) (by decide) rfl in_X7 tyX7 tyX7_ok df_X7 q1083 q1084 q147 dX5_way_103 (fun u13 => ?_)
  refine v_dup C.1.1 rfl dX5_way_106 ?_
  refine v_iload_n C.1.1 1 rfl rfl dX5_way_107 ?_
  refine v_iload_n C.1.1 2 rfl rfl dX5_way_108 ?_
  refine v_aload_n C.1.1 0 rfl rfl dX5_way_109 ?_
  refine v_iconst C.1.1 0 (by decide) dX5_way_110 ?_
  refine v_bipush C.1.1 60 (by decide) dX5_way_111 ?_
  refine v_chk (fun h16 => ?_)
  refine v_callVX C [.int 0, .int 60] [.int x2, .int x1, .ref a11, .ref a11, .ref a9] (ctX5_number t G l hl0 p0 0 60 u13) (fun _ _ => cwX5_number C.1 q1036 (by decide)) (recO C.1 (ci := 4) (eq_of_beq h16) (by decide) rfl) rfl rfl (by exact Nat.le_of_ble_eq_true rfl) dX5_way_113 (fun r15 u14 => ?_)
  refine v_callIH C.1 [.int x1, .int x2, .int r15] [.ref a11, .ref a9] (ctX7_init t G l hl0 a11 x1 x2 r15 u14) (fun _ _ => cwX7_init C.1 q1085 (by decide)) rfl rfl (by exact Nat.le_of_ble_eq_true rfl) dX5_way_116 (fun _ u17 => ?_)
  refine v_chk (fun h20 => ?_)
  refine v_callFH C.1 [.ref a11] [] (ctJ2_add t G l hl0 a9 a11 u17) (fun _ _ => cwJ2_addF C.1 q1047 (by decide)) (eq_of_beq h20) (by decide) rfl rfl rfl (by exact Nat.le_of_ble_eq_true rfl) dX5_way_119 (fun r19 u18 => ?_)
  refine v_pop C.1.1 rfl dX5_way_124 ?_
  exact v_xvret C.1 dX5_way_125
def hX5_way_23 (p0 : Nat) (s0 : Nat) (s1 : Int32) (u : HS) : Option (OH (PX Unit)) :=
  mchk (hC u s0 == 5) <|
  hx (hX5_want s0 s1 2 u) fun _ u1 =>
  mchk (hC u1 p0 == 5) <|
  hb (hX5_next p0 u1) fun _ u3 =>
  mchk (hC u3 p0 == 5) <|
  mderef (hR u3 p0 1) fun a6 =>
  mchk (hC u3 a6 == 2) <|
  mderef (hR u3 a6 0) fun a9 =>
  mchk (hC u3 a9 == 12) <|
  hb (hJ2_size a9 u3) fun r12 u11 =>
  mchk (hC u11 p0 == 5) <|
  hx (hX5_one p0 r12 u11) fun r15 u14 =>
  mchk (hC u14 p0 == 5) <|
  mderef (hR u14 p0 1) fun a18 =>
  mchk (hC u14 a18 == 2) <|
  mderef (hR u14 a18 0) fun a21 =>
  mchk (hC u14 a21 == 12) <|
  hb (hJ2_size a21 u14) fun r24 u23 =>
  mchk (hC u23 p0 == 5) <|
  hx (hX5_oneNow p0 r24 u23) fun r27 u26 =>
  if r15 = r27 then
    hX5_way_88 p0 r15 r27 p0 0 u26
  else
    mchk (hC u26 p0 == 5) <|
    mderef (hR u26 p0 1) fun a30 =>
    mchk (hC u26 a30 == 2) <|
    hb (hX2_isJoined a30 r15 r27 u26) fun r33 u32 =>
    if r33 = 0 then
      hX5_way_88 p0 r15 r27 p0 1 u32
    else
      hX5_way_88 p0 r15 r27 p0 0 u32
theorem whX5_way_23 {K1 K2 : Nat} {p : Program} {e : Env} {s : State} {m : MethodId} {args : Array Value} {below : List Frame} {meth : Method} {c : Code} (hl0 : l.stackTraces = false) (C : CxX t G l p s m args meth c yX5_way cX5_way 3 none) (p0 : Nat) (s0 : Nat) (s1 : Int32) (u : HS) : VX mkU t G p l e 12 K1 K2 s m args below meth c 3 23 [(0, .ref p0)] [.int s1, .ref s0] u (hX5_way_23 p0 s0 s1 u) := by
  unfold hX5_way_23
  refine v_iconst C.1.1 2 (by decide) dX5_way_23 ?_
  refine v_chk (fun h2 => ?_)
  refine v_callVX C [.int s1, .int 2] [] (ctX5_want t G l hl0 s0 s1 2 u) (fun _ _ => cwX5_want C.1 q1008 (by decide)) (recO C.1 (ci := 4) (eq_of_beq h2) (by decide) rfl) rfl rfl (by exact Nat.le_of_ble_eq_true rfl) dX5_way_24 (fun _ u1 => ?_)
  refine v_aload_n C.1.1 0 rfl rfl dX5_way_27 ?_
  refine v_chk (fun h4 => ?_)
  refine v_callVH C.1 [] [] (ctX5_next t G l hl0 p0 u1) (fun _ _ => cwX5_next C.1 q890 (by decide)) (recO C.1 (ci := 4) (eq_of_beq h4) (by decide) rfl) rfl rfl (by exact Nat.le_of_ble_eq_true rfl) dX5_way_28 (fun _ u3 => ?_)
  refine v_aload_n C.1.1 0 rfl rfl dX5_way_31 ?_
  refine v_aload_n C.1.1 0 rfl rfl dX5_way_32 ?_
  refine v_chk (fun h5 => ?_)
  refine v_hget C.1 (v := va_rf (hR u3 p0 1)) 4 1 (eq_of_beq h5) (by decide) rfl in_X5 (by decide) (Or.inl q848) (fun _ h => h) (hF_r (ci := 4) (eq_of_beq h5) (by decide)) dX5_way_33 ?_
  refine v_deref (fun a6 e7 => ?_)
  refine v_chk (fun h8 => ?_)
  refine v_hget C.1 (v := va_rf (hR u3 a6 0)) 1 0 (eq_of_beq h8) (by decide) rfl in_X2 (by decide) (Or.inr ⟨_, q199⟩) (fun _ h => h) (hF_r (ci := 1) (eq_of_beq h8) (by decide)) dX5_way_36 ?_
  refine v_deref (fun a9 e10 => ?_)
  refine v_chk (fun h13 => ?_)
  refine v_callFH C.1 [] [.ref p0] (ctJ2_size t G l hl0 a9 u3) (fun _ _ => cwJ2_sizeF C.1 q1055 (by decide)) (eq_of_beq h13) (by decide) rfl rfl rfl (by exact Nat.le_of_ble_eq_true rfl) dX5_way_39 (fun r12 u11 => ?_)
  refine v_chk (fun h16 => ?_)
  refine v_callVX C [.int r12] [] (ctX5_one t G l hl0 p0 r12 u11) (fun _ _ => cwX5_one C.1 q1062 (by decide)) (recO C.1 (ci := 4) (eq_of_beq h16) (by decide) rfl) rfl rfl (by exact Nat.le_of_ble_eq_true rfl) dX5_way_44 (fun r15 u14 => ?_)
  refine v_istore_n C.1.1 [(1, .int r15), (0, .ref p0)] rfl (by decide) rfl dX5_way_47 ?_
  refine v_aload_n C.1.1 1 rfl rfl dX5_way_48 ?_
  refine v_aload_n C.1.1 1 rfl rfl dX5_way_49 ?_
  refine v_chk (fun h17 => ?_)
  refine v_hget C.1 (v := va_rf (hR u14 p0 1)) 4 1 (eq_of_beq h17) (by decide) rfl in_X5 (by decide) (Or.inl q848) (fun _ h => h) (hF_r (ci := 4) (eq_of_beq h17) (by decide)) dX5_way_50 ?_
  refine v_deref (fun a18 e19 => ?_)
  refine v_chk (fun h20 => ?_)
  refine v_hget C.1 (v := va_rf (hR u14 a18 0)) 1 0 (eq_of_beq h20) (by decide) rfl in_X2 (by decide) (Or.inr ⟨_, q199⟩) (fun _ h => h) (hF_r (ci := 1) (eq_of_beq h20) (by decide)) dX5_way_53 ?_
  refine v_deref (fun a21 e22 => ?_)
  refine v_chk (fun h25 => ?_)
  refine v_callFH C.1 [] [.ref p0] (ctJ2_size t G l hl0 a21 u14) (fun _ _ => cwJ2_sizeF C.1 q1055 (by decide)) (eq_of_beq h25) (by decide) rfl rfl rfl (by exact Nat.le_of_ble_eq_true rfl) dX5_way_56 (fun r24 u23 => ?_)
  refine v_chk (fun h28 => ?_)
  refine v_callVX C [.int r24] [] (ctX5_oneNow t G l hl0 p0 r24 u23) (fun _ _ => cwX5_oneNow C.1 q1066 (by decide)) (recO C.1 (ci := 4) (eq_of_beq h28) (by decide) rfl) rfl rfl (by exact Nat.le_of_ble_eq_true rfl) dX5_way_61 (fun r27 u26 => ?_)
  refine v_istore_n C.1.1 [(2, .int r27), (1, .int r15), (0, .ref p0)] rfl (by decide) rfl dX5_way_64 ?_
  refine v_aload_n C.1.1 2 rfl rfl dX5_way_65 ?_
  refine v_iload_n C.1.1 1 rfl rfl dX5_way_66 ?_
  refine v_iload_n C.1.1 0 rfl rfl dX5_way_67 ?_
  refine v_icmp_eq C.1.1 87 (by decide) dX5_way_68 (fun _ => ?_) (fun _ => ?_)
  · refine v_iconst C.1.1 0 (by decide) dX5_way_87 ?_
    refine v_sub [2, 1, 0] rfl ?_
    exact whX5_way_88 hl0 C p0 r15 r27 p0 0 u26
  · refine v_aload_n C.1.1 2 rfl rfl dX5_way_71 ?_
    refine v_chk (fun h29 => ?_)
    refine v_hget C.1 (v := va_rf (hR u26 p0 1)) 4 1 (eq_of_beq h29) (by decide) rfl in_X5 (by decide) (Or.inl q848) (fun _ h => h) (hF_r (ci := 4) (eq_of_beq h29) (by decide)) dX5_way_72 ?_
    refine v_deref (fun a30 e31 => ?_)
    refine v_iload_n C.1.1 1 rfl rfl dX5_way_75 ?_
    refine v_iload_n C.1.1 0 rfl rfl dX5_way_76 ?_
    refine v_chk (fun h34 => ?_)
    refine v_callVH C.1 [.int r15, .int r27] [.ref p0] (ctX2_isJoined t G l hl0 a30 r15 r27 u26) (fun _ _ => cwX2_isJoined C.1 q1070 (by decide)) (recO C.1 (ci := 1) (eq_of_beq h34) (by decide) rfl) rfl rfl (by exact Nat.le_of_ble_eq_true rfl) dX5_way_77 (fun r33 u32 => ?_)
    refine v_if_ne C.1.1 87 (by decide) dX5_way_80 (fun _ => ?_) (fun _ => ?_)
    · refine v_iconst C.1.1 1 (by decide) dX5_way_83 ?_
      refine v_goto C.1.1 88 (by decide) dX5_way_84 ?_
      refine v_sub [2, 1, 0] rfl ?_
      exact whX5_way_88 hl0 C p0 r15 r27 p0 1 u32
    · refine v_iconst C.1.1 0 (by decide) dX5_way_87 ?_
      refine v_sub [2, 1, 0] rfl ?_
      exact whX5_way_88 hl0 C p0 r15 r27 p0 0 u32
def hX5_way (p0 : Nat) (u : HS) : Option (OH (PX Unit)) :=
  mchk (hC u p0 == 5) <|
  mderef (hR u p0 1) fun a2 =>
  mchk (hC u a2 == 2) <|
  mderef (hR u a2 2) fun a5 =>
  mchk (hC u a5 == 12) <|
  hb (hJ2_size a5 u) fun r8 u7 =>
  if 12 ≤ r8 then
    hX5_way_23 p0 p0 0 u7
  else
    hX5_way_23 p0 p0 1 u7
theorem ctX5_way (t : TT) (G : GH) (l : Launch) (hl0 : l.stackTraces = false) (p0 : Nat) (u : HS) : CtX mkU t G l yX5_way cX5_way 3 none 12 [.ref p0] u (hX5_way p0 u) := by
  refine ctX_of [(0, .ref p0)] hl0 rfl (Nat.le_of_ble_eq_true rfl) rfl (fun K1 K2 p e s m args below meth c C => ?_)
  unfold hX5_way
  refine v_aload_n C.1.1 0 rfl rfl dX5_way_0 ?_
  refine v_aload_n C.1.1 0 rfl rfl dX5_way_1 ?_
  refine v_chk (fun h1 => ?_)
  refine v_hget C.1 (v := va_rf (hR u p0 1)) 4 1 (eq_of_beq h1) (by decide) rfl in_X5 (by decide) (Or.inl q848) (fun _ h => h) (hF_r (ci := 4) (eq_of_beq h1) (by decide)) dX5_way_2 ?_
  refine v_deref (fun a2 e3 => ?_)
  refine v_chk (fun h4 => ?_)
  refine v_hget C.1 (v := va_rf (hR u a2 2)) 1 2 (eq_of_beq h4) (by decide) rfl in_X2 (by decide) (Or.inr ⟨_, q206⟩) (fun _ h => h) (hF_r (ci := 1) (eq_of_beq h4) (by decide)) dX5_way_5 ?_
  refine v_deref (fun a5 e6 => ?_)
  refine v_chk (fun h9 => ?_)
  refine v_callFH C.1 [] [.ref p0] (ctJ2_size t G l hl0 a5 u) (fun _ _ => cwJ2_sizeF C.1 q1055 (by decide)) (eq_of_beq h9) (by decide) rfl rfl rfl (by exact Nat.le_of_ble_eq_true rfl) dX5_way_8 (fun r8 u7 => ?_)
  refine v_bipush C.1.1 12 (by decide) dX5_way_13 ?_
  refine v_icmp_ge C.1.1 22 (by decide) dX5_way_15 (fun _ => ?_) (fun _ => ?_)
  · refine v_iconst C.1.1 0 (by decide) dX5_way_22 ?_
    exact whX5_way_23 hl0 C p0 p0 0 u7
  · refine v_iconst C.1.1 1 (by decide) dX5_way_18 ?_
    refine v_goto C.1.1 23 (by decide) dX5_way_19 ?_
    exact whX5_way_23 hl0 C p0 p0 1 u7
theorem cwX5_way {t : TT} {G : GH} {l : Launch} {p : Program} {s : State} {m : MethodId} {args : Array Value} {meth : Method} {c : Code} {y0 : MethodName} {cc0 : ByteArray} {nL0 : Nat} {ret0 : Option FieldType} (C : CxH t G l p s m args meth c y0 cc0 nL0 ret0) {index lv mc ms K1 K2 : Nat} (hq : Cond.methodLink y0.cls index yX5_way ∈ lw_all) (hR : 12 + 1 ≤ lv) : CallW (rmH lv K1 K2) s args y0.cls RX5 index yX5_way cX5_way 3 none (ws_ yX5_way cX5_way 3 none) (rmH 12 mc ms) mc ms 0 :=
  cwV 0 C.1.2.2.2.2.1 (lw_V hq q1060 qs23 q132 q1061) rfl rfl rfl (by decide +kernel) ⟨hR, by show 8 + (3 + 11) + 100 * 12 ≤ 100 * lv; omega⟩
def hX5_person_20 (p0 : Nat) (x1 : Int32) (s0 : Nat) (s1 : Int32) (u : HS) : Option (OH (PX Unit)) :=
  mchk (hC u s0 == 5) <|
  hx (hX5_want s0 s1 2 u) fun _ u1 =>
  mchk (hC u1 p0 == 5) <|
  hb (hX5_next p0 u1) fun _ u3 =>
  mchk (hC u3 p0 == 5) <|
  hx (hX5_number p0 0 99 u3) fun r6 u5 =>
  mchk (hC u5 p0 == 5) <|
  mderef (hR u5 p0 2) fun a9 =>
  mchk (hC u5 a9 == 3) <|
  mderef (hR u5 a9 2) fun a12 =>
  mchk (hC u5 p0 == 5) <|
  mderef (hR u5 p0 1) fun a15 =>
  mchk (hC u5 a15 == 2) <|
  mderef (hR u5 a15 0) fun a18 =>
  mchk (hC u5 a18 == 12) <|
  hb (hJ2_size a18 u5) fun r21 u20 =>
  mchk (hC u20 p0 == 5) <|
  hx (hX5_one p0 r21 u20) fun r24 u23 =>
  mchk (inA u23 x1 a12 21) <|
  mlet (uA u23 a12 x1.toNatClampNeg r24) fun u26 =>
  mchk (hC u26 p0 == 5) <|
  mderef (hR u26 p0 1) fun a29 =>
  mchk (hC u26 a29 == 2) <|
  mderef (hR u26 a29 1) fun a32 =>
  hb (hJ16_valueOf r6 u26) fun r35 u34 =>
  mchk (hC u34 a32 == 12) <|
  hb (hJ2_add a32 r35 u34) fun r37 u36 =>
  hret (.inl ()) u36
theorem whX5_person_20 {K1 K2 : Nat} {p : Program} {e : Env} {s : State} {m : MethodId} {args : Array Value} {below : List Frame} {meth : Method} {c : Code} (hl0 : l.stackTraces = false) (C : CxX t G l p s m args meth c yX5_person cX5_person 3 none) (p0 : Nat) (x1 : Int32) (s0 : Nat) (s1 : Int32) (u : HS) : VX mkU t G p l e 12 K1 K2 s m args below meth c 3 20 [(0, .ref p0), (1, .int x1)] [.int s1, .ref s0] u (hX5_person_20 p0 x1 s0 s1 u) := by
  unfold hX5_person_20
  refine v_iconst C.1.1 2 (by decide) dX5_person_20 ?_
  refine v_chk (fun h2 => ?_)
  refine v_callVX C [.int s1, .int 2] [] (ctX5_want t G l hl0 s0 s1 2 u) (fun _ _ => cwX5_want C.1 q1008 (by decide)) (recO C.1 (ci := 4) (eq_of_beq h2) (by decide) rfl) rfl rfl (by exact Nat.le_of_ble_eq_true rfl) dX5_person_21 (fun _ u1 => ?_)
  refine v_aload_n C.1.1 0 rfl rfl dX5_person_24 ?_
  refine v_chk (fun h4 => ?_)
  refine v_callVH C.1 [] [] (ctX5_next t G l hl0 p0 u1) (fun _ _ => cwX5_next C.1 q890 (by decide)) (recO C.1 (ci := 4) (eq_of_beq h4) (by decide) rfl) rfl rfl (by exact Nat.le_of_ble_eq_true rfl) dX5_person_25 (fun _ u3 => ?_)
  refine v_aload_n C.1.1 0 rfl rfl dX5_person_28 ?_
  refine v_iconst C.1.1 0 (by decide) dX5_person_29 ?_
  refine v_bipush C.1.1 99 (by decide) dX5_person_30 ?_
  refine v_chk (fun h7 => ?_)
  refine v_callVX C [.int 0, .int 99] [] (ctX5_number t G l hl0 p0 0 99 u3) (fun _ _ => cwX5_number C.1 q1036 (by decide)) (recO C.1 (ci := 4) (eq_of_beq h7) (by decide) rfl) rfl rfl (by exact Nat.le_of_ble_eq_true rfl) dX5_person_32 (fun r6 u5 => ?_)
  refine v_istore_n C.1.1 [(2, .int r6), (0, .ref p0), (1, .int x1)] rfl (by decide) rfl dX5_person_35 ?_
  refine v_aload_n C.1.1 1 rfl rfl dX5_person_36 ?_
  refine v_chk (fun h8 => ?_)
  refine v_hget C.1 (v := va_rf (hR u5 p0 2)) 4 2 (eq_of_beq h8) (by decide) rfl in_X5 (by decide) (Or.inl q849) (fun _ h => h) (hF_r (ci := 4) (eq_of_beq h8) (by decide)) dX5_person_37 ?_
  refine v_deref (fun a9 e10 => ?_)
  refine v_chk (fun h11 => ?_)
  refine v_hget C.1 (v := va_rf (hR u5 a9 2)) 2 2 (eq_of_beq h11) (by decide) rfl in_X3 (by decide) (Or.inr ⟨_, q260⟩) (fun _ h => h) (hF_r (ci := 2) (eq_of_beq h11) (by decide)) dX5_person_40 ?_
  refine v_deref (fun a12 e13 => ?_)
  refine v_iload_n C.1.1 2 rfl rfl dX5_person_43 ?_
  refine v_aload_n C.1.1 1 rfl rfl dX5_person_44 ?_
  refine v_aload_n C.1.1 1 rfl rfl dX5_person_45 ?_
  refine v_chk (fun h14 => ?_)
  refine v_hget C.1 (v := va_rf (hR u5 p0 1)) 4 1 (eq_of_beq h14) (by decide) rfl in_X5 (by decide) (Or.inl q848) (fun _ h => h) (hF_r (ci := 4) (eq_of_beq h14) (by decide)) dX5_person_46 ?_
  refine v_deref (fun a15 e16 => ?_)
  refine v_chk (fun h17 => ?_)
  refine v_hget C.1 (v := va_rf (hR u5 a15 0)) 1 0 (eq_of_beq h17) (by decide) rfl in_X2 (by decide) (Or.inr ⟨_, q199⟩) (fun _ h => h) (hF_r (ci := 1) (eq_of_beq h17) (by decide)) dX5_person_49 ?_
  refine v_deref (fun a18 e19 => ?_)
  refine v_chk (fun h22 => ?_)
  refine v_callFH C.1 [] [.ref p0, .int x1, .ref a12] (ctJ2_size t G l hl0 a18 u5) (fun _ _ => cwJ2_sizeF C.1 q1055 (by decide)) (eq_of_beq h22) (by decide) rfl rfl rfl (by exact Nat.le_of_ble_eq_true rfl) dX5_person_52 (fun r21 u20 => ?_)
  refine v_chk (fun h25 => ?_)
  refine v_callVX C [.int r21] [.int x1, .ref a12] (ctX5_one t G l hl0 p0 r21 u20) (fun _ _ => cwX5_one C.1 q1062 (by decide)) (recO C.1 (ci := 4) (eq_of_beq h25) (by decide) rfl) rfl rfl (by exact Nat.le_of_ble_eq_true rfl) dX5_person_57 (fun r24 u23 => ?_)
  refine v_chk (fun h27 => ?_)
  refine v_haiast C.1 h27 dX5_person_60 (fun u26 => ?_)
  refine v_aload_n C.1.1 1 rfl rfl dX5_person_61 ?_
  refine v_chk (fun h28 => ?_)
  refine v_hget C.1 (v := va_rf (hR u26 p0 1)) 4 1 (eq_of_beq h28) (by decide) rfl in_X5 (by decide) (Or.inl q848) (fun _ h => h) (hF_r (ci := 4) (eq_of_beq h28) (by decide)) dX5_person_62 ?_
  refine v_deref (fun a29 e30 => ?_)
  refine v_chk (fun h31 => ?_)
  refine v_hget C.1 (v := va_rf (hR u26 a29 1)) 1 1 (eq_of_beq h31) (by decide) rfl in_X2 (by decide) (Or.inr ⟨_, q203⟩) (fun _ h => h) (hF_r (ci := 1) (eq_of_beq h31) (by decide)) dX5_person_65 ?_
  refine v_deref (fun a32 e33 => ?_)
  refine v_iload_n C.1.1 0 rfl rfl dX5_person_68 ?_
  refine v_callSH C.1 [.int r6] [.ref a32] (ctJ16_valueOf t G l hl0 r6 u26) (fun _ _ => cwJ16_valueOf C.1 q1056 (by decide)) rfl rfl (by exact Nat.le_of_ble_eq_true rfl) dX5_person_69 (fun r35 u34 => ?_)
  refine v_chk (fun h38 => ?_)
  refine v_callFH C.1 [.ref r35] [] (ctJ2_add t G l hl0 a32 r35 u34) (fun _ _ => cwJ2_addF C.1 q1047 (by decide)) (eq_of_beq h38) (by decide) rfl rfl rfl (by exact Nat.le_of_ble_eq_true rfl) dX5_person_72 (fun r37 u36 => ?_)
  refine v_pop C.1.1 rfl dX5_person_77 ?_
  exact v_xvret C.1 dX5_person_78
def hX5_person (p0 : Nat) (u : HS) : Option (OH (PX Unit)) :=
  mchk (hC u p0 == 5) <|
  mderef (hR u p0 1) fun a2 =>
  mchk (hC u a2 == 2) <|
  hb (hX2_people a2 u) fun r5 u4 =>
  if 9 ≤ r5 then
    hX5_person_20 p0 r5 p0 0 u4
  else
    hX5_person_20 p0 r5 p0 1 u4
theorem ctX5_person (t : TT) (G : GH) (l : Launch) (hl0 : l.stackTraces = false) (p0 : Nat) (u : HS) : CtX mkU t G l yX5_person cX5_person 3 none 12 [.ref p0] u (hX5_person p0 u) := by
  refine ctX_of [(0, .ref p0)] hl0 rfl (Nat.le_of_ble_eq_true rfl) rfl (fun K1 K2 p e s m args below meth c C => ?_)
  unfold hX5_person
  refine v_aload_n C.1.1 0 rfl rfl dX5_person_0 ?_
  refine v_chk (fun h1 => ?_)
  refine v_hget C.1 (v := va_rf (hR u p0 1)) 4 1 (eq_of_beq h1) (by decide) rfl in_X5 (by decide) (Or.inl q848) (fun _ h => h) (hF_r (ci := 4) (eq_of_beq h1) (by decide)) dX5_person_1 ?_
  refine v_deref (fun a2 e3 => ?_)
  refine v_chk (fun h6 => ?_)
  refine v_callVH C.1 [] [] (ctX2_people t G l hl0 a2 u) (fun _ _ => cwX2_people C.1 q1107 (by decide)) (recO C.1 (ci := 1) (eq_of_beq h6) (by decide) rfl) rfl rfl (by exact Nat.le_of_ble_eq_true rfl) dX5_person_4 (fun r5 u4 => ?_)
  refine v_istore_n C.1.1 [(1, .int r5), (0, .ref p0)] rfl (by decide) rfl dX5_person_7 ?_
  refine v_aload_n C.1.1 1 rfl rfl dX5_person_8 ?_
  refine v_iload_n C.1.1 0 rfl rfl dX5_person_9 ?_
  refine v_bipush C.1.1 9 (by decide) dX5_person_10 ?_
  refine v_icmp_ge C.1.1 19 (by decide) dX5_person_12 (fun _ => ?_) (fun _ => ?_)
  · refine v_iconst C.1.1 0 (by decide) dX5_person_19 ?_
    refine v_sub [1, 0] rfl ?_
    exact whX5_person_20 hl0 C p0 r5 p0 0 u4
  · refine v_iconst C.1.1 1 (by decide) dX5_person_15 ?_
    refine v_goto C.1.1 20 (by decide) dX5_person_16 ?_
    refine v_sub [1, 0] rfl ?_
    exact whX5_person_20 hl0 C p0 r5 p0 1 u4
theorem cwX5_person {t : TT} {G : GH} {l : Launch} {p : Program} {s : State} {m : MethodId} {args : Array Value} {meth : Method} {c : Code} {y0 : MethodName} {cc0 : ByteArray} {nL0 : Nat} {ret0 : Option FieldType} (C : CxH t G l p s m args meth c y0 cc0 nL0 ret0) {index lv mc ms K1 K2 : Nat} (hq : Cond.methodLink y0.cls index yX5_person ∈ lw_all) (hR : 12 + 1 ≤ lv) : CallW (rmH lv K1 K2) s args y0.cls RX5 index yX5_person cX5_person 3 none (ws_ yX5_person cX5_person 3 none) (rmH 12 mc ms) mc ms 0 :=
  cwV 0 C.1.2.2.2.2.1 (lw_V hq q1105 qs26 q132 q1106) rfl rfl rfl (by decide +kernel) ⟨hR, by show 8 + (3 + 11) + 100 * 12 ≤ 100 * lv; omega⟩
def hX5_kin_74 (p0 : Nat) (x1 : Int32) (x2 : Int32) (s0 : Nat) (s1 : Int32) (u : HS) : Option (OH (PX Unit)) :=
  mchk (hC u s0 == 5) <|
  hx (hX5_want s0 s1 4 u) fun _ u1 =>
  mchk (hC u1 p0 == 5) <|
  hb (hX5_next p0 u1) fun _ u3 =>
  mchk (hC u3 p0 == 5) <|
  mderef (hR u3 p0 1) fun a6 =>
  mchk (hC u3 a6 == 2) <|
  mderef (hR u3 a6 3) fun a9 =>
  mchk (inA u3 x1 a9 21) <|
  mchk (inA u3 x1 a9 21) <|
  mlet (uA u3 a9 x1.toNatClampNeg ((hA u3 a9 x1.toNatClampNeg) ||| ((1 : Int32) <<< (x2 &&& 31)))) fun u12 =>
  mchk (hC u12 p0 == 5) <|
  mderef (hR u12 p0 1) fun a15 =>
  mchk (hC u12 a15 == 2) <|
  mderef (hR u12 a15 3) fun a18 =>
  mchk (inA u12 x2 a18 21) <|
  mchk (inA u12 x2 a18 21) <|
  mlet (uA u12 a18 x2.toNatClampNeg ((hA u12 a18 x2.toNatClampNeg) ||| ((1 : Int32) <<< (x1 &&& 31)))) fun u21 =>
  mchk (hC u21 p0 == 5) <|
  mchk (hC u21 p0 == 5) <|
  mlet (uI u21 p0 9 ((hI u21 p0 9) + 1)) fun u25 =>
  hret (.inl ()) u25
theorem whX5_kin_74 {K1 K2 : Nat} {p : Program} {e : Env} {s : State} {m : MethodId} {args : Array Value} {below : List Frame} {meth : Method} {c : Code} (hl0 : l.stackTraces = false) (C : CxX t G l p s m args meth c yX5_kin cX5_kin 3 none) (p0 : Nat) (x1 : Int32) (x2 : Int32) (s0 : Nat) (s1 : Int32) (u : HS) : VX mkU t G p l e 12 K1 K2 s m args below meth c 3 74 [(0, .ref p0), (1, .int x1), (2, .int x2)] [.int s1, .ref s0] u (hX5_kin_74 p0 x1 x2 s0 s1 u) := by
  unfold hX5_kin_74
  refine v_iconst C.1.1 4 (by decide) dX5_kin_74 ?_
  refine v_chk (fun h2 => ?_)
  refine v_callVX C [.int s1, .int 4] [] (ctX5_want t G l hl0 s0 s1 4 u) (fun _ _ => cwX5_want C.1 q1008 (by decide)) (recO C.1 (ci := 4) (eq_of_beq h2) (by decide) rfl) rfl rfl (by exact Nat.le_of_ble_eq_true rfl) dX5_kin_75 (fun _ u1 => ?_)
  refine v_aload_n C.1.1 0 rfl rfl dX5_kin_78 ?_
  refine v_chk (fun h4 => ?_)
  refine v_callVH C.1 [] [] (ctX5_next t G l hl0 p0 u1) (fun _ _ => cwX5_next C.1 q890 (by decide)) (recO C.1 (ci := 4) (eq_of_beq h4) (by decide) rfl) rfl rfl (by exact Nat.le_of_ble_eq_true rfl) dX5_kin_79 (fun _ u3 => ?_)
  refine v_aload_n C.1.1 0 rfl rfl dX5_kin_82 ?_
  refine v_chk (fun h5 => ?_)
  refine v_hget C.1 (v := va_rf (hR u3 p0 1)) 4 1 (eq_of_beq h5) (by decide) rfl in_X5 (by decide) (Or.inl q848) (fun _ h => h) (hF_r (ci := 4) (eq_of_beq h5) (by decide)) dX5_kin_83 ?_
  refine v_deref (fun a6 e7 => ?_)
  refine v_chk (fun h8 => ?_)
  refine v_hget C.1 (v := va_rf (hR u3 a6 3)) 1 3 (eq_of_beq h8) (by decide) rfl in_X2 (by decide) (Or.inr ⟨_, q210⟩) (fun _ h => h) (hF_r (ci := 1) (eq_of_beq h8) (by decide)) dX5_kin_86 ?_
  refine v_deref (fun a9 e10 => ?_)
  refine v_iload_n C.1.1 1 rfl rfl dX5_kin_89 ?_
  refine v_dup2 C.1.1 rfl rfl dX5_kin_90 ?_
  refine v_chk (fun h11 => ?_)
  refine v_haiald C.1 h11 dX5_kin_91 ?_
  refine v_iconst C.1.1 1 (by decide) dX5_kin_92 ?_
  refine v_iload_n C.1.1 2 rfl rfl dX5_kin_93 ?_
  refine v_ishl C.1.1 dX5_kin_94 ?_
  refine v_ior C.1.1 dX5_kin_95 ?_
  refine v_chk (fun h13 => ?_)
  refine v_haiast C.1 h13 dX5_kin_96 (fun u12 => ?_)
  refine v_aload_n C.1.1 0 rfl rfl dX5_kin_97 ?_
  refine v_chk (fun h14 => ?_)
  refine v_hget C.1 (v := va_rf (hR u12 p0 1)) 4 1 (eq_of_beq h14) (by decide) rfl in_X5 (by decide) (Or.inl q848) (fun _ h => h) (hF_r (ci := 4) (eq_of_beq h14) (by decide)) dX5_kin_98 ?_
  refine v_deref (fun a15 e16 => ?_)
  refine v_chk (fun h17 => ?_)
  refine v_hget C.1 (v := va_rf (hR u12 a15 3)) 1 3 (eq_of_beq h17) (by decide) rfl in_X2 (by decide) (Or.inr ⟨_, q210⟩) (fun _ h => h) (hF_r (ci := 1) (eq_of_beq h17) (by decide)) dX5_kin_101 ?_
  refine v_deref (fun a18 e19 => ?_)
  refine v_iload_n C.1.1 2 rfl rfl dX5_kin_104 ?_
  refine v_dup2 C.1.1 rfl rfl dX5_kin_105 ?_
  refine v_chk (fun h20 => ?_)
  refine v_haiald C.1 h20 dX5_kin_106 ?_
  refine v_iconst C.1.1 1 (by decide) dX5_kin_107 ?_
  refine v_iload_n C.1.1 1 rfl rfl dX5_kin_108 ?_
  refine v_ishl C.1.1 dX5_kin_109 ?_
  refine v_ior C.1.1 dX5_kin_110 ?_
  refine v_chk (fun h22 => ?_)
  refine v_haiast C.1 h22 dX5_kin_111 (fun u21 => ?_)
  refine v_aload_n C.1.1 0 rfl rfl dX5_kin_112 ?_
  refine v_dup C.1.1 rfl dX5_kin_113 ?_
  refine v_chk (fun h23 => ?_)
  refine v_hget C.1 (v := .int (hI u21 p0 9)) 4 9 (eq_of_beq h23) (by decide) rfl in_X5 (by decide) (Or.inl q858) (fun _ h => h) (hF_i (ci := 4) (eq_of_beq h23) (by decide)) dX5_kin_114 ?_
  refine v_iconst C.1.1 1 (by decide) dX5_kin_117 ?_
  refine v_iadd C.1.1 dX5_kin_118 ?_
  refine v_chk (fun h24 => ?_)
  refine v_hputI C.1 4 9 (eq_of_beq h24) (by decide) rfl in_X5 tyX5 tyX5_ok nmX5 (by decide) (by decide) q858 (fun _ h => h) (Or.inl rfl) ⟨rfl, rfl⟩ dX5_kin_119 (fun u25 => ?_)
  exact v_xvret C.1 dX5_kin_122
def hX5_kin_15 (p0 : Nat) (s0 : Nat) (s1 : Int32) (u : HS) : Option (OH (PX Unit)) :=
  mchk (hC u s0 == 5) <|
  hx (hX5_want s0 s1 2 u) fun _ u1 =>
  mchk (hC u1 p0 == 5) <|
  hb (hX5_next p0 u1) fun _ u3 =>
  mchk (hC u3 p0 == 5) <|
  mderef (hR u3 p0 1) fun a6 =>
  mchk (hC u3 a6 == 2) <|
  hb (hX2_people a6 u3) fun r9 u8 =>
  mchk (hC u8 p0 == 5) <|
  hx (hX5_one p0 r9 u8) fun r12 u11 =>
  mchk (hC u11 p0 == 5) <|
  mderef (hR u11 p0 1) fun a15 =>
  mchk (hC u11 a15 == 2) <|
  hb (hX2_people a15 u11) fun r18 u17 =>
  mchk (hC u17 p0 == 5) <|
  hx (hX5_oneNow p0 r18 u17) fun r21 u20 =>
  if r12 = r21 then
    hX5_kin_74 p0 r12 r21 p0 0 u20
  else
    mchk (hC u20 p0 == 5) <|
    mderef (hR u20 p0 1) fun a24 =>
    mchk (hC u20 a24 == 2) <|
    mderef (hR u20 a24 3) fun a27 =>
    mchk (inA u20 r12 a27 21) <|
    hb (hX1_isOf (hA u20 a27 r12.toNatClampNeg) r21 u20) fun r31 u30 =>
    if r31 = 0 then
      hX5_kin_74 p0 r12 r21 p0 1 u30
    else
      hX5_kin_74 p0 r12 r21 p0 0 u30
theorem whX5_kin_15 {K1 K2 : Nat} {p : Program} {e : Env} {s : State} {m : MethodId} {args : Array Value} {below : List Frame} {meth : Method} {c : Code} (hl0 : l.stackTraces = false) (C : CxX t G l p s m args meth c yX5_kin cX5_kin 3 none) (p0 : Nat) (s0 : Nat) (s1 : Int32) (u : HS) : VX mkU t G p l e 12 K1 K2 s m args below meth c 3 15 [(0, .ref p0)] [.int s1, .ref s0] u (hX5_kin_15 p0 s0 s1 u) := by
  unfold hX5_kin_15
  refine v_iconst C.1.1 2 (by decide) dX5_kin_15 ?_
  refine v_chk (fun h2 => ?_)
  refine v_callVX C [.int s1, .int 2] [] (ctX5_want t G l hl0 s0 s1 2 u) (fun _ _ => cwX5_want C.1 q1008 (by decide)) (recO C.1 (ci := 4) (eq_of_beq h2) (by decide) rfl) rfl rfl (by exact Nat.le_of_ble_eq_true rfl) dX5_kin_16 (fun _ u1 => ?_)
  refine v_aload_n C.1.1 0 rfl rfl dX5_kin_19 ?_
  refine v_chk (fun h4 => ?_)
  refine v_callVH C.1 [] [] (ctX5_next t G l hl0 p0 u1) (fun _ _ => cwX5_next C.1 q890 (by decide)) (recO C.1 (ci := 4) (eq_of_beq h4) (by decide) rfl) rfl rfl (by exact Nat.le_of_ble_eq_true rfl) dX5_kin_20 (fun _ u3 => ?_)
  refine v_aload_n C.1.1 0 rfl rfl dX5_kin_23 ?_
  refine v_aload_n C.1.1 0 rfl rfl dX5_kin_24 ?_
  refine v_chk (fun h5 => ?_)
  refine v_hget C.1 (v := va_rf (hR u3 p0 1)) 4 1 (eq_of_beq h5) (by decide) rfl in_X5 (by decide) (Or.inl q848) (fun _ h => h) (hF_r (ci := 4) (eq_of_beq h5) (by decide)) dX5_kin_25 ?_
  refine v_deref (fun a6 e7 => ?_)
  refine v_chk (fun h10 => ?_)
  refine v_callVH C.1 [] [.ref p0] (ctX2_people t G l hl0 a6 u3) (fun _ _ => cwX2_people C.1 q1107 (by decide)) (recO C.1 (ci := 1) (eq_of_beq h10) (by decide) rfl) rfl rfl (by exact Nat.le_of_ble_eq_true rfl) dX5_kin_28 (fun r9 u8 => ?_)
  refine v_chk (fun h13 => ?_)
  refine v_callVX C [.int r9] [] (ctX5_one t G l hl0 p0 r9 u8) (fun _ _ => cwX5_one C.1 q1062 (by decide)) (recO C.1 (ci := 4) (eq_of_beq h13) (by decide) rfl) rfl rfl (by exact Nat.le_of_ble_eq_true rfl) dX5_kin_31 (fun r12 u11 => ?_)
  refine v_istore_n C.1.1 [(1, .int r12), (0, .ref p0)] rfl (by decide) rfl dX5_kin_34 ?_
  refine v_aload_n C.1.1 1 rfl rfl dX5_kin_35 ?_
  refine v_aload_n C.1.1 1 rfl rfl dX5_kin_36 ?_
  refine v_chk (fun h14 => ?_)
  refine v_hget C.1 (v := va_rf (hR u11 p0 1)) 4 1 (eq_of_beq h14) (by decide) rfl in_X5 (by decide) (Or.inl q848) (fun _ h => h) (hF_r (ci := 4) (eq_of_beq h14) (by decide)) dX5_kin_37 ?_
  refine v_deref (fun a15 e16 => ?_)
  refine v_chk (fun h19 => ?_)
  refine v_callVH C.1 [] [.ref p0] (ctX2_people t G l hl0 a15 u11) (fun _ _ => cwX2_people C.1 q1107 (by decide)) (recO C.1 (ci := 1) (eq_of_beq h19) (by decide) rfl) rfl rfl (by exact Nat.le_of_ble_eq_true rfl) dX5_kin_40 (fun r18 u17 => ?_)
  refine v_chk (fun h22 => ?_)
  refine v_callVX C [.int r18] [] (ctX5_oneNow t G l hl0 p0 r18 u17) (fun _ _ => cwX5_oneNow C.1 q1066 (by decide)) (recO C.1 (ci := 4) (eq_of_beq h22) (by decide) rfl) rfl rfl (by exact Nat.le_of_ble_eq_true rfl) dX5_kin_43 (fun r21 u20 => ?_)
  refine v_istore_n C.1.1 [(2, .int r21), (1, .int r12), (0, .ref p0)] rfl (by decide) rfl dX5_kin_46 ?_
  refine v_aload_n C.1.1 2 rfl rfl dX5_kin_47 ?_
  refine v_iload_n C.1.1 1 rfl rfl dX5_kin_48 ?_
  refine v_iload_n C.1.1 0 rfl rfl dX5_kin_49 ?_
  refine v_icmp_eq C.1.1 73 (by decide) dX5_kin_50 (fun _ => ?_) (fun _ => ?_)
  · refine v_iconst C.1.1 0 (by decide) dX5_kin_73 ?_
    refine v_sub [2, 1, 0] rfl ?_
    exact whX5_kin_74 hl0 C p0 r12 r21 p0 0 u20
  · refine v_aload_n C.1.1 2 rfl rfl dX5_kin_53 ?_
    refine v_chk (fun h23 => ?_)
    refine v_hget C.1 (v := va_rf (hR u20 p0 1)) 4 1 (eq_of_beq h23) (by decide) rfl in_X5 (by decide) (Or.inl q848) (fun _ h => h) (hF_r (ci := 4) (eq_of_beq h23) (by decide)) dX5_kin_54 ?_
    refine v_deref (fun a24 e25 => ?_)
    refine v_chk (fun h26 => ?_)
    refine v_hget C.1 (v := va_rf (hR u20 a24 3)) 1 3 (eq_of_beq h26) (by decide) rfl in_X2 (by decide) (Or.inr ⟨_, q210⟩) (fun _ h => h) (hF_r (ci := 1) (eq_of_beq h26) (by decide)) dX5_kin_57 ?_
    refine v_deref (fun a27 e28 => ?_)
    refine v_iload_n C.1.1 1 rfl rfl dX5_kin_60 ?_
    refine v_chk (fun h29 => ?_)
    refine v_haiald C.1 h29 dX5_kin_61 ?_
    refine v_iload_n C.1.1 0 rfl rfl dX5_kin_62 ?_
    refine v_callSNH C.1 [.int (hA u20 a27 r12.toNatClampNeg), .int r21] [.ref p0] (ctX1_isOf t G l hl0 (hA u20 a27 r12.toNatClampNeg) r21 u20) (fun _ _ => cwX1_isOfN C.1 q1112 (by decide)) rfl rfl (by exact Nat.le_of_ble_eq_true rfl) dX5_kin_63 (fun r31 u30 => ?_)
    refine v_if_ne C.1.1 73 (by decide) dX5_kin_66 (fun _ => ?_) (fun _ => ?_)
    · refine v_iconst C.1.1 1 (by decide) dX5_kin_69 ?_
      refine v_goto C.1.1 74 (by decide) dX5_kin_70 ?_
      refine v_sub [2, 1, 0] rfl ?_
      exact whX5_kin_74 hl0 C p0 r12 r21 p0 1 u30
    · refine v_iconst C.1.1 0 (by decide) dX5_kin_73 ?_
      refine v_sub [2, 1, 0] rfl ?_
      exact whX5_kin_74 hl0 C p0 r12 r21 p0 0 u30
def hX5_kin (p0 : Nat) (u : HS) : Option (OH (PX Unit)) :=
  mchk (hC u p0 == 5) <|
  if 9 ≤ (hI u p0 9) then
    hX5_kin_15 p0 p0 0 u
  else
    hX5_kin_15 p0 p0 1 u
theorem ctX5_kin (t : TT) (G : GH) (l : Launch) (hl0 : l.stackTraces = false) (p0 : Nat) (u : HS) : CtX mkU t G l yX5_kin cX5_kin 3 none 12 [.ref p0] u (hX5_kin p0 u) := by
  refine ctX_of [(0, .ref p0)] hl0 rfl (Nat.le_of_ble_eq_true rfl) rfl (fun K1 K2 p e s m args below meth c C => ?_)
  unfold hX5_kin
  refine v_aload_n C.1.1 0 rfl rfl dX5_kin_0 ?_
  refine v_aload_n C.1.1 0 rfl rfl dX5_kin_1 ?_
  refine v_chk (fun h1 => ?_)
  refine v_hget C.1 (v := .int (hI u p0 9)) 4 9 (eq_of_beq h1) (by decide) rfl in_X5 (by decide) (Or.inl q858) (fun _ h => h) (hF_i (ci := 4) (eq_of_beq h1) (by decide)) dX5_kin_2 ?_
  refine v_bipush C.1.1 9 (by decide) dX5_kin_5 ?_
  refine v_icmp_ge C.1.1 14 (by decide) dX5_kin_7 (fun _ => ?_) (fun _ => ?_)
  · refine v_iconst C.1.1 0 (by decide) dX5_kin_14 ?_
    exact whX5_kin_15 hl0 C p0 p0 0 u
  · refine v_iconst C.1.1 1 (by decide) dX5_kin_10 ?_
    refine v_goto C.1.1 15 (by decide) dX5_kin_11 ?_
    exact whX5_kin_15 hl0 C p0 p0 1 u
theorem cwX5_kin {t : TT} {G : GH} {l : Launch} {p : Program} {s : State} {m : MethodId} {args : Array Value} {meth : Method} {c : Code} {y0 : MethodName} {cc0 : ByteArray} {nL0 : Nat} {ret0 : Option FieldType} (C : CxH t G l p s m args meth c y0 cc0 nL0 ret0) {index lv mc ms K1 K2 : Nat} (hq : Cond.methodLink y0.cls index yX5_kin ∈ lw_all) (hR : 12 + 1 ≤ lv) : CallW (rmH lv K1 K2) s args y0.cls RX5 index yX5_kin cX5_kin 3 none (ws_ yX5_kin cX5_kin 3 none) (rmH 12 mc ms) mc ms 0 :=
  cwV 0 C.1.2.2.2.2.1 (lw_V hq q1110 qs27 q132 q1111) rfl rfl rfl (by decide +kernel) ⟨hR, by show 8 + (3 + 11) + 100 * 12 ≤ 100 * lv; omega⟩
def hX5_bond_79 (p0 : Nat) (p1 : Int32) (x2 : Int32) (x3 : Int32) (s0 : Nat) (s1 : Int32) (u : HS) : Option (OH (PX Unit)) :=
  mchk (hC u s0 == 5) <|
  hx (hX5_want s0 s1 4 u) fun _ u1 =>
  mchk (hC u1 p0 == 5) <|
  hb (hX5_next p0 u1) fun _ u3 =>
  if p1 = 0 then
    mchk (hC u3 p0 == 5) <|
    mderef (hR u3 p0 1) fun a6 =>
    mchk (hC u3 a6 == 2) <|
    mderef (hR u3 a6 5) fun a9 =>
    mchk (inA u3 x2 a9 21) <|
    mchk (inA u3 x2 a9 21) <|
    mlet (uA u3 a9 x2.toNatClampNeg ((hA u3 a9 x2.toNatClampNeg) ||| ((1 : Int32) <<< (x3 &&& 31)))) fun u12 =>
    mchk (hC u12 p0 == 5) <|
    mchk (hC u12 p0 == 5) <|
    mlet (uI u12 p0 10 ((hI u12 p0 10) + 1)) fun u16 =>
    hret (.inl ()) u16
  else
    mchk (hC u3 p0 == 5) <|
    mderef (hR u3 p0 1) fun a6 =>
    mchk (hC u3 a6 == 2) <|
    mderef (hR u3 a6 4) fun a9 =>
    mchk (inA u3 x2 a9 21) <|
    mchk (inA u3 x2 a9 21) <|
    mlet (uA u3 a9 x2.toNatClampNeg ((hA u3 a9 x2.toNatClampNeg) ||| ((1 : Int32) <<< (x3 &&& 31)))) fun u12 =>
    mchk (hC u12 p0 == 5) <|
    mderef (hR u12 p0 1) fun a15 =>
    mchk (hC u12 a15 == 2) <|
    mderef (hR u12 a15 6) fun a18 =>
    mchk (hC u12 a18 == 12) <|
    hb (hJ2_get a18 x2 u12) fun r21 u20 =>
    mchk (hC u20 r21 == 12) <|
    hb (hJ16_valueOf x3 u20) fun r25 u24 =>
    mchk (hC u24 r21 == 12) <|
    hb (hJ2_add r21 r25 u24) fun r27 u26 =>
    mchk (hC u26 p0 == 5) <|
    mchk (hC u26 p0 == 5) <|
    mlet (uI u26 p0 10 ((hI u26 p0 10) + 1)) fun u31 =>
    hret (.inl ()) u31
theorem whX5_bond_79 {K1 K2 : Nat} {p : Program} {e : Env} {s : State} {m : MethodId} {args : Array Value} {below : List Frame} {meth : Method} {c : Code} (hl0 : l.stackTraces = false) (C : CxX t G l p s m args meth c yX5_bond cX5_bond 4 none) (p0 : Nat) (p1 : Int32) (x2 : Int32) (x3 : Int32) (s0 : Nat) (s1 : Int32) (u : HS) : VX mkU t G p l e 12 K1 K2 s m args below meth c 4 79 [(0, .ref p0), (1, .int p1), (2, .int x2), (3, .int x3)] [.int s1, .ref s0] u (hX5_bond_79 p0 p1 x2 x3 s0 s1 u) := by
  unfold hX5_bond_79
  refine v_iconst C.1.1 4 (by decide) dX5_bond_79 ?_
  refine v_chk (fun h2 => ?_)
  refine v_callVX C [.int s1, .int 4] [] (ctX5_want t G l hl0 s0 s1 4 u) (fun _ _ => cwX5_want C.1 q1008 (by decide)) (recO C.1 (ci := 4) (eq_of_beq h2) (by decide) rfl) rfl rfl (by exact Nat.le_of_ble_eq_true rfl) dX5_bond_80 (fun _ u1 => ?_)
  refine v_aload_n C.1.1 0 rfl rfl dX5_bond_83 ?_
  refine v_chk (fun h4 => ?_)
  refine v_callVH C.1 [] [] (ctX5_next t G l hl0 p0 u1) (fun _ _ => cwX5_next C.1 q890 (by decide)) (recO C.1 (ci := 4) (eq_of_beq h4) (by decide) rfl) rfl rfl (by exact Nat.le_of_ble_eq_true rfl) dX5_bond_84 (fun _ u3 => ?_)
  refine v_iload_n C.1.1 1 rfl rfl dX5_bond_87 ?_
  refine v_if_eq C.1.1 135 (by decide) dX5_bond_88 (fun _ => ?_) (fun _ => ?_)
  · refine v_aload_n C.1.1 0 rfl rfl dX5_bond_135 ?_
    refine v_chk (fun h5 => ?_)
    refine v_hget C.1 (v := va_rf (hR u3 p0 1)) 4 1 (eq_of_beq h5) (by decide) rfl in_X5 (by decide) (Or.inl q848) (fun _ h => h) (hF_r (ci := 4) (eq_of_beq h5) (by decide)) dX5_bond_136 ?_
    refine v_deref (fun a6 e7 => ?_)
    refine v_chk (fun h8 => ?_)
    refine v_hget C.1 (v := va_rf (hR u3 a6 5)) 1 5 (eq_of_beq h8) (by decide) rfl in_X2 (by decide) (Or.inr ⟨_, q218⟩) (fun _ h => h) (hF_r (ci := 1) (eq_of_beq h8) (by decide)) dX5_bond_139 ?_
    refine v_deref (fun a9 e10 => ?_)
    refine v_iload_n C.1.1 2 rfl rfl dX5_bond_142 ?_
    refine v_dup2 C.1.1 rfl rfl dX5_bond_143 ?_
    refine v_chk (fun h11 => ?_)
    refine v_haiald C.1 h11 dX5_bond_144 ?_
    refine v_iconst C.1.1 1 (by decide) dX5_bond_145 ?_
    refine v_iload_n C.1.1 3 rfl rfl dX5_bond_146 ?_
    refine v_ishl C.1.1 dX5_bond_147 ?_
    refine v_ior C.1.1 dX5_bond_148 ?_
    refine v_chk (fun h13 => ?_)
    refine v_haiast C.1 h13 dX5_bond_149 (fun u12 => ?_)
    refine v_aload_n C.1.1 0 rfl rfl dX5_bond_150 ?_
    refine v_dup C.1.1 rfl dX5_bond_151 ?_
    refine v_chk (fun h14 => ?_)
    refine v_hget C.1 (v := .int (hI u12 p0 10)) 4 10 (eq_of_beq h14) (by decide) rfl in_X5 (by decide) (Or.inl q859) (fun _ h => h) (hF_i (ci := 4) (eq_of_beq h14) (by decide)) dX5_bond_152 ?_
    refine v_iconst C.1.1 1 (by decide) dX5_bond_155 ?_
    refine v_iadd C.1.1 dX5_bond_156 ?_
    refine v_chk (fun h15 => ?_)
    refine v_hputI C.1 4 10 (eq_of_beq h15) (by decide) rfl in_X5 tyX5 tyX5_ok nmX5 (by decide) (by decide) q859 (fun _ h => h) (Or.inl rfl) ⟨rfl, rfl⟩ dX5_bond_157 (fun u16 => ?_)
    exact v_xvret C.1 dX5_bond_160
  · refine v_aload_n C.1.1 0 rfl rfl dX5_bond_91 ?_
    refine v_chk (fun h5 => ?_)
    refine v_hget C.1 (v := va_rf (hR u3 p0 1)) 4 1 (eq_of_beq h5) (by decide) rfl in_X5 (by decide) (Or.inl q848) (fun _ h => h) (hF_r (ci := 4) (eq_of_beq h5) (by decide)) dX5_bond_92 ?_
    refine v_deref (fun a6 e7 => ?_)
    refine v_chk (fun h8 => ?_)
    refine v_hget C.1 (v := va_rf (hR u3 a6 4)) 1 4 (eq_of_beq h8) (by decide) rfl in_X2 (by decide) (Or.inr ⟨_, q214⟩) (fun _ h => h) (hF_r (ci := 1) (eq_of_beq h8) (by decide)) dX5_bond_95 ?_
    refine v_deref (fun a9 e10 => ?_)
    refine v_iload_n C.1.1 2 rfl rfl dX5_bond_98 ?_
    refine v_dup2 C.1.1 rfl rfl dX5_bond_99 ?_
    refine v_chk (fun h11 => ?_)
    refine v_haiald C.1 h11 dX5_bond_100 ?_
    refine v_iconst C.1.1 1 (by decide) dX5_bond_101 ?_
    refine v_iload_n C.1.1 3 rfl rfl dX5_bond_102 ?_
    refine v_ishl C.1.1 dX5_bond_103 ?_
    refine v_ior C.1.1 dX5_bond_104 ?_
    refine v_chk (fun h13 => ?_)
    refine v_haiast C.1 h13 dX5_bond_105 (fun u12 => ?_)
    refine v_aload_n C.1.1 0 rfl rfl dX5_bond_106 ?_
    refine v_chk (fun h14 => ?_)
    refine v_hget C.1 (v := va_rf (hR u12 p0 1)) 4 1 (eq_of_beq h14) (by decide) rfl in_X5 (by decide) (Or.inl q848) (fun _ h => h) (hF_r (ci := 4) (eq_of_beq h14) (by decide)) dX5_bond_107 ?_
    refine v_deref (fun a15 e16 => ?_)
    refine v_chk (fun h17 => ?_)
    refine v_hget C.1 (v := va_rf (hR u12 a15 6)) 1 6 (eq_of_beq h17) (by decide) rfl in_X2 (by decide) (Or.inr ⟨_, q220⟩) (fun _ h => h) (hF_r (ci := 1) (eq_of_beq h17) (by decide)) dX5_bond_110 ?_
    refine v_deref (fun a18 e19 => ?_)
    refine v_iload_n C.1.1 2 rfl rfl dX5_bond_113 ?_
    refine v_chk (fun h22 => ?_)
    refine v_callFH C.1 [.int x2] [] (ctJ2_get t G l hl0 a18 x2 u12) (fun _ _ => cwJ2_getF C.1 q1118 (by decide)) (eq_of_beq h22) (by decide) rfl rfl rfl (by exact Nat.le_of_ble_eq_true rfl) dX5_bond_114 (fun r21 u20 => ?_)
    refine v_chk (fun h23 => ?_)
    refine v_hcastY C.1 11 (eq_of_beq h23) (by decide) rfl q1119 q387 dX5_bond_119 ?_
    refine v_iload_n C.1.1 3 rfl rfl dX5_bond_122 ?_
    refine v_callSH C.1 [.int x3] [.ref r21] (ctJ16_valueOf t G l hl0 x3 u20) (fun _ _ => cwJ16_valueOf C.1 q1056 (by decide)) rfl rfl (by exact Nat.le_of_ble_eq_true rfl) dX5_bond_123 (fun r25 u24 => ?_)
    refine v_chk (fun h28 => ?_)
    refine v_callFH C.1 [.ref r25] [] (ctJ2_add t G l hl0 r21 r25 u24) (fun _ _ => cwJ2_addF C.1 q1047 (by decide)) (eq_of_beq h28) (by decide) rfl rfl rfl (by exact Nat.le_of_ble_eq_true rfl) dX5_bond_126 (fun r27 u26 => ?_)
    refine v_pop C.1.1 rfl dX5_bond_131 ?_
    refine v_goto C.1.1 150 (by decide) dX5_bond_132 ?_
    refine v_aload_n C.1.1 0 rfl rfl dX5_bond_150 ?_
    refine v_dup C.1.1 rfl dX5_bond_151 ?_
    refine v_chk (fun h29 => ?_)
    refine v_hget C.1 (v := .int (hI u26 p0 10)) 4 10 (eq_of_beq h29) (by decide) rfl in_X5 (by decide) (Or.inl q859) (fun _ h => h) (hF_i (ci := 4) (eq_of_beq h29) (by decide)) dX5_bond_152 ?_
    refine v_iconst C.1.1 1 (by decide) dX5_bond_155 ?_
    refine v_iadd C.1.1 dX5_bond_156 ?_
    refine v_chk (fun h30 => ?_)
    refine v_hputI C.1 4 10 (eq_of_beq h30) (by decide) rfl in_X5 tyX5 tyX5_ok nmX5 (by decide) (by decide) q859 (fun _ h => h) (Or.inl rfl) ⟨rfl, rfl⟩ dX5_bond_157 (fun u31 => ?_)
    exact v_xvret C.1 dX5_bond_160
def hX5_bond_15 (p0 : Nat) (p1 : Int32) (s0 : Nat) (s1 : Int32) (u : HS) : Option (OH (PX Unit)) :=
  mchk (hC u s0 == 5) <|
  hx (hX5_want s0 s1 2 u) fun _ u1 =>
  mchk (hC u1 p0 == 5) <|
  hb (hX5_next p0 u1) fun _ u3 =>
  mchk (hC u3 p0 == 5) <|
  mderef (hR u3 p0 1) fun a6 =>
  mchk (hC u3 a6 == 2) <|
  mchk (hC u3 p0 == 5) <|
  hx (hX5_one p0 (hI u3 a6 7) u3) fun r10 u9 =>
  mchk (hC u9 p0 == 5) <|
  mderef (hR u9 p0 1) fun a13 =>
  mchk (hC u9 a13 == 2) <|
  hb (hX2_people a13 u9) fun r16 u15 =>
  mchk (hC u15 p0 == 5) <|
  hx (hX5_oneNow p0 r16 u15) fun r19 u18 =>
  mchk (hC u18 p0 == 5) <|
  mderef (hR u18 p0 1) fun a22 =>
  mchk (hC u18 a22 == 2) <|
  mderef (hR u18 a22 4) fun a25 =>
  mchk (inA u18 r10 a25 21) <|
  mchk (hC u18 p0 == 5) <|
  mderef (hR u18 p0 1) fun a29 =>
  mchk (hC u18 a29 == 2) <|
  mderef (hR u18 a29 5) fun a32 =>
  mchk (inA u18 r10 a32 21) <|
  hb (hX1_isOf ((hA u18 a25 r10.toNatClampNeg) ||| (hA u18 a32 r10.toNatClampNeg)) r19 u18) fun r36 u35 =>
  if r36 = 0 then
    hX5_bond_79 p0 p1 r10 r19 p0 1 u35
  else
    hX5_bond_79 p0 p1 r10 r19 p0 0 u35
theorem whX5_bond_15 {K1 K2 : Nat} {p : Program} {e : Env} {s : State} {m : MethodId} {args : Array Value} {below : List Frame} {meth : Method} {c : Code} (hl0 : l.stackTraces = false) (C : CxX t G l p s m args meth c yX5_bond cX5_bond 4 none) (p0 : Nat) (p1 : Int32) (s0 : Nat) (s1 : Int32) (u : HS) : VX mkU t G p l e 12 K1 K2 s m args below meth c 4 15 [(0, .ref p0), (1, .int p1)] [.int s1, .ref s0] u (hX5_bond_15 p0 p1 s0 s1 u) := by
  unfold hX5_bond_15
  refine v_iconst C.1.1 2 (by decide) dX5_bond_15 ?_
  refine v_chk (fun h2 => ?_)
  refine v_callVX C [.int s1, .int 2] [] (ctX5_want t G l hl0 s0 s1 2 u) (fun _ _ => cwX5_want C.1 q1008 (by decide)) (recO C.1 (ci := 4) (eq_of_beq h2) (by decide) rfl) rfl rfl (by exact Nat.le_of_ble_eq_true rfl) dX5_bond_16 (fun _ u1 => ?_)
  refine v_aload_n C.1.1 0 rfl rfl dX5_bond_19 ?_
  refine v_chk (fun h4 => ?_)
  refine v_callVH C.1 [] [] (ctX5_next t G l hl0 p0 u1) (fun _ _ => cwX5_next C.1 q890 (by decide)) (recO C.1 (ci := 4) (eq_of_beq h4) (by decide) rfl) rfl rfl (by exact Nat.le_of_ble_eq_true rfl) dX5_bond_20 (fun _ u3 => ?_)
  refine v_aload_n C.1.1 0 rfl rfl dX5_bond_23 ?_
  refine v_aload_n C.1.1 0 rfl rfl dX5_bond_24 ?_
  refine v_chk (fun h5 => ?_)
  refine v_hget C.1 (v := va_rf (hR u3 p0 1)) 4 1 (eq_of_beq h5) (by decide) rfl in_X5 (by decide) (Or.inl q848) (fun _ h => h) (hF_r (ci := 4) (eq_of_beq h5) (by decide)) dX5_bond_25 ?_
  refine v_deref (fun a6 e7 => ?_)
  refine v_chk (fun h8 => ?_)
  refine v_hget C.1 (v := .int (hI u3 a6 7)) 1 7 (eq_of_beq h8) (by decide) rfl in_X2 (by decide) (Or.inr ⟨_, q224⟩) (fun _ h => h) (hF_i (ci := 1) (eq_of_beq h8) (by decide)) dX5_bond_28 ?_
  refine v_chk (fun h11 => ?_)
  refine v_callVX C [.int (hI u3 a6 7)] [] (ctX5_one t G l hl0 p0 (hI u3 a6 7) u3) (fun _ _ => cwX5_one C.1 q1062 (by decide)) (recO C.1 (ci := 4) (eq_of_beq h11) (by decide) rfl) rfl rfl (by exact Nat.le_of_ble_eq_true rfl) dX5_bond_31 (fun r10 u9 => ?_)
  refine v_istore_n C.1.1 [(2, .int r10), (0, .ref p0), (1, .int p1)] rfl (by decide) rfl dX5_bond_34 ?_
  refine v_aload_n C.1.1 1 rfl rfl dX5_bond_35 ?_
  refine v_aload_n C.1.1 1 rfl rfl dX5_bond_36 ?_
  refine v_chk (fun h12 => ?_)
  refine v_hget C.1 (v := va_rf (hR u9 p0 1)) 4 1 (eq_of_beq h12) (by decide) rfl in_X5 (by decide) (Or.inl q848) (fun _ h => h) (hF_r (ci := 4) (eq_of_beq h12) (by decide)) dX5_bond_37 ?_
  refine v_deref (fun a13 e14 => ?_)
  refine v_chk (fun h17 => ?_)
  refine v_callVH C.1 [] [.ref p0] (ctX2_people t G l hl0 a13 u9) (fun _ _ => cwX2_people C.1 q1107 (by decide)) (recO C.1 (ci := 1) (eq_of_beq h17) (by decide) rfl) rfl rfl (by exact Nat.le_of_ble_eq_true rfl) dX5_bond_40 (fun r16 u15 => ?_)
  refine v_chk (fun h20 => ?_)
  refine v_callVX C [.int r16] [] (ctX5_oneNow t G l hl0 p0 r16 u15) (fun _ _ => cwX5_oneNow C.1 q1066 (by decide)) (recO C.1 (ci := 4) (eq_of_beq h20) (by decide) rfl) rfl rfl (by exact Nat.le_of_ble_eq_true rfl) dX5_bond_43 (fun r19 u18 => ?_)
  refine v_istore_n C.1.1 [(3, .int r19), (2, .int r10), (0, .ref p0), (1, .int p1)] rfl (by decide) rfl dX5_bond_46 ?_
  refine v_aload_n C.1.1 2 rfl rfl dX5_bond_47 ?_
  refine v_aload_n C.1.1 2 rfl rfl dX5_bond_48 ?_
  refine v_chk (fun h21 => ?_)
  refine v_hget C.1 (v := va_rf (hR u18 p0 1)) 4 1 (eq_of_beq h21) (by decide) rfl in_X5 (by decide) (Or.inl q848) (fun _ h => h) (hF_r (ci := 4) (eq_of_beq h21) (by decide)) dX5_bond_49 ?_
  refine v_deref (fun a22 e23 => ?_)
  refine v_chk (fun h24 => ?_)
  refine v_hget C.1 (v := va_rf (hR u18 a22 4)) 1 4 (eq_of_beq h24) (by decide) rfl in_X2 (by decide) (Or.inr ⟨_, q214⟩) (fun _ h => h) (hF_r (ci := 1) (eq_of_beq h24) (by decide)) dX5_bond_52 ?_
  refine v_deref (fun a25 e26 => ?_)
  refine v_iload_n C.1.1 1 rfl rfl dX5_bond_55 ?_
  refine v_chk (fun h27 => ?_)
  refine v_haiald C.1 h27 dX5_bond_56 ?_
  refine v_aload_n C.1.1 2 rfl rfl dX5_bond_57 ?_
  refine v_chk (fun h28 => ?_)
  refine v_hget C.1 (v := va_rf (hR u18 p0 1)) 4 1 (eq_of_beq h28) (by decide) rfl in_X5 (by decide) (Or.inl q848) (fun _ h => h) (hF_r (ci := 4) (eq_of_beq h28) (by decide)) dX5_bond_58 ?_
  refine v_deref (fun a29 e30 => ?_)
  refine v_chk (fun h31 => ?_)
  refine v_hget C.1 (v := va_rf (hR u18 a29 5)) 1 5 (eq_of_beq h31) (by decide) rfl in_X2 (by decide) (Or.inr ⟨_, q218⟩) (fun _ h => h) (hF_r (ci := 1) (eq_of_beq h31) (by decide)) dX5_bond_61 ?_
  refine v_deref (fun a32 e33 => ?_)
  refine v_iload_n C.1.1 1 rfl rfl dX5_bond_64 ?_
  refine v_chk (fun h34 => ?_)
  refine v_haiald C.1 h34 dX5_bond_65 ?_
  refine v_ior C.1.1 dX5_bond_66 ?_
  refine v_iload_n C.1.1 0 rfl rfl dX5_bond_67 ?_
  refine v_callSNH C.1 [.int ((hA u18 a25 r10.toNatClampNeg) ||| (hA u18 a32 r10.toNatClampNeg)), .int r19] [.ref p0] (ctX1_isOf t G l hl0 ((hA u18 a25 r10.toNatClampNeg) ||| (hA u18 a32 r10.toNatClampNeg)) r19 u18) (fun _ _ => cwX1_isOfN C.1 q1112 (by decide)) rfl rfl (by exact Nat.le_of_ble_eq_true rfl) dX5_bond_68 (fun r36 u35 => ?_)
  refine v_if_ne C.1.1 78 (by decide) dX5_bond_71 (fun _ => ?_) (fun _ => ?_)
  · refine v_iconst C.1.1 1 (by decide) dX5_bond_74 ?_
    refine v_goto C.1.1 79 (by decide) dX5_bond_75 ?_
    refine v_sub [2, 3, 1, 0] rfl ?_
    exact whX5_bond_79 hl0 C p0 p1 r10 r19 p0 1 u35
  · refine v_iconst C.1.1 0 (by decide) dX5_bond_78 ?_
    refine v_sub [2, 3, 1, 0] rfl ?_
    exact whX5_bond_79 hl0 C p0 p1 r10 r19 p0 0 u35
def hX5_bond (p0 : Nat) (p1 : Int32) (u : HS) : Option (OH (PX Unit)) :=
  mchk (hC u p0 == 5) <|
  if 12 ≤ (hI u p0 10) then
    hX5_bond_15 p0 p1 p0 0 u
  else
    hX5_bond_15 p0 p1 p0 1 u
theorem ctX5_bond (t : TT) (G : GH) (l : Launch) (hl0 : l.stackTraces = false) (p0 : Nat) (p1 : Int32) (u : HS) : CtX mkU t G l yX5_bond cX5_bond 4 none 12 [.ref p0, .int p1] u (hX5_bond p0 p1 u) := by
  refine ctX_of [(0, .ref p0), (1, .int p1)] hl0 rfl (Nat.le_of_ble_eq_true rfl) rfl (fun K1 K2 p e s m args below meth c C => ?_)
  unfold hX5_bond
  refine v_aload_n C.1.1 0 rfl rfl dX5_bond_0 ?_
  refine v_aload_n C.1.1 0 rfl rfl dX5_bond_1 ?_
  refine v_chk (fun h1 => ?_)
  refine v_hget C.1 (v := .int (hI u p0 10)) 4 10 (eq_of_beq h1) (by decide) rfl in_X5 (by decide) (Or.inl q859) (fun _ h => h) (hF_i (ci := 4) (eq_of_beq h1) (by decide)) dX5_bond_2 ?_
  refine v_bipush C.1.1 12 (by decide) dX5_bond_5 ?_
  refine v_icmp_ge C.1.1 14 (by decide) dX5_bond_7 (fun _ => ?_) (fun _ => ?_)
  · refine v_iconst C.1.1 0 (by decide) dX5_bond_14 ?_
    exact whX5_bond_15 hl0 C p0 p1 p0 0 u
  · refine v_iconst C.1.1 1 (by decide) dX5_bond_10 ?_
    refine v_goto C.1.1 15 (by decide) dX5_bond_11 ?_
    exact whX5_bond_15 hl0 C p0 p1 p0 1 u
theorem cwX5_bond {t : TT} {G : GH} {l : Launch} {p : Program} {s : State} {m : MethodId} {args : Array Value} {meth : Method} {c : Code} {y0 : MethodName} {cc0 : ByteArray} {nL0 : Nat} {ret0 : Option FieldType} (C : CxH t G l p s m args meth c y0 cc0 nL0 ret0) {index lv mc ms K1 K2 : Nat} (hq : Cond.methodLink y0.cls index yX5_bond ∈ lw_all) (hR : 12 + 1 ≤ lv) : CallW (rmH lv K1 K2) s args y0.cls RX5 index yX5_bond cX5_bond 4 none (ws_ yX5_bond cX5_bond 4 none) (rmH 12 mc ms) mc ms 1 :=
  cwV 1 C.1.2.2.2.2.1 (lw_V hq q1115 qs28 q132 q1116) rfl rfl rfl (by decide +kernel) ⟨hR, by show 8 + (4 + 11) + 100 * 12 ≤ 100 * lv; omega⟩
def hX5_isSign (p0 : Nat) (p1 : Int32) (u : HS) : Option (OH Int32) :=
  mchk (hC u p0 == 5) <|
  if (hI u p0 5) = 3 then
    mchk (hC u p0 == 5) <|
    mderef (hR u p0 11) fun a3 =>
    mchk (hC u a3 == 1) <|
    mderef (hR u a3 4) fun a6 =>
    mchk (hC u p0 == 5) <|
    mchk (inA u (hI u p0 6) a6 23) <|
    if (hA u a6 (hI u p0 6).toNatClampNeg) = p1 then
      hz id 1 u
    else
      hz id 0 u
  else
    hz id 0 u
theorem ctX5_isSign (t : TT) (G : GH) (l : Launch) (hl0 : l.stackTraces = false) (p0 : Nat) (p1 : Int32) (u : HS) : CtH mkI t G l yX5_isSign cX5_isSign 2 (some .boolean) 2 [.ref p0, .int p1] u (hX5_isSign p0 p1 u) := by
  refine ctH_of [(0, .ref p0), (1, .int p1)] hl0 rfl (Nat.le_of_ble_eq_true rfl) rfl (fun K1 K2 p e s m args below meth c C => ?_)
  unfold hX5_isSign
  refine v_aload_n C.1 0 rfl rfl dX5_isSign_0 ?_
  refine v_chk (fun h1 => ?_)
  refine v_hget C (v := .int (hI u p0 5)) 4 5 (eq_of_beq h1) (by decide) rfl in_X5 (by decide) (Or.inl q853) (fun _ h => h) (hF_i (ci := 4) (eq_of_beq h1) (by decide)) dX5_isSign_1 ?_
  refine v_iconst C.1 3 (by decide) dX5_isSign_4 ?_
  refine v_icmp_ne C.1 28 (by decide) dX5_isSign_5 (fun _ => ?_) (fun _ => ?_)
  · refine v_aload_n C.1 0 rfl rfl dX5_isSign_8 ?_
    refine v_chk (fun h2 => ?_)
    refine v_hget C (v := va_rf (hR u p0 11)) 4 11 (eq_of_beq h2) (by decide) rfl in_X5 (by decide) (Or.inl q860) (fun _ h => h) (hF_r (ci := 4) (eq_of_beq h2) (by decide)) dX5_isSign_9 ?_
    refine v_deref (fun a3 e4 => ?_)
    refine v_chk (fun h5 => ?_)
    refine v_hget C (v := va_rf (hR u a3 4)) 0 4 (eq_of_beq h5) (by decide) rfl in_X1 (by decide) (Or.inr ⟨_, q313⟩) (fun _ h => h) (hF_r (ci := 0) (eq_of_beq h5) (by decide)) dX5_isSign_12 ?_
    refine v_deref (fun a6 e7 => ?_)
    refine v_aload_n C.1 0 rfl rfl dX5_isSign_15 ?_
    refine v_chk (fun h8 => ?_)
    refine v_hget C (v := .int (hI u p0 6)) 4 6 (eq_of_beq h8) (by decide) rfl in_X5 (by decide) (Or.inl q854) (fun _ h => h) (hF_i (ci := 4) (eq_of_beq h8) (by decide)) dX5_isSign_16 ?_
    refine v_chk (fun h9 => ?_)
    refine v_habald C h9 dX5_isSign_19 ?_
    refine v_iload_n C.1 1 rfl rfl dX5_isSign_20 ?_
    refine v_icmp_ne C.1 28 (by decide) dX5_isSign_21 (fun _ => ?_) (fun _ => ?_)
    · refine v_iconst C.1 1 (by decide) dX5_isSign_24 ?_
      refine v_goto C.1 29 (by decide) dX5_isSign_25 ?_
      exact v_hzret C dX5_isSign_29
    · refine v_iconst C.1 0 (by decide) dX5_isSign_28 ?_
      exact v_hzret C dX5_isSign_29
  · refine v_iconst C.1 0 (by decide) dX5_isSign_28 ?_
    exact v_hzret C dX5_isSign_29
theorem cwX5_isSign {t : TT} {G : GH} {l : Launch} {p : Program} {s : State} {m : MethodId} {args : Array Value} {meth : Method} {c : Code} {y0 : MethodName} {cc0 : ByteArray} {nL0 : Nat} {ret0 : Option FieldType} (C : CxH t G l p s m args meth c y0 cc0 nL0 ret0) {index lv mc ms K1 K2 : Nat} (hq : Cond.methodLink y0.cls index yX5_isSign ∈ lw_all) (hR : 2 + 1 ≤ lv) : CallW (rmH lv K1 K2) s args y0.cls RX5 index yX5_isSign cX5_isSign 2 (some .boolean) (ws_ yX5_isSign cX5_isSign 2 (some .boolean)) (rmH 2 mc ms) mc ms 1 :=
  cwV 1 C.1.2.2.2.2.1 (lw_V hq q1127 qs30 q132 q1128) rfl rfl rfl (by decide +kernel) ⟨hR, by show 8 + (2 + 11) + 100 * 2 ≤ 100 * lv; omega⟩
def hX9_init (p0 : Nat) (p1 : Int32) (u : HS) : Option (OH Unit) :=
  mchk (hC u p0 == 9) <|
  mlet (uI u p0 0 p1) fun u2 =>
  hret () u2
theorem ctX9_init (t : TT) (G : GH) (l : Launch) (hl0 : l.stackTraces = false) (p0 : Nat) (p1 : Int32) (u : HS) : CtH mkU t G l yX9_init cX9_init 2 none 2 [.ref p0, .int p1] u (hX9_init p0 p1 u) := by
  refine ctH_of [(0, .ref p0), (1, .int p1)] hl0 rfl (Nat.le_of_ble_eq_true rfl) rfl (fun K1 K2 p e s m args below meth c C => ?_)
  unfold hX9_init
  refine v_aload_n C.1 0 rfl rfl dX9_init_0 ?_
  refine v_objInit C q1157 q161 q162 (by exact Nat.le_of_ble_eq_true rfl) (by exact Nat.le_of_ble_eq_true rfl) dX9_init_1 ?_
  refine v_aload_n C.1 0 rfl rfl dX9_init_4 ?_
  refine v_iload_n C.1 1 rfl rfl dX9_init_5 ?_
  refine v_chk (fun h1 => ?_)
  refine v_hputI C 8 0 (eq_of_beq h1) (by decide) rfl in_X9 tyX9 tyX9_ok nmX9 (by decide) (by decide) q1158 (fun _ h => h) (Or.inr ⟨rfl, rfl, rfl⟩) ⟨rfl, rfl⟩ dX9_init_6 (fun u2 => ?_)
  exact v_hvret C dX9_init_9
theorem cwX9_init {t : TT} {G : GH} {l : Launch} {p : Program} {s : State} {m : MethodId} {args : Array Value} {meth : Method} {c : Code} {y0 : MethodName} {cc0 : ByteArray} {nL0 : Nat} {ret0 : Option FieldType} (C : CxH t G l p s m args meth c y0 cc0 nL0 ret0) {index lv mc ms K1 K2 : Nat} (hq : Cond.methodLink y0.cls index yX9_init ∈ lw_all) (hR : 2 + 1 ≤ lv) : CallB (rmH lv K1 K2) s args y0.cls index yX9_init cX9_init 2 none (ws_ yX9_init cX9_init 2 none) (rmH 2 mc ms) mc ms 1 ∧ yX9_init.name = "<init>" ∧ (Cond.instanceMethod yX9_init).before args s = true :=
  cwI 1 C.1.2.2.2.2.1 (lw_meth q1156) rfl rfl rfl (C.1.2.2.2.2.1 _ q149) (C.1.2.2.2.2.1 _ hq) (C.1.2.2.2.2.1 _ q1155) rfl (by decide +kernel) ⟨hR, by show 8 + (2 + 11) + 100 * 2 ≤ 100 * lv; omega⟩
def hX5_which_2 (p0 : Nat) (p1 : Nat) (k : Int32 → HS → Option (OH Int32)) (x2 : Int32) (u : HS) : Option (OH Int32) :=
  mchk (hC u p1 == 26) <|
  if (Int32.ofNat (hN u p1)) ≤ x2 then
    hret (-1) u
  else
    mchk (inA u x2 p1 26) <|
    mderef (hQ u p1 x2.toNatClampNeg) fun a3 =>
    mchk (hC u p0 == 5) <|
    hb (hX5_is p0 a3 u) fun r6 u5 =>
    if r6 = 0 then
      k (x2 + 1) u5
    else
      hret x2 u5
theorem whX5_which_2 {K1 K2 : Nat} {p : Program} {e : Env} {s : State} {m : MethodId} {args : Array Value} {below : List Frame} {meth : Method} {c : Code} (hl0 : l.stackTraces = false) (C : CxH t G l p s m args meth c yX5_which cX5_which 3 (some .int)) (p0 : Nat) (p1 : Nat) (n : Nat) (x2 : Int32) (u : HS) : VH mkI t G p l e 7 K1 K2 s m args below meth c 3 2 [(0, .ref p0), (1, .ref p1), (2, .int x2)] [] u (ml1 (hX5_which_2 p0 p1) n x2 u) := by
  refine vl1 (L := fun x2 => [(0, .ref p0), (1, .ref p1), (2, .int x2)]) (fun k hk x2 u => ?_) n x2 u
  unfold hX5_which_2
  refine v_iload_n C.1 2 rfl rfl dX5_which_2 ?_
  refine v_aload_n C.1 1 rfl rfl dX5_which_3 ?_
  refine v_chk (fun h1 => ?_)
  refine v_halen C 6 (by decide) (eq_of_beq h1) dX5_which_4 ?_
  refine v_icmp_ge C.1 26 (by decide) dX5_which_5 (fun _ => ?_) (fun _ => ?_)
  · refine v_iconst C.1 (-1) (by decide) dX5_which_26 ?_
    exact v_hiret C dX5_which_27
  · refine v_aload_n C.1 0 rfl rfl dX5_which_8 ?_
    refine v_aload_n C.1 1 rfl rfl dX5_which_9 ?_
    refine v_iload_n C.1 2 rfl rfl dX5_which_10 ?_
    refine v_chk (fun h2 => ?_)
    refine v_haald C 6 (by decide) h2 dX5_which_11 ?_
    refine v_deref (fun a3 e4 => ?_)
    refine v_chk (fun h7 => ?_)
    refine v_callVH C [.ref a3] [] (ctX5_is t G l hl0 p0 a3 u) (fun _ _ => cwX5_is C q984 (by decide)) (recO C (ci := 4) (eq_of_beq h7) (by decide) rfl) rfl rfl (by exact Nat.le_of_ble_eq_true rfl) dX5_which_12 (fun r6 u5 => ?_)
    refine v_if_eq C.1 20 (by decide) dX5_which_15 (fun _ => ?_) (fun _ => ?_)
    · refine v_iinc C.1 1 [(2, .int (x2 + 1)), (0, .ref p0), (1, .ref p1)] 2 rfl (by decide) (by decide) rfl dX5_which_20 ?_
      refine v_goto C.1 2 (by decide) dX5_which_23 ?_
      refine v_sub [1, 2, 0] rfl ?_
      exact hk (x2 + 1) u5
    · refine v_iload_n C.1 2 rfl rfl dX5_which_18 ?_
      exact v_hiret C dX5_which_19
def hX5_which (p0 : Nat) (p1 : Nat) (u : HS) : Option (OH Int32) :=
  ml1 (hX5_which_2 p0 p1) FUEL 0 u
theorem ctX5_which (t : TT) (G : GH) (l : Launch) (hl0 : l.stackTraces = false) (p0 : Nat) (p1 : Nat) (u : HS) : CtH mkI t G l yX5_which cX5_which 3 (some .int) 7 [.ref p0, .ref p1] u (hX5_which p0 p1 u) := by
  refine ctH_of [(0, .ref p0), (1, .ref p1)] hl0 rfl (Nat.le_of_ble_eq_true rfl) rfl (fun K1 K2 p e s m args below meth c C => ?_)
  unfold hX5_which
  refine v_iconst C.1 0 (by decide) dX5_which_0 ?_
  refine v_istore_n C.1 [(2, .int 0), (0, .ref p0), (1, .ref p1)] rfl (by decide) rfl dX5_which_1 ?_
  refine v_sub [1, 2, 0] rfl ?_
  exact whX5_which_2 hl0 C p0 p1 FUEL 0 u
theorem cwX5_which {t : TT} {G : GH} {l : Launch} {p : Program} {s : State} {m : MethodId} {args : Array Value} {meth : Method} {c : Code} {y0 : MethodName} {cc0 : ByteArray} {nL0 : Nat} {ret0 : Option FieldType} (C : CxH t G l p s m args meth c y0 cc0 nL0 ret0) {index lv mc ms K1 K2 : Nat} (hq : Cond.methodLink y0.cls index yX5_which ∈ lw_all) (hR : 7 + 1 ≤ lv) : CallW (rmH lv K1 K2) s args y0.cls RX5 index yX5_which cX5_which 3 (some .int) (ws_ yX5_which cX5_which 3 (some .int)) (rmH 7 mc ms) mc ms 1 :=
  cwV 1 C.1.2.2.2.2.1 (lw_V hq q1164 qs36 q132 q1165) rfl rfl rfl (by decide +kernel) ⟨hR, by show 8 + (3 + 11) + 100 * 7 ≤ 100 * lv; omega⟩
def hX10_init (p0 : Nat) (p1 : Int32) (u : HS) : Option (OH Unit) :=
  mchk (hC u p0 == 10) <|
  mlet (uI u p0 0 p1) fun u2 =>
  hret () u2
theorem ctX10_init (t : TT) (G : GH) (l : Launch) (hl0 : l.stackTraces = false) (p0 : Nat) (p1 : Int32) (u : HS) : CtH mkU t G l yX10_init cX10_init 2 none 2 [.ref p0, .int p1] u (hX10_init p0 p1 u) := by
  refine ctH_of [(0, .ref p0), (1, .int p1)] hl0 rfl (Nat.le_of_ble_eq_true rfl) rfl (fun K1 K2 p e s m args below meth c C => ?_)
  unfold hX10_init
  refine v_aload_n C.1 0 rfl rfl dX10_init_0 ?_
  refine v_objInit C q1171 q161 q162 (by exact Nat.le_of_ble_eq_true rfl) (by exact Nat.le_of_ble_eq_true rfl) dX10_init_1 ?_
  refine v_aload_n C.1 0 rfl rfl dX10_init_4 ?_
  refine v_iload_n C.1 1 rfl rfl dX10_init_5 ?_
  refine v_chk (fun h1 => ?_)
  refine v_hputI C 9 0 (eq_of_beq h1) (by decide) rfl in_X10 tyX10 tyX10_ok nmX10 (by decide) (by decide) q1172 (fun _ h => h) (Or.inr ⟨rfl, rfl, rfl⟩) ⟨rfl, rfl⟩ dX10_init_6 (fun u2 => ?_)
  exact v_hvret C dX10_init_9
theorem cwX10_init {t : TT} {G : GH} {l : Launch} {p : Program} {s : State} {m : MethodId} {args : Array Value} {meth : Method} {c : Code} {y0 : MethodName} {cc0 : ByteArray} {nL0 : Nat} {ret0 : Option FieldType} (C : CxH t G l p s m args meth c y0 cc0 nL0 ret0) {index lv mc ms K1 K2 : Nat} (hq : Cond.methodLink y0.cls index yX10_init ∈ lw_all) (hR : 2 + 1 ≤ lv) : CallB (rmH lv K1 K2) s args y0.cls index yX10_init cX10_init 2 none (ws_ yX10_init cX10_init 2 none) (rmH 2 mc ms) mc ms 1 ∧ yX10_init.name = "<init>" ∧ (Cond.instanceMethod yX10_init).before args s = true :=
  cwI 1 C.1.2.2.2.2.1 (lw_meth q1170) rfl rfl rfl (C.1.2.2.2.2.1 _ q150) (C.1.2.2.2.2.1 _ hq) (C.1.2.2.2.2.1 _ q1169) rfl (by decide +kernel) ⟨hR, by show 8 + (2 + 11) + 100 * 2 ≤ 100 * lv; omega⟩
theorem cwX5_expression {t : TT} {G : GH} {l : Launch} {p : Program} {s : State} {m : MethodId} {args : Array Value} {meth : Method} {c : Code} {y0 : MethodName} {cc0 : ByteArray} {nL0 : Nat} {ret0 : Option FieldType} (C : CxH t G l p s m args meth c y0 cc0 nL0 ret0) {index lv mc ms K1 K2 lx : Nat} (hq : Cond.methodLink y0.cls index yX5_expression ∈ lw_all) (hR : lx + 1 ≤ lv) : CallW (rmH lv K1 K2) s args y0.cls RX5 index yX5_expression cX5_expression 3 (some (.object "WhiteBoard$Form")) (ws_ yX5_expression cX5_expression 3 (some (.object "WhiteBoard$Form"))) (rmH lx mc ms) mc ms 1 :=
  cwV 1 C.1.2.2.2.2.1 (lw_V hq q1123 qs29 q132 q1124) rfl rfl rfl (by decide +kernel) ⟨hR, by show 8 + (3 + 11) + 100 * lx ≤ 100 * lv; omega⟩
def ExprC (fe : Nat → Int32 → HS → Option (OH (PX Nat))) (t : TT) (G : GH) (l : Launch) (ld : Nat) : Prop := 30 ≤ ld ∧ ∀ (b : Nat) (x : Int32) (u : HS), CtX mkA t G l yX5_expression cX5_expression 3 (some (.object "WhiteBoard$Form")) ld [.ref b, .int x] u (fe b x u)
def hX5_part_100 (fe : Nat → Int32 → HS → Option (OH (PX Nat))) (p0 : Nat) (p1 : Int32) (x2 : Int32) (s0 : Nat) (s1 : Int32) (u : HS) : Option (OH (PX Nat)) :=
  mchk (hC u s0 == 5) <|
  hx (hX5_want s0 s1 3 u) fun _ u1 =>
  mchk (hC u1 p0 == 5) <|
  hb (hX5_next p0 u1) fun _ u3 =>
  mlet (hZ u3) fun a5 =>
  addc 1 (cN 9) <|
  mlet (nO u3 9) fun u7 =>
  hb (hX10_init a5 x2 u7) fun _ u8 =>
  hret (.inl a5) u8
theorem whX5_part_100 {K1 K2 ld : Nat} {p : Program} {e : Env} {s : State} {m : MethodId} {args : Array Value} {below : List Frame} {meth : Method} {c : Code} (hl0 : l.stackTraces = false) (C : CxX t G l p s m args meth c yX5_part cX5_part 3 (some (.object "WhiteBoard$Form"))) (fe : Nat → Int32 → HS → Option (OH (PX Nat))) (hrec : ExprC fe t G l ld) (p0 : Nat) (p1 : Int32) (x2 : Int32) (s0 : Nat) (s1 : Int32) (u : HS) : VX mkA t G p l e (ld + 1) K1 K2 s m args below meth c 3 100 [(0, .ref p0), (2, .int x2)] [.int s1, .ref s0] u (hX5_part_100 fe p0 p1 x2 s0 s1 u) := by
  unfold hX5_part_100
  refine v_iconst C.1.1 3 (by decide) dX5_part_100 ?_
  refine v_chk (fun h2 => ?_)
  refine v_callVX C [.int s1, .int 3] [] (ctX5_want t G l hl0 s0 s1 3 u) (fun _ _ => cwX5_want C.1 q1008 (by have h9 := hrec.1; omega)) (recO C.1 (ci := 4) (eq_of_beq h2) (by decide) rfl) rfl rfl (by exact Nat.le_of_ble_eq_true rfl) dX5_part_101 (fun _ u1 => ?_)
  refine v_aload_n C.1.1 0 rfl rfl dX5_part_104 ?_
  refine v_chk (fun h4 => ?_)
  refine v_callVH C.1 [] [] (ctX5_next t G l hl0 p0 u1) (fun _ _ => cwX5_next C.1 q890 (by have h9 := hrec.1; omega)) (recO C.1 (ci := 4) (eq_of_beq h4) (by decide) rfl) rfl rfl (by exact Nat.le_of_ble_eq_true rfl) dX5_part_105 (fun _ u3 => ?_)
  refine v_letE (fun a5 e6 => ?_)
  refine v_hnew C.1 9 e6 (by decide) (by decide) rfl in_X10 tyX10 tyX10_ok df_X10 q1166 q1167 q150 dX5_part_108 (fun u7 => ?_)
  refine v_dup C.1.1 rfl dX5_part_111 ?_
  refine v_iload_n C.1.1 1 rfl rfl dX5_part_112 ?_
  refine v_callIH C.1 [.int x2] [.ref a5] (ctX10_init t G l hl0 a5 x2 u7) (fun _ _ => cwX10_init C.1 q1168 (by have h9 := hrec.1; omega)) rfl rfl (by exact Nat.le_of_ble_eq_true rfl) dX5_part_113 (fun _ u8 => ?_)
  exact v_xaret C.1 (Or.inl ⟨_, rfl⟩) dX5_part_116
def hX5_part_76 (fe : Nat → Int32 → HS → Option (OH (PX Nat))) (p0 : Nat) (p1 : Int32) (s0 : Nat) (s1 : Int32) (u : HS) : Option (OH (PX Nat)) :=
  mchk (hC u s0 == 5) <|
  hx (hX5_want s0 s1 1 u) fun _ u1 =>
  mchk (hC u1 p0 == 5) <|
  mderef (hR u1 p0 3) fun a4 =>
  mchk (hC u1 p0 == 5) <|
  hb (hX5_which p0 a4 u1) fun r7 u6 =>
  if r7 = (-1) then
    hX5_part_100 fe p0 p1 r7 p0 0 u6
  else
    hX5_part_100 fe p0 p1 r7 p0 1 u6
theorem whX5_part_76 {K1 K2 ld : Nat} {p : Program} {e : Env} {s : State} {m : MethodId} {args : Array Value} {below : List Frame} {meth : Method} {c : Code} (hl0 : l.stackTraces = false) (C : CxX t G l p s m args meth c yX5_part cX5_part 3 (some (.object "WhiteBoard$Form"))) (fe : Nat → Int32 → HS → Option (OH (PX Nat))) (hrec : ExprC fe t G l ld) (p0 : Nat) (p1 : Int32) (s0 : Nat) (s1 : Int32) (u : HS) : VX mkA t G p l e (ld + 1) K1 K2 s m args below meth c 3 76 [(0, .ref p0)] [.int s1, .ref s0] u (hX5_part_76 fe p0 p1 s0 s1 u) := by
  unfold hX5_part_76
  refine v_iconst C.1.1 1 (by decide) dX5_part_76 ?_
  refine v_chk (fun h2 => ?_)
  refine v_callVX C [.int s1, .int 1] [] (ctX5_want t G l hl0 s0 s1 1 u) (fun _ _ => cwX5_want C.1 q1008 (by have h9 := hrec.1; omega)) (recO C.1 (ci := 4) (eq_of_beq h2) (by decide) rfl) rfl rfl (by exact Nat.le_of_ble_eq_true rfl) dX5_part_77 (fun _ u1 => ?_)
  refine v_aload_n C.1.1 0 rfl rfl dX5_part_80 ?_
  refine v_aload_n C.1.1 0 rfl rfl dX5_part_81 ?_
  refine v_chk (fun h3 => ?_)
  refine v_hget C.1 (v := va_rf (hR u1 p0 3)) 4 3 (eq_of_beq h3) (by decide) rfl in_X5 (by decide) (Or.inl q851) (fun _ h => h) (hF_r (ci := 4) (eq_of_beq h3) (by decide)) dX5_part_82 ?_
  refine v_deref (fun a4 e5 => ?_)
  refine v_chk (fun h8 => ?_)
  refine v_callVH C.1 [.ref a4] [] (ctX5_which t G l hl0 p0 a4 u1) (fun _ _ => cwX5_which C.1 q1162 (by have h9 := hrec.1; omega)) (recO C.1 (ci := 4) (eq_of_beq h8) (by decide) rfl) rfl rfl (by exact Nat.le_of_ble_eq_true rfl) dX5_part_85 (fun r7 u6 => ?_)
  refine v_istore_n C.1.1 [(2, .int r7), (0, .ref p0)] rfl (by decide) rfl dX5_part_88 ?_
  refine v_aload_n C.1.1 1 rfl rfl dX5_part_89 ?_
  refine v_iload_n C.1.1 0 rfl rfl dX5_part_90 ?_
  refine v_iconst C.1.1 (-1) (by decide) dX5_part_91 ?_
  refine v_icmp_eq C.1.1 99 (by decide) dX5_part_92 (fun _ => ?_) (fun _ => ?_)
  · refine v_iconst C.1.1 0 (by decide) dX5_part_99 ?_
    refine v_sub [1, 0] rfl ?_
    exact whX5_part_100 hl0 C fe hrec p0 p1 r7 p0 0 u6
  · refine v_iconst C.1.1 1 (by decide) dX5_part_95 ?_
    refine v_goto C.1.1 100 (by decide) dX5_part_96 ?_
    refine v_sub [1, 0] rfl ?_
    exact whX5_part_100 hl0 C fe hrec p0 p1 r7 p0 1 u6
def hX5_part (fe : Nat → Int32 → HS → Option (OH (PX Nat))) (p0 : Nat) (p1 : Int32) (u : HS) : Option (OH (PX Nat)) :=
  mchk (hC u p0 == 5) <|
  if (hI u p0 5) = 2 then
    mlet (hZ u) fun a2 =>
    addc 1 (cN 8) <|
    mlet (nO u 8) fun u4 =>
    mchk (hC u4 p0 == 5) <|
    hx (hX5_number p0 0 9999 u4) fun r6 u5 =>
    hb (hX9_init a2 r6 u5) fun _ u8 =>
    hret (.inl a2) u8
  else
    mchk (hC u p0 == 5) <|
    hb (hX5_isSign p0 40 u) fun r3 u2 =>
    if r3 = 0 then
      mchk (hC u2 p0 == 5) <|
      if (hI u2 p0 5) = 1 then
        hX5_part_76 fe p0 p1 p0 1 u2
      else
        hX5_part_76 fe p0 p1 p0 0 u2
    else
      mchk (hC u2 p0 == 5) <|
      hb (hX5_next p0 u2) fun _ u5 =>
      mchk (hC u5 p0 == 5) <|
      hx (fe p0 (p1 + 1) u5) fun r8 u7 =>
      mchk (hC u7 p0 == 5) <|
      hb (hX5_isSign p0 41 u7) fun r11 u10 =>
      mchk (hC u10 p0 == 5) <|
      hx (hX5_want p0 r11 1 u10) fun _ u13 =>
      mchk (hC u13 p0 == 5) <|
      hb (hX5_next p0 u13) fun _ u15 =>
      hret (.inl r8) u15
theorem ctX5_part (t : TT) (G : GH) (l : Launch) (hl0 : l.stackTraces = false) {ld : Nat} (fe : Nat → Int32 → HS → Option (OH (PX Nat))) (hrec : ExprC fe t G l ld) (p0 : Nat) (p1 : Int32) (u : HS) : CtX mkA t G l yX5_part cX5_part 3 (some (.object "WhiteBoard$Form")) (ld + 1) [.ref p0, .int p1] u (hX5_part fe p0 p1 u) := by
  refine ctX_of [(0, .ref p0), (1, .int p1)] hl0 rfl (Nat.le_of_ble_eq_true rfl) rfl (fun K1 K2 p e s m args below meth c C => ?_)
  unfold hX5_part
  refine v_aload_n C.1.1 0 rfl rfl dX5_part_0 ?_
  refine v_chk (fun h1 => ?_)
  refine v_hget C.1 (v := .int (hI u p0 5)) 4 5 (eq_of_beq h1) (by decide) rfl in_X5 (by decide) (Or.inl q853) (fun _ h => h) (hF_i (ci := 4) (eq_of_beq h1) (by decide)) dX5_part_1 ?_
  refine v_iconst C.1.1 2 (by decide) dX5_part_4 ?_
  refine v_icmp_ne C.1.1 24 (by decide) dX5_part_5 (fun _ => ?_) (fun _ => ?_)
  · refine v_letE (fun a2 e3 => ?_)
    refine v_hnew C.1 8 e3 (by decide) (by decide) rfl in_X9 tyX9 tyX9_ok df_X9 q1152 q1153 q149 dX5_part_8 (fun u4 => ?_)
    refine v_dup C.1.1 rfl dX5_part_11 ?_
    refine v_aload_n C.1.1 0 rfl rfl dX5_part_12 ?_
    refine v_iconst C.1.1 0 (by decide) dX5_part_13 ?_
    refine v_sipush C.1.1 9999 (by decide) dX5_part_14 ?_
    refine v_chk (fun h7 => ?_)
    refine v_callVX C [.int 0, .int 9999] [.ref a2, .ref a2] (ctX5_number t G l hl0 p0 0 9999 u4) (fun _ _ => cwX5_number C.1 q1036 (by have h9 := hrec.1; omega)) (recO C.1 (ci := 4) (eq_of_beq h7) (by decide) rfl) rfl rfl (by exact Nat.le_of_ble_eq_true rfl) dX5_part_17 (fun r6 u5 => ?_)
    refine v_callIH C.1 [.int r6] [.ref a2] (ctX9_init t G l hl0 a2 r6 u5) (fun _ _ => cwX9_init C.1 q1154 (by have h9 := hrec.1; omega)) rfl rfl (by exact Nat.le_of_ble_eq_true rfl) dX5_part_20 (fun _ u8 => ?_)
    exact v_xaret C.1 (Or.inl ⟨_, rfl⟩) dX5_part_23
  · refine v_aload_n C.1.1 0 rfl rfl dX5_part_24 ?_
    refine v_bipush C.1.1 40 (by decide) dX5_part_25 ?_
    refine v_chk (fun h4 => ?_)
    refine v_callVH C.1 [.int 40] [] (ctX5_isSign t G l hl0 p0 40 u) (fun _ _ => cwX5_isSign C.1 q1125 (by have h9 := hrec.1; omega)) (recO C.1 (ci := 4) (eq_of_beq h4) (by decide) rfl) rfl rfl (by exact Nat.le_of_ble_eq_true rfl) dX5_part_27 (fun r3 u2 => ?_)
    refine v_if_eq C.1.1 62 (by decide) dX5_part_30 (fun _ => ?_) (fun _ => ?_)
    · refine v_aload_n C.1.1 0 rfl rfl dX5_part_62 ?_
      refine v_aload_n C.1.1 0 rfl rfl dX5_part_63 ?_
      refine v_chk (fun h5 => ?_)
      refine v_hget C.1 (v := .int (hI u2 p0 5)) 4 5 (eq_of_beq h5) (by decide) rfl in_X5 (by decide) (Or.inl q853) (fun _ h => h) (hF_i (ci := 4) (eq_of_beq h5) (by decide)) dX5_part_64 ?_
      refine v_iconst C.1.1 1 (by decide) dX5_part_67 ?_
      refine v_icmp_ne C.1.1 75 (by decide) dX5_part_68 (fun _ => ?_) (fun _ => ?_)
      · refine v_iconst C.1.1 1 (by decide) dX5_part_71 ?_
        refine v_goto C.1.1 76 (by decide) dX5_part_72 ?_
        refine v_sub [0] rfl ?_
        exact whX5_part_76 hl0 C fe hrec p0 p1 p0 1 u2
      · refine v_iconst C.1.1 0 (by decide) dX5_part_75 ?_
        refine v_sub [0] rfl ?_
        exact whX5_part_76 hl0 C fe hrec p0 p1 p0 0 u2
    · refine v_aload_n C.1.1 0 rfl rfl dX5_part_33 ?_
      refine v_chk (fun h6 => ?_)
      refine v_callVH C.1 [] [] (ctX5_next t G l hl0 p0 u2) (fun _ _ => cwX5_next C.1 q890 (by have h9 := hrec.1; omega)) (recO C.1 (ci := 4) (eq_of_beq h6) (by decide) rfl) rfl rfl (by exact Nat.le_of_ble_eq_true rfl) dX5_part_34 (fun _ u5 => ?_)
      refine v_aload_n C.1.1 0 rfl rfl dX5_part_37 ?_
      refine v_iload_n C.1.1 1 rfl rfl dX5_part_38 ?_
      refine v_iconst C.1.1 1 (by decide) dX5_part_39 ?_
      refine v_iadd C.1.1 dX5_part_40 ?_
      refine v_chk (fun h9 => ?_)
      refine v_callVX C [.int (p1 + 1)] [] (hrec.2 p0 (p1 + 1) u5) (fun _ _ => cwX5_expression C.1 q1121 (by have h9 := hrec.1; omega)) (recO C.1 (ci := 4) (eq_of_beq h9) (by decide) rfl) rfl rfl (by exact Nat.le_of_ble_eq_true rfl) dX5_part_41 (fun r8 u7 => ?_)
      refine v_astore_n C.1.1 [(2, .ref r8), (0, .ref p0), (1, .int p1)] rfl (by decide) rfl dX5_part_44 ?_
      refine v_aload_n C.1.1 1 rfl rfl dX5_part_45 ?_
      refine v_aload_n C.1.1 1 rfl rfl dX5_part_46 ?_
      refine v_bipush C.1.1 41 (by decide) dX5_part_47 ?_
      refine v_chk (fun h12 => ?_)
      refine v_callVH C.1 [.int 41] [.ref p0] (ctX5_isSign t G l hl0 p0 41 u7) (fun _ _ => cwX5_isSign C.1 q1125 (by have h9 := hrec.1; omega)) (recO C.1 (ci := 4) (eq_of_beq h12) (by decide) rfl) rfl rfl (by exact Nat.le_of_ble_eq_true rfl) dX5_part_49 (fun r11 u10 => ?_)
      refine v_iconst C.1.1 1 (by decide) dX5_part_52 ?_
      refine v_chk (fun h14 => ?_)
      refine v_callVX C [.int r11, .int 1] [] (ctX5_want t G l hl0 p0 r11 1 u10) (fun _ _ => cwX5_want C.1 q1008 (by have h9 := hrec.1; omega)) (recO C.1 (ci := 4) (eq_of_beq h14) (by decide) rfl) rfl rfl (by exact Nat.le_of_ble_eq_true rfl) dX5_part_53 (fun _ u13 => ?_)
      refine v_aload_n C.1.1 1 rfl rfl dX5_part_56 ?_
      refine v_chk (fun h16 => ?_)
      refine v_callVH C.1 [] [] (ctX5_next t G l hl0 p0 u13) (fun _ _ => cwX5_next C.1 q890 (by have h9 := hrec.1; omega)) (recO C.1 (ci := 4) (eq_of_beq h16) (by decide) rfl) rfl rfl (by exact Nat.le_of_ble_eq_true rfl) dX5_part_57 (fun _ u15 => ?_)
      refine v_aload_n C.1.1 0 rfl rfl dX5_part_60 ?_
      exact v_xaret C.1 (Or.inl ⟨_, rfl⟩) dX5_part_61
theorem cwX5_part {t : TT} {G : GH} {l : Launch} {p : Program} {s : State} {m : MethodId} {args : Array Value} {meth : Method} {c : Code} {y0 : MethodName} {cc0 : ByteArray} {nL0 : Nat} {ret0 : Option FieldType} (C : CxH t G l p s m args meth c y0 cc0 nL0 ret0) {index lv mc ms K1 K2 lx : Nat} (hq : Cond.methodLink y0.cls index yX5_part ∈ lw_all) (hR : lx + 1 ≤ lv) : CallW (rmH lv K1 K2) s args y0.cls RX5 index yX5_part cX5_part 3 (some (.object "WhiteBoard$Form")) (ws_ yX5_part cX5_part 3 (some (.object "WhiteBoard$Form"))) (rmH lx mc ms) mc ms 1 :=
  cwV 1 C.1.2.2.2.2.1 (lw_V hq q1150 qs35 q132 q1151) rfl rfl rfl (by decide +kernel) ⟨hR, by show 8 + (3 + 11) + 100 * lx ≤ 100 * lv; omega⟩
def hJ18_init (p0 : Nat) (p1 : Int32) (u : HS) : Option (OH Unit) :=
  if (1 : Int32) = 0 then
    none
  else
    mchk (!(decide (p1 < 0)) && decide (p1.toNatClampNeg ≤ 60000000)) <|
    mlet (hZ u) fun a1 =>
    addc 1 (p1.toNatClampNeg) <|
    mlet (nA u 3 (p1.toNatClampNeg)) fun u3 =>
    mchk (hC u3 p0 == 13) <|
    mlet (uR u3 p0 0 (some a1)) fun u6 =>
    mchk (hC u6 p0 == 13) <|
    mlet (uI u6 p0 1 0) fun u8 =>
    hret () u8
theorem ctJ18_init (t : TT) (G : GH) (l : Launch) (hl0 : l.stackTraces = false) (p0 : Nat) (p1 : Int32) (u : HS) : CtH mkU t G l yJ18_init cJ18_init 2 none 2 [.ref p0, .int p1] u (hJ18_init p0 p1 u) := by
  refine ctH_of [(0, .ref p0), (1, .int p1)] hl0 rfl (Nat.le_of_ble_eq_true rfl) rfl (fun K1 K2 p e s m args below meth c C => ?_)
  unfold hJ18_init
  refine v_aload_n C.1 0 rfl rfl dJ18_init_0 ?_
  refine v_objInit C q1190 q161 q162 (by exact Nat.le_of_ble_eq_true rfl) (by exact Nat.le_of_ble_eq_true rfl) dJ18_init_1 ?_
  refine v_gets C C.2.1.comp q1191 (fun _ h => h) dJ18_init_4 ?_
  refine v_if_eq C.1 25 (by decide) dJ18_init_7 (fun _ => ?_) (fun _ => ?_)
  · refine v_aload_n C.1 0 rfl rfl dJ18_init_25 ?_
    refine v_iload_n C.1 1 rfl rfl dJ18_init_26 ?_
    exact v_none
  · refine v_aload_n C.1 0 rfl rfl dJ18_init_10 ?_
    refine v_iload_n C.1 1 rfl rfl dJ18_init_11 ?_
    refine v_chk (fun h4 => ?_)
    refine v_letE (fun a1 e2 => ?_)
    refine v_hnewa C 3 e2 (by decide) rfl q353 (nb_0 h4) rfl (nb_1 h4) dJ18_init_12 (fun u3 => ?_)
    refine v_chk (fun h5 => ?_)
    refine v_hputR C (some a1) 12 0 (eq_of_beq h5) (by decide) rfl in_J19 tyJ19 tyJ19_ok nmJ19 (by decide) (by decide) q1199 (fun _ h => h) (Or.inl rfl) rfl rfl dJ18_init_14 (fun u6 => ?_)
    refine v_aload_n C.1 0 rfl rfl dJ18_init_17 ?_
    refine v_iconst C.1 0 (by decide) dJ18_init_18 ?_
    refine v_chk (fun h7 => ?_)
    refine v_hputI C 12 1 (eq_of_beq h7) (by decide) rfl in_J19 tyJ19 tyJ19_ok nmJ19 (by decide) (by decide) q1200 (fun _ h => h) (Or.inl rfl) ⟨rfl, rfl⟩ dJ18_init_19 (fun u8 => ?_)
    refine v_goto C.1 38 (by decide) dJ18_init_22 ?_
    exact v_hvret C dJ18_init_38
theorem cwJ18_init {t : TT} {G : GH} {l : Launch} {p : Program} {s : State} {m : MethodId} {args : Array Value} {meth : Method} {c : Code} {y0 : MethodName} {cc0 : ByteArray} {nL0 : Nat} {ret0 : Option FieldType} (C : CxH t G l p s m args meth c y0 cc0 nL0 ret0) {index lv mc ms K1 K2 : Nat} (hq : Cond.methodLink y0.cls index yJ18_init ∈ lw_all) (hR : 2 + 1 ≤ lv) : CallB (rmH lv K1 K2) s args y0.cls index yJ18_init cJ18_init 2 none (ws_ yJ18_init cJ18_init 2 none) (rmH 2 mc ms) mc ms 1 ∧ yJ18_init.name = "<init>" ∧ (Cond.instanceMethod yJ18_init).before args s = true :=
  cwI 1 C.1.2.2.2.2.1 (lw_meth q1189) rfl rfl rfl (C.1.2.2.2.2.1 _ q151) (C.1.2.2.2.2.1 _ hq) (C.1.2.2.2.2.1 _ q1188) rfl (by decide +kernel) ⟨hR, by show 8 + (2 + 11) + 100 * 2 ≤ 100 * lv; omega⟩
def hJ19_init (p0 : Nat) (u : HS) : Option (OH Unit) :=
  hb (hJ18_init p0 16 u) fun _ u1 =>
  hret () u1
theorem ctJ19_init (t : TT) (G : GH) (l : Launch) (hl0 : l.stackTraces = false) (p0 : Nat) (u : HS) : CtH mkU t G l yJ19_init cJ19_init 1 none 3 [.ref p0] u (hJ19_init p0 u) := by
  refine ctH_of [(0, .ref p0)] hl0 rfl (Nat.le_of_ble_eq_true rfl) rfl (fun K1 K2 p e s m args below meth c C => ?_)
  unfold hJ19_init
  refine v_aload_n C.1 0 rfl rfl dJ19_init_0 ?_
  refine v_bipush C.1 16 (by decide) dJ19_init_1 ?_
  refine v_callIH C [.int 16] [] (ctJ18_init t G l hl0 p0 16 u) (fun _ _ => cwJ18_init C q1187 (by decide)) rfl rfl (by exact Nat.le_of_ble_eq_true rfl) dJ19_init_3 (fun _ u1 => ?_)
  exact v_hvret C dJ19_init_6
theorem cwJ19_init {t : TT} {G : GH} {l : Launch} {p : Program} {s : State} {m : MethodId} {args : Array Value} {meth : Method} {c : Code} {y0 : MethodName} {cc0 : ByteArray} {nL0 : Nat} {ret0 : Option FieldType} (C : CxH t G l p s m args meth c y0 cc0 nL0 ret0) {index lv mc ms K1 K2 : Nat} (hq : Cond.methodLink y0.cls index yJ19_init ∈ lw_all) (hR : 3 + 1 ≤ lv) : CallB (rmH lv K1 K2) s args y0.cls index yJ19_init cJ19_init 1 none (ws_ yJ19_init cJ19_init 1 none) (rmH 3 mc ms) mc ms 0 ∧ yJ19_init.name = "<init>" ∧ (Cond.instanceMethod yJ19_init).before args s = true :=
  cwI 0 C.1.2.2.2.2.1 (lw_meth q1186) rfl rfl rfl (C.1.2.2.2.2.1 _ q152) (C.1.2.2.2.2.1 _ hq) (C.1.2.2.2.2.1 _ q1185) rfl (by decide +kernel) ⟨hR, by show 8 + (1 + 11) + 100 * 3 ≤ 100 * lv; omega⟩
def hX8_init (p0 : Nat) (p1 : Nat) (u : HS) : Option (OH Unit) :=
  mlet (hZ u) fun a1 =>
  addc 1 (cN 11) <|
  mlet (nO u 11) fun u3 =>
  hb (hJ2_init a1 u3) fun _ u4 =>
  mchk (hC u4 p0 == 8) <|
  mlet (uR u4 p0 0 (some a1)) fun u6 =>
  mlet (hZ u6) fun a7 =>
  addc 1 (cN 12) <|
  mlet (nO u6 12) fun u9 =>
  hb (hJ19_init a7 u9) fun _ u10 =>
  mchk (hC u10 p0 == 8) <|
  mlet (uR u10 p0 1 (some a7)) fun u12 =>
  mchk (hC u12 p0 == 8) <|
  mderef (hR u12 p0 0) fun a14 =>
  mchk (hC u12 a14 == 12) <|
  hb (hJ2_add a14 p1 u12) fun r17 u16 =>
  hret () u16
theorem ctX8_init (t : TT) (G : GH) (l : Launch) (hl0 : l.stackTraces = false) (p0 : Nat) (p1 : Nat) (u : HS) : CtH mkU t G l yX8_init cX8_init 2 none 8 [.ref p0, .ref p1] u (hX8_init p0 p1 u) := by
  refine ctH_of [(0, .ref p0), (1, .ref p1)] hl0 rfl (Nat.le_of_ble_eq_true rfl) rfl (fun K1 K2 p e s m args below meth c C => ?_)
  unfold hX8_init
  refine v_aload_n C.1 0 rfl rfl dX8_init_0 ?_
  refine v_objInit C q1179 q161 q162 (by exact Nat.le_of_ble_eq_true rfl) (by exact Nat.le_of_ble_eq_true rfl) dX8_init_1 ?_
  refine v_aload_n C.1 0 rfl rfl dX8_init_4 ?_
  refine v_letE (fun a1 e2 => ?_)
  refine v_hnew C 11 e2 (by decide) (by decide) rfl in_J2 tyJ2 tyJ2_ok df_J2 q1180 q170 q125 dX8_init_5 (fun u3 => ?_)
  refine v_dup C.1 rfl dX8_init_8 ?_
  refine v_callIH C [] [.ref a1, .ref p0] (ctJ2_init t G l hl0 a1 u3) (fun _ _ => cwJ2_init C q1181 (by decide)) rfl rfl (by exact Nat.le_of_ble_eq_true rfl) dX8_init_9 (fun _ u4 => ?_)
  refine v_chk (fun h5 => ?_)
  refine v_hputR C (some a1) 7 0 (eq_of_beq h5) (by decide) rfl in_X8 tyX8 tyX8_ok nmX8 (by decide) (by decide) q1212 (fun _ h => h) (Or.inr ⟨rfl, rfl, rfl⟩) rfl rfl dX8_init_12 (fun u6 => ?_)
  refine v_aload_n C.1 0 rfl rfl dX8_init_15 ?_
  refine v_letE (fun a7 e8 => ?_)
  refine v_hnew C 12 e8 (by decide) (by decide) rfl in_J19 tyJ19 tyJ19_ok df_J19 q1182 q1183 q152 dX8_init_16 (fun u9 => ?_)
  refine v_dup C.1 rfl dX8_init_19 ?_
  refine v_callIH C [] [.ref a7, .ref p0] (ctJ19_init t G l hl0 a7 u9) (fun _ _ => cwJ19_init C q1184 (by decide)) rfl rfl (by exact Nat.le_of_ble_eq_true rfl) dX8_init_20 (fun _ u10 => ?_)
  refine v_chk (fun h11 => ?_)
  refine v_hputR C (some a7) 7 1 (eq_of_beq h11) (by decide) rfl in_X8 tyX8 tyX8_ok nmX8 (by decide) (by decide) q1213 (fun _ h => h) (Or.inr ⟨rfl, rfl, rfl⟩) rfl rfl dX8_init_23 (fun u12 => ?_)
  refine v_aload_n C.1 0 rfl rfl dX8_init_26 ?_
  refine v_chk (fun h13 => ?_)
  refine v_hget C (v := va_rf (hR u12 p0 0)) 7 0 (eq_of_beq h13) (by decide) rfl in_X8 (by decide) (Or.inl q1212) (fun _ h => h) (hF_r (ci := 7) (eq_of_beq h13) (by decide)) dX8_init_27 ?_
  refine v_deref (fun a14 e15 => ?_)
  refine v_aload_n C.1 1 rfl rfl dX8_init_30 ?_
  refine v_chk (fun h18 => ?_)
  refine v_callFH C [.ref p1] [] (ctJ2_add t G l hl0 a14 p1 u12) (fun _ _ => cwJ2_addF C q1211 (by decide)) (eq_of_beq h18) (by decide) rfl rfl rfl (by exact Nat.le_of_ble_eq_true rfl) dX8_init_31 (fun r17 u16 => ?_)
  refine v_pop C.1 rfl dX8_init_36 ?_
  exact v_hvret C dX8_init_37
theorem cwX8_init {t : TT} {G : GH} {l : Launch} {p : Program} {s : State} {m : MethodId} {args : Array Value} {meth : Method} {c : Code} {y0 : MethodName} {cc0 : ByteArray} {nL0 : Nat} {ret0 : Option FieldType} (C : CxH t G l p s m args meth c y0 cc0 nL0 ret0) {index lv mc ms K1 K2 : Nat} (hq : Cond.methodLink y0.cls index yX8_init ∈ lw_all) (hR : 8 + 1 ≤ lv) : CallB (rmH lv K1 K2) s args y0.cls index yX8_init cX8_init 2 none (ws_ yX8_init cX8_init 2 none) (rmH 8 mc ms) mc ms 1 ∧ yX8_init.name = "<init>" ∧ (Cond.instanceMethod yX8_init).before args s = true :=
  cwI 1 C.1.2.2.2.2.1 (lw_meth q1178) rfl rfl rfl (C.1.2.2.2.2.1 _ q148) (C.1.2.2.2.2.1 _ hq) (C.1.2.2.2.2.1 _ q1177) rfl (by decide +kernel) ⟨hR, by show 8 + (2 + 11) + 100 * 8 ≤ 100 * lv; omega⟩
def hX5_sign (p0 : Nat) (u : HS) : Option (OH Int32) :=
  mchk (hC u p0 == 5) <|
  mderef (hR u p0 11) fun a2 =>
  mchk (hC u a2 == 1) <|
  mderef (hR u a2 4) fun a5 =>
  mchk (hC u p0 == 5) <|
  mchk (inA u (hI u p0 6) a5 23) <|
  mlet ((Int32.toUInt32 (hA u a5 (hI u p0 6).toNatClampNeg) % 65536).toInt32) fun v9 =>
  mchk (hC u p0 == 5) <|
  hb (hX5_next p0 u) fun _ u10 =>
  mchk (isCh v9) <|
  hret v9 u10
theorem ctX5_sign (t : TT) (G : GH) (l : Launch) (hl0 : l.stackTraces = false) (p0 : Nat) (u : HS) : CtH mkI t G l yX5_sign cX5_sign 2 (some .char) 7 [.ref p0] u (hX5_sign p0 u) := by
  refine ctH_of [(0, .ref p0)] hl0 rfl (Nat.le_of_ble_eq_true rfl) rfl (fun K1 K2 p e s m args below meth c C => ?_)
  unfold hX5_sign
  refine v_aload_n C.1 0 rfl rfl dX5_sign_0 ?_
  refine v_chk (fun h1 => ?_)
  refine v_hget C (v := va_rf (hR u p0 11)) 4 11 (eq_of_beq h1) (by decide) rfl in_X5 (by decide) (Or.inl q860) (fun _ h => h) (hF_r (ci := 4) (eq_of_beq h1) (by decide)) dX5_sign_1 ?_
  refine v_deref (fun a2 e3 => ?_)
  refine v_chk (fun h4 => ?_)
  refine v_hget C (v := va_rf (hR u a2 4)) 0 4 (eq_of_beq h4) (by decide) rfl in_X1 (by decide) (Or.inr ⟨_, q313⟩) (fun _ h => h) (hF_r (ci := 0) (eq_of_beq h4) (by decide)) dX5_sign_4 ?_
  refine v_deref (fun a5 e6 => ?_)
  refine v_aload_n C.1 0 rfl rfl dX5_sign_7 ?_
  refine v_chk (fun h7 => ?_)
  refine v_hget C (v := .int (hI u p0 6)) 4 6 (eq_of_beq h7) (by decide) rfl in_X5 (by decide) (Or.inl q854) (fun _ h => h) (hF_i (ci := 4) (eq_of_beq h7) (by decide)) dX5_sign_8 ?_
  refine v_chk (fun h8 => ?_)
  refine v_habald C h8 dX5_sign_11 ?_
  refine v_i2c C.1 dX5_sign_12 ?_
  refine v_topi (fun v9 => ?_)
  refine v_istore_n C.1 [(1, .int v9), (0, .ref p0)] rfl (by decide) rfl dX5_sign_13 ?_
  refine v_aload_n C.1 1 rfl rfl dX5_sign_14 ?_
  refine v_chk (fun h11 => ?_)
  refine v_callVH C [] [] (ctX5_next t G l hl0 p0 u) (fun _ _ => cwX5_next C q890 (by decide)) (recO C (ci := 4) (eq_of_beq h11) (by decide) rfl) rfl rfl (by exact Nat.le_of_ble_eq_true rfl) dX5_sign_15 (fun _ u10 => ?_)
  refine v_iload_n C.1 0 rfl rfl dX5_sign_18 ?_
  refine v_chk (fun h12 => ?_)
  exact v_hcret C h12 dX5_sign_19
theorem cwX5_sign {t : TT} {G : GH} {l : Launch} {p : Program} {s : State} {m : MethodId} {args : Array Value} {meth : Method} {c : Code} {y0 : MethodName} {cc0 : ByteArray} {nL0 : Nat} {ret0 : Option FieldType} (C : CxH t G l p s m args meth c y0 cc0 nL0 ret0) {index lv mc ms K1 K2 : Nat} (hq : Cond.methodLink y0.cls index yX5_sign ∈ lw_all) (hR : 7 + 1 ≤ lv) : CallW (rmH lv K1 K2) s args y0.cls RX5 index yX5_sign cX5_sign 2 (some .char) (ws_ yX5_sign cX5_sign 2 (some .char)) (rmH 7 mc ms) mc ms 0 :=
  cwV 0 C.1.2.2.2.2.1 (lw_V hq q1221 qs37 q132 q1222) rfl rfl rfl (by decide +kernel) ⟨hR, by show 8 + (2 + 11) + 100 * 7 ≤ 100 * lv; omega⟩
def hJ18_newCapacity (p0 : Nat) (p1 : Int32) (u : HS) : Option (OH Int32) :=
  mchk (hC u p0 == 13) <|
  mderef (hR u p0 0) fun a2 =>
  mchk (hC u a2 == 23) <|
  mlet (Int32.ofNat (hN u a2)) fun v5 =>
  mchk (hC u p0 == 13) <|
  mlet (p1 <<< ((hI u p0 1) &&& 31)) fun v7 =>
  mlet (v7 - v5) fun v8 =>
  mchk (hC u p0 == 13) <|
  hb (hJ13_newLength v5 v8 (v5 + ((2 : Int32) <<< ((hI u p0 1) &&& 31))) u) fun r11 u10 =>
  if r11 = 2147483647 then
    none
  else
    mchk (hC u10 p0 == 13) <|
    hret (r11 >>> ((hI u10 p0 1) &&& 31)) u10
theorem ctJ18_newCapacity (t : TT) (G : GH) (l : Launch) (hl0 : l.stackTraces = false) (p0 : Nat) (p1 : Int32) (u : HS) : CtH mkI t G l yJ18_newCapacity cJ18_newCapacity 6 (some .int) 3 [.ref p0, .int p1] u (hJ18_newCapacity p0 p1 u) := by
  refine ctH_of [(0, .ref p0), (1, .int p1)] hl0 rfl (Nat.le_of_ble_eq_true rfl) rfl (fun K1 K2 p e s m args below meth c C => ?_)
  unfold hJ18_newCapacity
  refine v_aload_n C.1 0 rfl rfl dJ18_newCapacity_0 ?_
  refine v_chk (fun h1 => ?_)
  refine v_hget C (v := va_rf (hR u p0 0)) 12 0 (eq_of_beq h1) (by decide) rfl in_J19 (by decide) (Or.inl q1199) (fun _ h => h) (hF_r (ci := 12) (eq_of_beq h1) (by decide)) dJ18_newCapacity_1 ?_
  refine v_deref (fun a2 e3 => ?_)
  refine v_chk (fun h4 => ?_)
  refine v_halen C 3 (by decide) (eq_of_beq h4) dJ18_newCapacity_4 ?_
  refine v_topi (fun v5 => ?_)
  refine v_istore_n C.1 [(2, .int v5), (0, .ref p0), (1, .int p1)] rfl (by decide) rfl dJ18_newCapacity_5 ?_
  refine v_iload_n C.1 2 rfl rfl dJ18_newCapacity_6 ?_
  refine v_aload_n C.1 1 rfl rfl dJ18_newCapacity_7 ?_
  refine v_chk (fun h6 => ?_)
  refine v_hget C (v := .int (hI u p0 1)) 12 1 (eq_of_beq h6) (by decide) rfl in_J19 (by decide) (Or.inl q1200) (fun _ h => h) (hF_i (ci := 12) (eq_of_beq h6) (by decide)) dJ18_newCapacity_8 ?_
  refine v_ishl C.1 dJ18_newCapacity_11 ?_
  refine v_topi (fun v7 => ?_)
  refine v_istore_n C.1 [(3, .int v7), (2, .int v5), (0, .ref p0), (1, .int p1)] rfl (by decide) rfl dJ18_newCapacity_12 ?_
  refine v_iload_n C.1 0 rfl rfl dJ18_newCapacity_13 ?_
  refine v_iload_n C.1 1 rfl rfl dJ18_newCapacity_14 ?_
  refine v_isub C.1 dJ18_newCapacity_15 ?_
  refine v_topi (fun v8 => ?_)
  refine v_istore C.1 [(4, .int v8), (3, .int v7), (2, .int v5), (0, .ref p0), (1, .int p1)] (by decide) rfl dJ18_newCapacity_16 ?_
  refine v_iload_n C.1 2 rfl rfl dJ18_newCapacity_18 ?_
  refine v_iload C.1 0 rfl dJ18_newCapacity_19 ?_
  refine v_iload_n C.1 2 rfl rfl dJ18_newCapacity_21 ?_
  refine v_iconst C.1 2 (by decide) dJ18_newCapacity_22 ?_
  refine v_aload_n C.1 3 rfl rfl dJ18_newCapacity_23 ?_
  refine v_chk (fun h9 => ?_)
  refine v_hget C (v := .int (hI u p0 1)) 12 1 (eq_of_beq h9) (by decide) rfl in_J19 (by decide) (Or.inl q1200) (fun _ h => h) (hF_i (ci := 12) (eq_of_beq h9) (by decide)) dJ18_newCapacity_24 ?_
  refine v_ishl C.1 dJ18_newCapacity_27 ?_
  refine v_iadd C.1 dJ18_newCapacity_28 ?_
  refine v_callSH C [.int v5, .int v8, .int (v5 + ((2 : Int32) <<< ((hI u p0 1) &&& 31)))] [] (ctJ13_newLength t G l hl0 v5 v8 (v5 + ((2 : Int32) <<< ((hI u p0 1) &&& 31))) u) (fun _ _ => cwJ13_newLength C q1242 (by decide)) rfl rfl (by exact Nat.le_of_ble_eq_true rfl) dJ18_newCapacity_29 (fun r11 u10 => ?_)
  refine v_istore C.1 [(5, .int r11), (4, .int v8), (3, .int v7), (2, .int v5), (0, .ref p0), (1, .int p1)] (by decide) rfl dJ18_newCapacity_32 ?_
  refine v_iload C.1 0 rfl dJ18_newCapacity_34 ?_
  refine v_ldc C.1 q1243 dJ18_newCapacity_36 ?_
  refine v_icmp_ne C.1 51 (by decide) dJ18_newCapacity_38 (fun _ => ?_) (fun _ => ?_)
  · exact v_none
  · refine v_iload C.1 0 rfl dJ18_newCapacity_51 ?_
    refine v_aload_n C.1 4 rfl rfl dJ18_newCapacity_53 ?_
    refine v_chk (fun h12 => ?_)
    refine v_hget C (v := .int (hI u10 p0 1)) 12 1 (eq_of_beq h12) (by decide) rfl in_J19 (by decide) (Or.inl q1200) (fun _ h => h) (hF_i (ci := 12) (eq_of_beq h12) (by decide)) dJ18_newCapacity_54 ?_
    refine v_ishr C.1 dJ18_newCapacity_57 ?_
    exact v_hiret C dJ18_newCapacity_58
theorem cwJ18_newCapacityU {t : TT} {G : GH} {l : Launch} {p : Program} {s : State} {m : MethodId} {args : Array Value} {meth : Method} {c : Code} {y0 : MethodName} {cc0 : ByteArray} {nL0 : Nat} {ret0 : Option FieldType} (C : CxH t G l p s m args meth c y0 cc0 nL0 ret0) {index lv mc ms K1 K2 : Nat} (hq : Cond.methodLink y0.cls index yJ18_newCapacity ∈ lw_all) (hR : 3 + 1 ≤ lv) : va_CU (rmH lv K1 K2) s args y0.cls RJ19 RJ18 index yJ18_newCapacity yJ18_newCapacity cJ18_newCapacity 6 (some .int) (ws_ yJ18_newCapacity cJ18_newCapacity 6 (some .int)) (rmH 3 mc ms) mc ms 1 :=
  cwUP 1 C.1.2.2.2.2.1 hq q2354 (sel_priv (C.1.2.2.2.2.1 _ q1257) rfl (C.1.2.2.2.2.1 _ q1240) (tbl_at C q1239 rfl)) q1240 q151 q1241 rfl rfl rfl rfl (by decide +kernel) ⟨hR, by show 8 + (6 + 11) + 100 * 3 ≤ 100 * lv; omega⟩
def hJ14_copyOf_3 (p0 : Nat) (p1 : Int32) (u : HS) : Option (OH Nat) :=
  mchk (hC u p0 == 23) <|
  if p1 = (Int32.ofNat (hN u p0)) then
    none
  else
    mchk (!(decide (p1 < 0)) && decide (p1.toNatClampNeg ≤ 60000000)) <|
    mlet (hZ u) fun a2 =>
    addc 1 (p1.toNatClampNeg) <|
    mlet (nA u 3 (p1.toNatClampNeg)) fun u4 =>
    mchk (hC u4 p0 == 23) <|
    mchk (cpB u4 p0 0 a2 0 (iMin (Int32.ofNat (hN u4 p0)) p1)) <|
    mlet (uAr u4 a2 (va_cpy (hA u4 p0) (hA u4 a2) (0 : Int32).toNatClampNeg (0 : Int32).toNatClampNeg (iMin (Int32.ofNat (hN u4 p0)) p1).toNatClampNeg)) fun u7 =>
    hret a2 u7
theorem ctJ14_copyOf_3 (t : TT) (G : GH) (l : Launch) (hl0 : l.stackTraces = false) (p0 : Nat) (p1 : Int32) (u : HS) : CtH mkA t G l yJ14_copyOf_3 cJ14_copyOf_3 3 (some (.array .byte)) 2 [.ref p0, .int p1] u (hJ14_copyOf_3 p0 p1 u) := by
  refine ctH_of [(0, .ref p0), (1, .int p1)] hl0 rfl (Nat.le_of_ble_eq_true rfl) rfl (fun K1 K2 p e s m args below meth c C => ?_)
  unfold hJ14_copyOf_3
  refine v_iload_n C.1 1 rfl rfl dJ14_copyOf_3_0 ?_
  refine v_aload_n C.1 0 rfl rfl dJ14_copyOf_3_1 ?_
  refine v_chk (fun h1 => ?_)
  refine v_halen C 3 (by decide) (eq_of_beq h1) dJ14_copyOf_3_2 ?_
  refine v_icmp_ne C.1 14 (by decide) dJ14_copyOf_3_3 (fun _ => ?_) (fun _ => ?_)
  · refine v_aload_n C.1 0 rfl rfl dJ14_copyOf_3_6 ?_
    exact v_none
  · refine v_iload_n C.1 1 rfl rfl dJ14_copyOf_3_14 ?_
    refine v_chk (fun h5 => ?_)
    refine v_letE (fun a2 e3 => ?_)
    refine v_hnewa C 3 e3 (by decide) rfl q353 (nb_0 h5) rfl (nb_1 h5) dJ14_copyOf_3_15 (fun u4 => ?_)
    refine v_astore_n C.1 [(2, .ref a2), (0, .ref p0), (1, .int p1)] rfl (by decide) rfl dJ14_copyOf_3_17 ?_
    refine v_aload_n C.1 1 rfl rfl dJ14_copyOf_3_18 ?_
    refine v_iconst C.1 0 (by decide) dJ14_copyOf_3_19 ?_
    refine v_aload_n C.1 0 rfl rfl dJ14_copyOf_3_20 ?_
    refine v_iconst C.1 0 (by decide) dJ14_copyOf_3_21 ?_
    refine v_aload_n C.1 1 rfl rfl dJ14_copyOf_3_22 ?_
    refine v_chk (fun h6 => ?_)
    refine v_halen C 3 (by decide) (eq_of_beq h6) dJ14_copyOf_3_23 ?_
    refine v_iload_n C.1 2 rfl rfl dJ14_copyOf_3_24 ?_
    refine v_mmin C q444 q445 q133 q446 (by exact Nat.le_of_ble_eq_true rfl) (by exact Nat.le_of_ble_eq_true rfl) dJ14_copyOf_3_25 ?_
    refine v_hcopyB C q447 q449 q448 q142 (by exact Nat.le_of_ble_eq_true rfl) (by exact Nat.le_of_ble_eq_true rfl) dJ14_copyOf_3_28 (fun u7 => ?_)
    refine v_aload_n C.1 0 rfl rfl dJ14_copyOf_3_31 ?_
    exact v_haret C (Or.inr ⟨_, rfl⟩) dJ14_copyOf_3_32
theorem cwJ14_copyOf_3 {t : TT} {G : GH} {l : Launch} {p : Program} {s : State} {m : MethodId} {args : Array Value} {meth : Method} {c : Code} {y0 : MethodName} {cc0 : ByteArray} {nL0 : Nat} {ret0 : Option FieldType} (C : CxH t G l p s m args meth c y0 cc0 nL0 ret0) {index lv mc ms K1 K2 : Nat} (hq : Cond.methodLink y0.cls index yJ14_copyOf_3 ∈ lw_all) (hR : 2 + 1 ≤ lv) : CallB (rmH lv K1 K2) s args y0.cls index yJ14_copyOf_3 cJ14_copyOf_3 3 (some (.array .byte)) (ws_ yJ14_copyOf_3 cJ14_copyOf_3 3 (some (.array .byte))) (rmH 2 mc ms) mc ms 2 ∧ (Cond.static yJ14_copyOf_3).before args s = true :=
  ⟨callB_of 2 C.1.2.2.2.2.1 (lw_meth q1246) rfl rfl rfl (C.1.2.2.2.2.1 _ q141) (C.1.2.2.2.2.1 _ hq) (by decide +kernel) ⟨hR, by show 8 + (3 + 11) + 100 * 2 ≤ 100 * lv; omega⟩, C.1.2.2.2.2.1 _ q1245⟩
end
