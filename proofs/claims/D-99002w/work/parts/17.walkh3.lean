/-! walks in mode H, printed by tools/genh.py -/
set_option maxRecDepth 100000
section
variable {t : TT} {G : GH} {l : Launch}
def hX3_write (p0 : Nat) (p1 : Int32) (p2 : Int32) (u : HS) : Option (OH Unit) :=
  mchk (hC u p0 == 3) <|
  mderef (hR u p0 0) fun a2 =>
  mchk (hC u p0 == 3) <|
  mchk (inA u p1 a2 21) <|
  mlet (uA u a2 p1.toNatClampNeg (hI u p0 6)) fun u5 =>
  mchk (hC u5 p0 == 3) <|
  mderef (hR u5 p0 1) fun a8 =>
  mchk (inA u5 p1 a8 21) <|
  mlet (uA u5 a8 p1.toNatClampNeg p2) fun u10 =>
  hret () u10
theorem ctX3_write (t : TT) (G : GH) (l : Launch) (hl0 : l.stackTraces = false) (p0 : Nat) (p1 : Int32) (p2 : Int32) (u : HS) : CtH mkU t G l yX3_write cX3_write 3 none 2 [.ref p0, .int p1, .int p2] u (hX3_write p0 p1 p2 u) := by
  refine ctH_of [(0, .ref p0), (1, .int p1), (2, .int p2)] hl0 rfl (Nat.le_of_ble_eq_true rfl) rfl (fun K1 K2 p e s m args below meth c C => ?_)
  unfold hX3_write
  refine v_aload_n C.1 0 rfl rfl dX3_write_0 ?_
  refine v_chk (fun h1 => ?_)
  refine v_hget C (v := va_rf (hR u p0 0)) 2 0 (eq_of_beq h1) (by decide) rfl in_X3 (by decide) (Or.inl q254) (fun _ h => h) (hF_r (ci := 2) (eq_of_beq h1) (by decide)) dX3_write_1 ?_
  refine v_deref (fun a2 e3 => ?_)
  refine v_iload_n C.1 1 rfl rfl dX3_write_4 ?_
  refine v_aload_n C.1 0 rfl rfl dX3_write_5 ?_
  refine v_chk (fun h4 => ?_)
  refine v_hget C (v := .int (hI u p0 6)) 2 6 (eq_of_beq h4) (by decide) rfl in_X3 (by decide) (Or.inl q268) (fun _ h => h) (hF_i (ci := 2) (eq_of_beq h4) (by decide)) dX3_write_6 ?_
  refine v_chk (fun h6 => ?_)
  refine v_haiast C h6 dX3_write_9 (fun u5 => ?_)
  refine v_aload_n C.1 0 rfl rfl dX3_write_10 ?_
  refine v_chk (fun h7 => ?_)
  refine v_hget C (v := va_rf (hR u5 p0 1)) 2 1 (eq_of_beq h7) (by decide) rfl in_X3 (by decide) (Or.inl q256) (fun _ h => h) (hF_r (ci := 2) (eq_of_beq h7) (by decide)) dX3_write_11 ?_
  refine v_deref (fun a8 e9 => ?_)
  refine v_iload_n C.1 1 rfl rfl dX3_write_14 ?_
  refine v_iload_n C.1 2 rfl rfl dX3_write_15 ?_
  refine v_chk (fun h11 => ?_)
  refine v_haiast C h11 dX3_write_16 (fun u10 => ?_)
  exact v_hvret C dX3_write_17
theorem cwX3_write {t : TT} {G : GH} {l : Launch} {p : Program} {s : State} {m : MethodId} {args : Array Value} {meth : Method} {c : Code} {y0 : MethodName} {cc0 : ByteArray} {nL0 : Nat} {ret0 : Option FieldType} (C : CxH t G l p s m args meth c y0 cc0 nL0 ret0) {index lv mc ms K1 K2 : Nat} (hq : Cond.methodLink y0.cls index yX3_write ∈ lw_all) (hR : 2 + 1 ≤ lv) : CallW (rmH lv K1 K2) s args y0.cls RX3 index yX3_write cX3_write 3 none (ws_ yX3_write cX3_write 3 none) (rmH 2 mc ms) mc ms 2 :=
  cwV 2 C.1.2.2.2.2.1 (lw_V hq q608 q609 q126 q610) rfl rfl rfl (by decide +kernel) ⟨hR, by show 8 + (3 + 11) + 100 * 2 ≤ 100 * lv; omega⟩
def hJ16_valueOf (p0 : Int32) (u : HS) : Option (OH Nat) :=
  if p0 < (-128) then
    none
  else
    if 127 < p0 then
      none
    else
      mlet (hK u 2) fun a1 =>
      mchk (a1 == hK u 2 && inb (p0 + 128) 256) <|
      hret (hK u (100 + (p0 + 128).toNatClampNeg)) u
theorem ctJ16_valueOf (t : TT) (G : GH) (l : Launch) (hl0 : l.stackTraces = false) (p0 : Int32) (u : HS) : CtH mkA t G l yJ16_valueOf cJ16_valueOf 1 (some (.object "java/lang/Integer")) 2 [.int p0] u (hJ16_valueOf p0 u) := by
  refine ctH_of [(0, .int p0)] hl0 rfl (Nat.le_of_ble_eq_true rfl) rfl (fun K1 K2 p e s m args below meth c C => ?_)
  unfold hJ16_valueOf
  refine v_iload_n C.1 0 rfl rfl dJ16_valueOf_0 ?_
  refine v_bipush C.1 (-128) (by decide) dJ16_valueOf_1 ?_
  refine v_icmp_lt C.1 23 (by decide) dJ16_valueOf_3 (fun _ => ?_) (fun _ => ?_)
  · exact v_none
  · refine v_iload_n C.1 0 rfl rfl dJ16_valueOf_6 ?_
    refine v_gets C C.2.1.high q614 (fun _ h => h) dJ16_valueOf_7 ?_
    refine v_icmp_gt C.1 23 (by decide) dJ16_valueOf_10 (fun _ => ?_) (fun _ => ?_)
    · exact v_none
    · refine v_K (fun ek3 _ => ?_)
      refine v_letE (fun a1 e2 => ?_)
      refine v_gets C (v := .ref a1) (by rw [e2, ek3]; exact C.2.1.cache) q616 (fun _ h => h) dJ16_valueOf_13 ?_
      refine v_iload_n C.1 0 rfl rfl dJ16_valueOf_16 ?_
      refine v_sipush C.1 128 (by decide) dJ16_valueOf_17 ?_
      refine v_iadd C.1 dJ16_valueOf_20 ?_
      refine v_chk (fun h4 => ?_)
      refine v_caald2 C h4 dJ16_valueOf_21 ?_
      exact v_haret C (Or.inl ⟨_, rfl⟩) dJ16_valueOf_22
theorem cwJ16_valueOf {t : TT} {G : GH} {l : Launch} {p : Program} {s : State} {m : MethodId} {args : Array Value} {meth : Method} {c : Code} {y0 : MethodName} {cc0 : ByteArray} {nL0 : Nat} {ret0 : Option FieldType} (C : CxH t G l p s m args meth c y0 cc0 nL0 ret0) {index lv mc ms K1 K2 : Nat} (hq : Cond.methodLink y0.cls index yJ16_valueOf ∈ lw_all) (hR : 2 + 1 ≤ lv) : CallB (rmH lv K1 K2) s args y0.cls index yJ16_valueOf cJ16_valueOf 1 (some (.object "java/lang/Integer")) (ws_ yJ16_valueOf cJ16_valueOf 1 (some (.object "java/lang/Integer"))) (rmH 2 mc ms) mc ms 1 ∧ (Cond.static yJ16_valueOf).before args s = true :=
  ⟨callB_of 1 C.1.2.2.2.2.1 (lw_meth q613) rfl rfl rfl (C.1.2.2.2.2.1 _ q144) (C.1.2.2.2.2.1 _ hq) (by decide +kernel) ⟨hR, by show 8 + (1 + 11) + 100 * 2 ≤ 100 * lv; omega⟩, C.1.2.2.2.2.1 _ q612⟩
def hX3_writes_54 (p0 : Nat) (p1 : Int32) (k7 : Int32 → Int32 → Int32 → HS → Option (OH Unit)) (x2 : Int32) (x3 : Int32) (x4 : Int32) (s0 : Int32) (u : HS) : Option (OH Unit) :=
  if x3 < s0 then
    k7 x4 s0 (x4 + 1) u
  else
    k7 x2 x3 (x4 + 1) u
theorem whX3_writes_54 {K1 K2 : Nat} {p : Program} {e : Env} {s : State} {m : MethodId} {args : Array Value} {below : List Frame} {meth : Method} {c : Code} (hl0 : l.stackTraces = false) (C : CxH t G l p s m args meth c yX3_writes cX3_writes 6 none) (p0 : Nat) (p1 : Int32) (k7 : Int32 → Int32 → Int32 → HS → Option (OH Unit)) (hk7 : ∀ (x2 : Int32) (x3 : Int32) (x4 : Int32) (u : HS), VH mkU t G p l e 421 K1 K2 s m args below meth c 6 7 [(0, .ref p0), (1, .int p1), (2, .int x2), (3, .int x3), (4, .int x4)] [] u (k7 x2 x3 x4 u)) (x2 : Int32) (x3 : Int32) (x4 : Int32) (s0 : Int32) (u : HS) : VH mkU t G p l e 421 K1 K2 s m args below meth c 6 54 [(0, .ref p0), (1, .int p1), (2, .int x2), (3, .int x3), (4, .int x4)] [.int s0] u (hX3_writes_54 p0 p1 k7 x2 x3 x4 s0 u) := by
  unfold hX3_writes_54
  refine v_istore C.1 [(5, .int s0), (0, .ref p0), (1, .int p1), (2, .int x2), (3, .int x3), (4, .int x4)] (by decide) rfl dX3_writes_54 ?_
  refine v_iload C.1 0 rfl dX3_writes_56 ?_
  refine v_iload_n C.1 4 rfl rfl dX3_writes_58 ?_
  refine v_icmp_gt C.1 65 (by decide) dX3_writes_59 (fun _ => ?_) (fun _ => ?_)
  · refine v_iload C.1 5 rfl dX3_writes_65 ?_
    refine v_istore_n C.1 [(2, .int x4), (5, .int s0), (0, .ref p0), (1, .int p1), (3, .int x3), (4, .int x4)] rfl (by decide) rfl dX3_writes_67 ?_
    refine v_iload C.1 1 rfl dX3_writes_68 ?_
    refine v_istore_n C.1 [(3, .int s0), (2, .int x4), (5, .int s0), (0, .ref p0), (1, .int p1), (4, .int x4)] rfl (by decide) rfl dX3_writes_70 ?_
    refine v_iinc C.1 1 [(4, .int (x4 + 1)), (3, .int s0), (2, .int x4), (5, .int s0), (0, .ref p0), (1, .int p1)] 5 rfl (by decide) (by decide) rfl dX3_writes_71 ?_
    refine v_goto C.1 7 (by decide) dX3_writes_74 ?_
    refine v_sub [4, 5, 2, 1, 0] rfl ?_
    exact hk7 x4 s0 (x4 + 1) u
  · refine v_goto C.1 71 (by decide) dX3_writes_62 ?_
    refine v_iinc C.1 1 [(4, .int (x4 + 1)), (5, .int s0), (0, .ref p0), (1, .int p1), (2, .int x2), (3, .int x3)] 5 rfl (by decide) (by decide) rfl dX3_writes_71 ?_
    refine v_goto C.1 7 (by decide) dX3_writes_74 ?_
    refine v_sub [2, 3, 4, 5, 0] rfl ?_
    exact hk7 x2 x3 (x4 + 1) u
def hX3_writes_7 (p0 : Nat) (p1 : Int32) (k : Int32 → Int32 → Int32 → HS → Option (OH Unit)) (x2 : Int32) (x3 : Int32) (x4 : Int32) (u : HS) : Option (OH Unit) :=
  mchk (hC u p0 == 3) <|
  mderef (hR u p0 11) fun a2 =>
  mchk (hC u a2 == 1) <|
  mderef (hR u a2 2) fun a5 =>
  mchk (hC u a5 == 2) <|
  hb (hX2_people a5 u) fun r8 u7 =>
  if r8 ≤ x4 then
    if x2 = (-1) then
      hret () u7
    else
      mchk (hC u7 p0 == 3) <|
      hb (hX3_write p0 x2 p1 u7) fun _ u10 =>
      mchk (hC u10 p0 == 3) <|
      mderef (hR u10 p0 5) fun a13 =>
      hb (hJ16_valueOf x2 u10) fun r16 u15 =>
      mchk (hC u15 a13 == 12) <|
      hb (hJ2_add a13 r16 u15) fun r18 u17 =>
      hret () u17
  else
    mchk (hC u7 p0 == 3) <|
    hb (hX3_isListed p0 x4 u7) fun r11 u10 =>
    if r11 = 0 then
      mchk (hC u10 p0 == 3) <|
      mderef (hR u10 p0 11) fun a14 =>
      mchk (hC u10 a14 == 1) <|
      if x4 = (hI u10 a14 1) then
        hX3_writes_54 p0 p1 k x2 x3 x4 0 u10
      else
        mchk (hC u10 p0 == 3) <|
        hb (hX3_grudge p0 p1 x4 u10) fun r18 u17 =>
        hX3_writes_54 p0 p1 k x2 x3 x4 r18 u17
    else
      hX3_writes_54 p0 p1 k x2 x3 x4 0 u10
theorem whX3_writes_7 {K1 K2 : Nat} {p : Program} {e : Env} {s : State} {m : MethodId} {args : Array Value} {below : List Frame} {meth : Method} {c : Code} (hl0 : l.stackTraces = false) (C : CxH t G l p s m args meth c yX3_writes cX3_writes 6 none) (p0 : Nat) (p1 : Int32) (n : Nat) (x2 : Int32) (x3 : Int32) (x4 : Int32) (u : HS) : VH mkU t G p l e 421 K1 K2 s m args below meth c 6 7 [(0, .ref p0), (1, .int p1), (2, .int x2), (3, .int x3), (4, .int x4)] [] u (ml3 (hX3_writes_7 p0 p1) n x2 x3 x4 u) := by
  refine vl3 (L := fun x2 x3 x4 => [(0, .ref p0), (1, .int p1), (2, .int x2), (3, .int x3), (4, .int x4)]) (fun k hk x2 x3 x4 u => ?_) n x2 x3 x4 u
  unfold hX3_writes_7
  refine v_iload C.1 4 rfl dX3_writes_7 ?_
  refine v_aload_n C.1 0 rfl rfl dX3_writes_9 ?_
  refine v_chk (fun h1 => ?_)
  refine v_hget C (v := va_rf (hR u p0 11)) 2 11 (eq_of_beq h1) (by decide) rfl in_X3 (by decide) (Or.inl q278) (fun _ h => h) (hF_r (ci := 2) (eq_of_beq h1) (by decide)) dX3_writes_10 ?_
  refine v_deref (fun a2 e3 => ?_)
  refine v_chk (fun h4 => ?_)
  refine v_hget C (v := va_rf (hR u a2 2)) 0 2 (eq_of_beq h4) (by decide) rfl in_X1 (by decide) (Or.inr ⟨_, q310⟩) (fun _ h => h) (hF_r (ci := 0) (eq_of_beq h4) (by decide)) dX3_writes_13 ?_
  refine v_deref (fun a5 e6 => ?_)
  refine v_chk (fun h9 => ?_)
  refine v_callVH C [] [.int x4] (ctX2_people t G l hl0 a5 u) (fun _ _ => cwX2_people C q498 (by decide)) (recO C (ci := 1) (eq_of_beq h9) (by decide) rfl) rfl rfl (by exact Nat.le_of_ble_eq_true rfl) dX3_writes_16 (fun r8 u7 => ?_)
  refine v_icmp_ge C.1 77 (by decide) dX3_writes_19 (fun _ => ?_) (fun _ => ?_)
  · refine v_iload_n C.1 2 rfl rfl dX3_writes_77 ?_
    refine v_iconst C.1 (-1) (by decide) dX3_writes_78 ?_
    refine v_icmp_ne C.1 83 (by decide) dX3_writes_79 (fun _ => ?_) (fun _ => ?_)
    · exact v_hvret C dX3_writes_82
    · refine v_aload_n C.1 0 rfl rfl dX3_writes_83 ?_
      refine v_iload_n C.1 2 rfl rfl dX3_writes_84 ?_
      refine v_iload_n C.1 1 rfl rfl dX3_writes_85 ?_
      refine v_chk (fun h11 => ?_)
      refine v_callVH C [.int x2, .int p1] [] (ctX3_write t G l hl0 p0 x2 p1 u7) (fun _ _ => cwX3_write C q607 (by decide)) (recO C (ci := 2) (eq_of_beq h11) (by decide) rfl) rfl rfl (by exact Nat.le_of_ble_eq_true rfl) dX3_writes_86 (fun _ u10 => ?_)
      refine v_aload_n C.1 0 rfl rfl dX3_writes_89 ?_
      refine v_chk (fun h12 => ?_)
      refine v_hget C (v := va_rf (hR u10 p0 5)) 2 5 (eq_of_beq h12) (by decide) rfl in_X3 (by decide) (Or.inl q266) (fun _ h => h) (hF_r (ci := 2) (eq_of_beq h12) (by decide)) dX3_writes_90 ?_
      refine v_deref (fun a13 e14 => ?_)
      refine v_iload_n C.1 2 rfl rfl dX3_writes_93 ?_
      refine v_callSH C [.int x2] [.ref a13] (ctJ16_valueOf t G l hl0 x2 u10) (fun _ _ => cwJ16_valueOf C q611 (by decide)) rfl rfl (by exact Nat.le_of_ble_eq_true rfl) dX3_writes_94 (fun r16 u15 => ?_)
      refine v_chk (fun h19 => ?_)
      refine v_callFH C [.ref r16] [] (ctJ2_add t G l hl0 a13 r16 u15) (fun _ _ => cwJ2_addF C q632 (by decide)) (eq_of_beq h19) (by decide) rfl rfl rfl (by exact Nat.le_of_ble_eq_true rfl) dX3_writes_97 (fun r18 u17 => ?_)
      refine v_pop C.1 rfl dX3_writes_102 ?_
      exact v_hvret C dX3_writes_103
  · refine v_aload_n C.1 0 rfl rfl dX3_writes_22 ?_
    refine v_iload C.1 4 rfl dX3_writes_23 ?_
    refine v_chk (fun h12 => ?_)
    refine v_callVH C [.int x4] [] (ctX3_isListed t G l hl0 p0 x4 u7) (fun _ _ => cwX3_isListed C q504 (by decide)) (recO C (ci := 2) (eq_of_beq h12) (by decide) rfl) rfl rfl (by exact Nat.le_of_ble_eq_true rfl) dX3_writes_25 (fun r11 u10 => ?_)
    refine v_if_ne C.1 43 (by decide) dX3_writes_28 (fun _ => ?_) (fun _ => ?_)
    · refine v_iload C.1 4 rfl dX3_writes_31 ?_
      refine v_aload_n C.1 0 rfl rfl dX3_writes_33 ?_
      refine v_chk (fun h13 => ?_)
      refine v_hget C (v := va_rf (hR u10 p0 11)) 2 11 (eq_of_beq h13) (by decide) rfl in_X3 (by decide) (Or.inl q278) (fun _ h => h) (hF_r (ci := 2) (eq_of_beq h13) (by decide)) dX3_writes_34 ?_
      refine v_deref (fun a14 e15 => ?_)
      refine v_chk (fun h16 => ?_)
      refine v_hget C (v := .int (hI u10 a14 1)) 0 1 (eq_of_beq h16) (by decide) rfl in_X1 (by decide) (Or.inr ⟨_, q309⟩) (fun _ h => h) (hF_i (ci := 0) (eq_of_beq h16) (by decide)) dX3_writes_37 ?_
      refine v_icmp_ne C.1 47 (by decide) dX3_writes_40 (fun _ => ?_) (fun _ => ?_)
      · refine v_iconst C.1 0 (by decide) dX3_writes_43 ?_
        refine v_goto C.1 54 (by decide) dX3_writes_44 ?_
        exact whX3_writes_54 hl0 C p0 p1 k hk x2 x3 x4 0 u10
      · refine v_aload_n C.1 0 rfl rfl dX3_writes_47 ?_
        refine v_iload_n C.1 1 rfl rfl dX3_writes_48 ?_
        refine v_iload C.1 4 rfl dX3_writes_49 ?_
        refine v_chk (fun h19 => ?_)
        refine v_callVH C [.int p1, .int x4] [] (ctX3_grudge t G l hl0 p0 p1 x4 u10) (fun _ _ => cwX3_grudge C q508 (by decide)) (recO C (ci := 2) (eq_of_beq h19) (by decide) rfl) rfl rfl (by exact Nat.le_of_ble_eq_true rfl) dX3_writes_51 (fun r18 u17 => ?_)
        exact whX3_writes_54 hl0 C p0 p1 k hk x2 x3 x4 r18 u17
    · refine v_iconst C.1 0 (by decide) dX3_writes_43 ?_
      refine v_goto C.1 54 (by decide) dX3_writes_44 ?_
      exact whX3_writes_54 hl0 C p0 p1 k hk x2 x3 x4 0 u10
def hX3_writes (p0 : Nat) (p1 : Int32) (u : HS) : Option (OH Unit) :=
  ml3 (hX3_writes_7 p0 p1) FUEL (-1) 0 0 u
theorem ctX3_writes (t : TT) (G : GH) (l : Launch) (hl0 : l.stackTraces = false) (p0 : Nat) (p1 : Int32) (u : HS) : CtH mkU t G l yX3_writes cX3_writes 6 none 421 [.ref p0, .int p1] u (hX3_writes p0 p1 u) := by
  refine ctH_of [(0, .ref p0), (1, .int p1)] hl0 rfl (Nat.le_of_ble_eq_true rfl) rfl (fun K1 K2 p e s m args below meth c C => ?_)
  unfold hX3_writes
  refine v_iconst C.1 (-1) (by decide) dX3_writes_0 ?_
  refine v_istore_n C.1 [(2, .int (-1)), (0, .ref p0), (1, .int p1)] rfl (by decide) rfl dX3_writes_1 ?_
  refine v_iconst C.1 0 (by decide) dX3_writes_2 ?_
  refine v_istore_n C.1 [(3, .int 0), (2, .int (-1)), (0, .ref p0), (1, .int p1)] rfl (by decide) rfl dX3_writes_3 ?_
  refine v_iconst C.1 0 (by decide) dX3_writes_4 ?_
  refine v_istore C.1 [(4, .int 0), (3, .int 0), (2, .int (-1)), (0, .ref p0), (1, .int p1)] (by decide) rfl dX3_writes_5 ?_
  refine v_sub [3, 4, 2, 1, 0] rfl ?_
  exact whX3_writes_7 hl0 C p0 p1 FUEL (-1) 0 0 u
theorem cwX3_writes {t : TT} {G : GH} {l : Launch} {p : Program} {s : State} {m : MethodId} {args : Array Value} {meth : Method} {c : Code} {y0 : MethodName} {cc0 : ByteArray} {nL0 : Nat} {ret0 : Option FieldType} (C : CxH t G l p s m args meth c y0 cc0 nL0 ret0) {index lv mc ms K1 K2 : Nat} (hq : Cond.methodLink y0.cls index yX3_writes ∈ lw_all) (hR : 421 + 1 ≤ lv) : CallW (rmH lv K1 K2) s args y0.cls RX3 index yX3_writes cX3_writes 6 none (ws_ yX3_writes cX3_writes 6 none) (rmH 421 mc ms) mc ms 1 :=
  cwV 1 C.1.2.2.2.2.1 (lw_V hq q496 qs6 q126 q497) rfl rfl rfl (by decide +kernel) ⟨hR, by show 8 + (6 + 11) + 100 * 421 ≤ 100 * lv; omega⟩
def hX1_isOf (p0 : Int32) (p1 : Int32) (u : HS) : Option (OH Int32) :=
  if ((p0 >>> (p1 &&& 31)) &&& 1) = 1 then
    hz id 1 u
  else
    hz id 0 u
theorem ctX1_isOf (t : TT) (G : GH) (l : Launch) (hl0 : l.stackTraces = false) (p0 : Int32) (p1 : Int32) (u : HS) : CtH mkI t G l yX1_isOf cX1_isOf 2 (some .boolean) 2 [.int p0, .int p1] u (hX1_isOf p0 p1 u) := by
  refine ctH_of [(0, .int p0), (1, .int p1)] hl0 rfl (Nat.le_of_ble_eq_true rfl) rfl (fun K1 K2 p e s m args below meth c C => ?_)
  unfold hX1_isOf
  refine v_iload_n C.1 0 rfl rfl dX1_isOf_0 ?_
  refine v_iload_n C.1 1 rfl rfl dX1_isOf_1 ?_
  refine v_ishr C.1 dX1_isOf_2 ?_
  refine v_iconst C.1 1 (by decide) dX1_isOf_3 ?_
  refine v_iand C.1 dX1_isOf_4 ?_
  refine v_iconst C.1 1 (by decide) dX1_isOf_5 ?_
  refine v_icmp_ne C.1 13 (by decide) dX1_isOf_6 (fun _ => ?_) (fun _ => ?_)
  · refine v_iconst C.1 1 (by decide) dX1_isOf_9 ?_
    refine v_goto C.1 14 (by decide) dX1_isOf_10 ?_
    exact v_hzret C dX1_isOf_14
  · refine v_iconst C.1 0 (by decide) dX1_isOf_13 ?_
    exact v_hzret C dX1_isOf_14
theorem cwX1_isOf {t : TT} {G : GH} {l : Launch} {p : Program} {s : State} {m : MethodId} {args : Array Value} {meth : Method} {c : Code} {y0 : MethodName} {cc0 : ByteArray} {nL0 : Nat} {ret0 : Option FieldType} (C : CxH t G l p s m args meth c y0 cc0 nL0 ret0) {index lv mc ms K1 K2 : Nat} (hq : Cond.methodLink y0.cls index yX1_isOf ∈ lw_all) (hR : 2 + 1 ≤ lv) : CallB (rmH lv K1 K2) s args y0.cls index yX1_isOf cX1_isOf 2 (some .boolean) (ws_ yX1_isOf cX1_isOf 2 (some .boolean)) (rmH 2 mc ms) mc ms 2 ∧ (Cond.static yX1_isOf).before args s = true :=
  ⟨callB_of 2 C.1.2.2.2.2.1 (lw_meth q639) rfl rfl rfl (C.1.2.2.2.2.1 _ q121) (C.1.2.2.2.2.1 _ hq) (by decide +kernel) ⟨hR, by show 8 + (2 + 11) + 100 * 2 ≤ 100 * lv; omega⟩, C.1.2.2.2.2.1 _ q638⟩
theorem cwX1_isOfN {t : TT} {G : GH} {l : Launch} {p : Program} {s : State} {m : MethodId} {args : Array Value} {meth : Method} {c : Code} {y0 : MethodName} {cc0 : ByteArray} {nL0 : Nat} {ret0 : Option FieldType} (C : CxH t G l p s m args meth c y0 cc0 nL0 ret0) {index lv mc ms K1 K2 : Nat} {host : String} (hq : Cond.methodLinkNest y0.cls index yX1_isOf host ∈ lw_tbl) (hR : 2 + 1 ≤ lv) : va_CN (rmH lv K1 K2) s args y0.cls index yX1_isOf host cX1_isOf 2 (some .boolean) (ws_ yX1_isOf cX1_isOf 2 (some .boolean)) (rmH 2 mc ms) mc ms 2 ∧ (Cond.static yX1_isOf).before args s = true ∧ True :=
  ⟨va_cnB 2 C.1.2.2.2.2.1 (lw_meth q639) rfl rfl rfl (C.1.2.2.2.2.2.2.2.2.2.1 _ hq rfl) (C.1.2.2.2.2.1 _ q121) (by decide +kernel) ⟨hR, by show 8 + (2 + 11) + 100 * 2 ≤ 100 * lv; omega⟩, ⟨C.1.2.2.2.2.1 _ q638, trivial⟩⟩
def hX2_isSea (p0 : Nat) (p1 : Int32) (u : HS) : Option (OH Int32) :=
  mchk (hC u p0 == 2) <|
  mderef (hR u p0 0) fun a2 =>
  mchk (hC u a2 == 12) <|
  hb (hJ2_get a2 p1 u) fun r5 u4 =>
  mchk (hC u4 r5 == 31) <|
  mchk (hC u4 r5 == 31) <|
  hb (hJ16_intValue r5 u4) fun r9 u8 =>
  if r9 = (-1) then
    hz id 1 u8
  else
    hz id 0 u8
theorem ctX2_isSea (t : TT) (G : GH) (l : Launch) (hl0 : l.stackTraces = false) (p0 : Nat) (p1 : Int32) (u : HS) : CtH mkI t G l yX2_isSea cX2_isSea 2 (some .boolean) 5 [.ref p0, .int p1] u (hX2_isSea p0 p1 u) := by
  refine ctH_of [(0, .ref p0), (1, .int p1)] hl0 rfl (Nat.le_of_ble_eq_true rfl) rfl (fun K1 K2 p e s m args below meth c C => ?_)
  unfold hX2_isSea
  refine v_aload_n C.1 0 rfl rfl dX2_isSea_0 ?_
  refine v_chk (fun h1 => ?_)
  refine v_hget C (v := va_rf (hR u p0 0)) 1 0 (eq_of_beq h1) (by decide) rfl in_X2 (by decide) (Or.inl q196) (fun _ h => h) (hF_r (ci := 1) (eq_of_beq h1) (by decide)) dX2_isSea_1 ?_
  refine v_deref (fun a2 e3 => ?_)
  refine v_iload_n C.1 1 rfl rfl dX2_isSea_4 ?_
  refine v_chk (fun h6 => ?_)
  refine v_callFH C [.int p1] [] (ctJ2_get t G l hl0 a2 p1 u) (fun _ _ => cwJ2_getF C q649 (by decide)) (eq_of_beq h6) (by decide) rfl rfl rfl (by exact Nat.le_of_ble_eq_true rfl) dX2_isSea_5 (fun r5 u4 => ?_)
  refine v_chk (fun h7 => ?_)
  refine v_hcastB C (eq_of_beq h7) q650 dX2_isSea_10 ?_
  refine v_chk (fun h10 => ?_)
  refine v_callVH C [] [] (ctJ16_intValue t G l hl0 r5 u4) (fun _ _ => cwJ16_intValue C q651 (by decide)) (recB C (eq_of_beq h10)) rfl rfl (by exact Nat.le_of_ble_eq_true rfl) dX2_isSea_13 (fun r9 u8 => ?_)
  refine v_iconst C.1 (-1) (by decide) dX2_isSea_16 ?_
  refine v_icmp_ne C.1 24 (by decide) dX2_isSea_17 (fun _ => ?_) (fun _ => ?_)
  · refine v_iconst C.1 1 (by decide) dX2_isSea_20 ?_
    refine v_goto C.1 25 (by decide) dX2_isSea_21 ?_
    exact v_hzret C dX2_isSea_25
  · refine v_iconst C.1 0 (by decide) dX2_isSea_24 ?_
    exact v_hzret C dX2_isSea_25
theorem cwX2_isSea {t : TT} {G : GH} {l : Launch} {p : Program} {s : State} {m : MethodId} {args : Array Value} {meth : Method} {c : Code} {y0 : MethodName} {cc0 : ByteArray} {nL0 : Nat} {ret0 : Option FieldType} (C : CxH t G l p s m args meth c y0 cc0 nL0 ret0) {index lv mc ms K1 K2 : Nat} (hq : Cond.methodLink y0.cls index yX2_isSea ∈ lw_all) (hR : 5 + 1 ≤ lv) : CallW (rmH lv K1 K2) s args y0.cls RX2 index yX2_isSea cX2_isSea 2 (some .boolean) (ws_ yX2_isSea cX2_isSea 2 (some .boolean)) (rmH 5 mc ms) mc ms 1 :=
  cwV 1 C.1.2.2.2.2.1 (lw_V hq q645 q646 q122 q647) rfl rfl rfl (by decide +kernel) ⟨hR, by show 8 + (2 + 11) + 100 * 5 ≤ 100 * lv; omega⟩
def hX3_isAway (p0 : Nat) (p1 : Int32) (u : HS) : Option (OH Int32) :=
  mchk (hC u p0 == 3) <|
  mderef (hR u p0 11) fun a2 =>
  mchk (hC u a2 == 1) <|
  mderef (hR u a2 2) fun a5 =>
  mchk (hC u p0 == 3) <|
  mderef (hR u p0 2) fun a8 =>
  mchk (inA u p1 a8 21) <|
  mchk (hC u a5 == 2) <|
  hb (hX2_isSea a5 (hA u a8 p1.toNatClampNeg) u) fun r12 u11 =>
  hz id r12 u11
theorem ctX3_isAway (t : TT) (G : GH) (l : Launch) (hl0 : l.stackTraces = false) (p0 : Nat) (p1 : Int32) (u : HS) : CtH mkI t G l yX3_isAway cX3_isAway 2 (some .boolean) 6 [.ref p0, .int p1] u (hX3_isAway p0 p1 u) := by
  refine ctH_of [(0, .ref p0), (1, .int p1)] hl0 rfl (Nat.le_of_ble_eq_true rfl) rfl (fun K1 K2 p e s m args below meth c C => ?_)
  unfold hX3_isAway
  refine v_aload_n C.1 0 rfl rfl dX3_isAway_0 ?_
  refine v_chk (fun h1 => ?_)
  refine v_hget C (v := va_rf (hR u p0 11)) 2 11 (eq_of_beq h1) (by decide) rfl in_X3 (by decide) (Or.inl q278) (fun _ h => h) (hF_r (ci := 2) (eq_of_beq h1) (by decide)) dX3_isAway_1 ?_
  refine v_deref (fun a2 e3 => ?_)
  refine v_chk (fun h4 => ?_)
  refine v_hget C (v := va_rf (hR u a2 2)) 0 2 (eq_of_beq h4) (by decide) rfl in_X1 (by decide) (Or.inr ⟨_, q310⟩) (fun _ h => h) (hF_r (ci := 0) (eq_of_beq h4) (by decide)) dX3_isAway_4 ?_
  refine v_deref (fun a5 e6 => ?_)
  refine v_aload_n C.1 0 rfl rfl dX3_isAway_7 ?_
  refine v_chk (fun h7 => ?_)
  refine v_hget C (v := va_rf (hR u p0 2)) 2 2 (eq_of_beq h7) (by decide) rfl in_X3 (by decide) (Or.inl q258) (fun _ h => h) (hF_r (ci := 2) (eq_of_beq h7) (by decide)) dX3_isAway_8 ?_
  refine v_deref (fun a8 e9 => ?_)
  refine v_iload_n C.1 1 rfl rfl dX3_isAway_11 ?_
  refine v_chk (fun h10 => ?_)
  refine v_haiald C h10 dX3_isAway_12 ?_
  refine v_chk (fun h13 => ?_)
  refine v_callVH C [.int (hA u a8 p1.toNatClampNeg)] [] (ctX2_isSea t G l hl0 a5 (hA u a8 p1.toNatClampNeg) u) (fun _ _ => cwX2_isSea C q644 (by decide)) (recO C (ci := 1) (eq_of_beq h13) (by decide) rfl) rfl rfl (by exact Nat.le_of_ble_eq_true rfl) dX3_isAway_13 (fun r12 u11 => ?_)
  exact v_hzret C dX3_isAway_16
theorem cwX3_isAway {t : TT} {G : GH} {l : Launch} {p : Program} {s : State} {m : MethodId} {args : Array Value} {meth : Method} {c : Code} {y0 : MethodName} {cc0 : ByteArray} {nL0 : Nat} {ret0 : Option FieldType} (C : CxH t G l p s m args meth c y0 cc0 nL0 ret0) {index lv mc ms K1 K2 : Nat} (hq : Cond.methodLink y0.cls index yX3_isAway ∈ lw_all) (hR : 6 + 1 ≤ lv) : CallW (rmH lv K1 K2) s args y0.cls RX3 index yX3_isAway cX3_isAway 2 (some .boolean) (ws_ yX3_isAway cX3_isAway 2 (some .boolean)) (rmH 6 mc ms) mc ms 1 :=
  cwV 1 C.1.2.2.2.2.1 (lw_V hq q641 q642 q126 q643) rfl rfl rfl (by decide +kernel) ⟨hR, by show 8 + (2 + 11) + 100 * 6 ≤ 100 * lv; omega⟩
def hX3_isSought (p0 : Nat) (p1 : Int32) (u : HS) : Option (OH Int32) :=
  mchk (hC u p0 == 3) <|
  hb (hX3_isListed p0 p1 u) fun r2 u1 =>
  if r2 = 0 then
    hz id 0 u1
  else
    mchk (hC u1 p0 == 3) <|
    hb (hX1_isOf (hI u1 p0 7) p1 u1) fun r6 u5 =>
    if r6 = 0 then
      mchk (hC u5 p0 == 3) <|
      hb (hX3_isAway p0 p1 u5) fun r8 u7 =>
      if r8 = 0 then
        hz id 1 u7
      else
        hz id 0 u7
    else
      hz id 0 u5
theorem ctX3_isSought (t : TT) (G : GH) (l : Launch) (hl0 : l.stackTraces = false) (p0 : Nat) (p1 : Int32) (u : HS) : CtH mkI t G l yX3_isSought cX3_isSought 2 (some .boolean) 7 [.ref p0, .int p1] u (hX3_isSought p0 p1 u) := by
  refine ctH_of [(0, .ref p0), (1, .int p1)] hl0 rfl (Nat.le_of_ble_eq_true rfl) rfl (fun K1 K2 p e s m args below meth c C => ?_)
  unfold hX3_isSought
  refine v_aload_n C.1 0 rfl rfl dX3_isSought_0 ?_
  refine v_iload_n C.1 1 rfl rfl dX3_isSought_1 ?_
  refine v_chk (fun h3 => ?_)
  refine v_callVH C [.int p1] [] (ctX3_isListed t G l hl0 p0 p1 u) (fun _ _ => cwX3_isListed C q504 (by decide)) (recO C (ci := 2) (eq_of_beq h3) (by decide) rfl) rfl rfl (by exact Nat.le_of_ble_eq_true rfl) dX3_isSought_2 (fun r2 u1 => ?_)
  refine v_if_eq C.1 31 (by decide) dX3_isSought_5 (fun _ => ?_) (fun _ => ?_)
  · refine v_iconst C.1 0 (by decide) dX3_isSought_31 ?_
    exact v_hzret C dX3_isSought_32
  · refine v_aload_n C.1 0 rfl rfl dX3_isSought_8 ?_
    refine v_chk (fun h4 => ?_)
    refine v_hget C (v := .int (hI u1 p0 7)) 2 7 (eq_of_beq h4) (by decide) rfl in_X3 (by decide) (Or.inl q270) (fun _ h => h) (hF_i (ci := 2) (eq_of_beq h4) (by decide)) dX3_isSought_9 ?_
    refine v_iload_n C.1 1 rfl rfl dX3_isSought_12 ?_
    refine v_callSNH C [.int (hI u1 p0 7), .int p1] [] (ctX1_isOf t G l hl0 (hI u1 p0 7) p1 u1) (fun _ _ => cwX1_isOfN C q637 (by decide)) rfl rfl (by exact Nat.le_of_ble_eq_true rfl) dX3_isSought_13 (fun r6 u5 => ?_)
    refine v_if_ne C.1 31 (by decide) dX3_isSought_16 (fun _ => ?_) (fun _ => ?_)
    · refine v_aload_n C.1 0 rfl rfl dX3_isSought_19 ?_
      refine v_iload_n C.1 1 rfl rfl dX3_isSought_20 ?_
      refine v_chk (fun h9 => ?_)
      refine v_callVH C [.int p1] [] (ctX3_isAway t G l hl0 p0 p1 u5) (fun _ _ => cwX3_isAway C q640 (by decide)) (recO C (ci := 2) (eq_of_beq h9) (by decide) rfl) rfl rfl (by exact Nat.le_of_ble_eq_true rfl) dX3_isSought_21 (fun r8 u7 => ?_)
      refine v_if_ne C.1 31 (by decide) dX3_isSought_24 (fun _ => ?_) (fun _ => ?_)
      · refine v_iconst C.1 1 (by decide) dX3_isSought_27 ?_
        refine v_goto C.1 32 (by decide) dX3_isSought_28 ?_
        exact v_hzret C dX3_isSought_32
      · refine v_iconst C.1 0 (by decide) dX3_isSought_31 ?_
        exact v_hzret C dX3_isSought_32
    · refine v_iconst C.1 0 (by decide) dX3_isSought_31 ?_
      exact v_hzret C dX3_isSought_32
theorem cwX3_isSought {t : TT} {G : GH} {l : Launch} {p : Program} {s : State} {m : MethodId} {args : Array Value} {meth : Method} {c : Code} {y0 : MethodName} {cc0 : ByteArray} {nL0 : Nat} {ret0 : Option FieldType} (C : CxH t G l p s m args meth c y0 cc0 nL0 ret0) {index lv mc ms K1 K2 : Nat} (hq : Cond.methodLink y0.cls index yX3_isSought ∈ lw_all) (hR : 7 + 1 ≤ lv) : CallW (rmH lv K1 K2) s args y0.cls RX3 index yX3_isSought cX3_isSought 2 (some .boolean) (ws_ yX3_isSought cX3_isSought 2 (some .boolean)) (rmH 7 mc ms) mc ms 1 :=
  cwV 1 C.1.2.2.2.2.1 (lw_V hq q634 q635 q126 q636) rfl rfl rfl (by decide +kernel) ⟨hR, by show 8 + (2 + 11) + 100 * 7 ≤ 100 * lv; omega⟩
def hX3_price (p0 : Nat) (p1 : Int32) (u : HS) : Option (OH Int32) :=
  mchk (hC u p0 == 3) <|
  mderef (hR u p0 11) fun a2 =>
  mchk (hC u a2 == 1) <|
  mderef (hR u a2 2) fun a5 =>
  mchk (hC u a5 == 2) <|
  mderef (hR u a5 1) fun a8 =>
  mchk (hC u a8 == 12) <|
  hb (hJ2_get a8 p1 u) fun r11 u10 =>
  mchk (hC u10 r11 == 31) <|
  mchk (hC u10 r11 == 31) <|
  hb (hJ16_intValue r11 u10) fun r15 u14 =>
  mchk (hC u14 p0 == 3) <|
  hret ((r15 * ((10 : Int32) - (iMin 9 (hI u14 p0 8)))) / 10) u14
theorem ctX3_price (t : TT) (G : GH) (l : Launch) (hl0 : l.stackTraces = false) (p0 : Nat) (p1 : Int32) (u : HS) : CtH mkI t G l yX3_price cX3_price 2 (some .int) 5 [.ref p0, .int p1] u (hX3_price p0 p1 u) := by
  refine ctH_of [(0, .ref p0), (1, .int p1)] hl0 rfl (Nat.le_of_ble_eq_true rfl) rfl (fun K1 K2 p e s m args below meth c C => ?_)
  unfold hX3_price
  refine v_aload_n C.1 0 rfl rfl dX3_price_0 ?_
  refine v_chk (fun h1 => ?_)
  refine v_hget C (v := va_rf (hR u p0 11)) 2 11 (eq_of_beq h1) (by decide) rfl in_X3 (by decide) (Or.inl q278) (fun _ h => h) (hF_r (ci := 2) (eq_of_beq h1) (by decide)) dX3_price_1 ?_
  refine v_deref (fun a2 e3 => ?_)
  refine v_chk (fun h4 => ?_)
  refine v_hget C (v := va_rf (hR u a2 2)) 0 2 (eq_of_beq h4) (by decide) rfl in_X1 (by decide) (Or.inr ⟨_, q310⟩) (fun _ h => h) (hF_r (ci := 0) (eq_of_beq h4) (by decide)) dX3_price_4 ?_
  refine v_deref (fun a5 e6 => ?_)
  refine v_chk (fun h7 => ?_)
  refine v_hget C (v := va_rf (hR u a5 1)) 1 1 (eq_of_beq h7) (by decide) rfl in_X2 (by decide) (Or.inr ⟨_, q201⟩) (fun _ h => h) (hF_r (ci := 1) (eq_of_beq h7) (by decide)) dX3_price_7 ?_
  refine v_deref (fun a8 e9 => ?_)
  refine v_iload_n C.1 1 rfl rfl dX3_price_10 ?_
  refine v_chk (fun h12 => ?_)
  refine v_callFH C [.int p1] [] (ctJ2_get t G l hl0 a8 p1 u) (fun _ _ => cwJ2_getF C q513 (by decide)) (eq_of_beq h12) (by decide) rfl rfl rfl (by exact Nat.le_of_ble_eq_true rfl) dX3_price_11 (fun r11 u10 => ?_)
  refine v_chk (fun h13 => ?_)
  refine v_hcastB C (eq_of_beq h13) q525 dX3_price_16 ?_
  refine v_chk (fun h16 => ?_)
  refine v_callVH C [] [] (ctJ16_intValue t G l hl0 r11 u10) (fun _ _ => cwJ16_intValue C q526 (by decide)) (recB C (eq_of_beq h16)) rfl rfl (by exact Nat.le_of_ble_eq_true rfl) dX3_price_19 (fun r15 u14 => ?_)
  refine v_bipush C.1 10 (by decide) dX3_price_22 ?_
  refine v_bipush C.1 9 (by decide) dX3_price_24 ?_
  refine v_aload_n C.1 0 rfl rfl dX3_price_26 ?_
  refine v_chk (fun h17 => ?_)
  refine v_hget C (v := .int (hI u14 p0 8)) 2 8 (eq_of_beq h17) (by decide) rfl in_X3 (by decide) (Or.inl q272) (fun _ h => h) (hF_i (ci := 2) (eq_of_beq h17) (by decide)) dX3_price_27 ?_
  refine v_mmin C q489 q445 q133 q446 (by exact Nat.le_of_ble_eq_true rfl) (by exact Nat.le_of_ble_eq_true rfl) dX3_price_30 ?_
  refine v_isub C.1 dX3_price_33 ?_
  refine v_imul C.1 dX3_price_34 ?_
  refine v_bipush C.1 10 (by decide) dX3_price_35 ?_
  refine v_idiv C.1 (by decide) dX3_price_37 ?_
  exact v_hiret C dX3_price_38
theorem cwX3_price {t : TT} {G : GH} {l : Launch} {p : Program} {s : State} {m : MethodId} {args : Array Value} {meth : Method} {c : Code} {y0 : MethodName} {cc0 : ByteArray} {nL0 : Nat} {ret0 : Option FieldType} (C : CxH t G l p s m args meth c y0 cc0 nL0 ret0) {index lv mc ms K1 K2 : Nat} (hq : Cond.methodLink y0.cls index yX3_price ∈ lw_all) (hR : 5 + 1 ≤ lv) : CallW (rmH lv K1 K2) s args y0.cls RX3 index yX3_price cX3_price 2 (some .int) (ws_ yX3_price cX3_price 2 (some .int)) (rmH 5 mc ms) mc ms 1 :=
  cwV 1 C.1.2.2.2.2.1 (lw_V hq q661 q662 q126 q663) rfl rfl rfl (by decide +kernel) ⟨hR, by show 8 + (2 + 11) + 100 * 5 ≤ 100 * lv; omega⟩
def hX3_sell_30 (p0 : Nat) (p1 : Int32) (x2 : Int32) (u : HS) : Option (OH Unit) :=
  mchk (hC u p0 == 3) <|
  mderef (hR u p0 1) fun a2 =>
  mchk (inA u p1 a2 21) <|
  if 0 ≤ (hA u a2 p1.toNatClampNeg) then
    mchk (hC u p0 == 3) <|
    mderef (hR u p0 3) fun a6 =>
    mchk (hC u p0 == 3) <|
    mderef (hR u p0 1) fun a9 =>
    mchk (inA u p1 a9 21) <|
    mchk (hC u p0 == 3) <|
    mderef (hR u p0 3) fun a13 =>
    mchk (hC u p0 == 3) <|
    mderef (hR u p0 1) fun a16 =>
    mchk (inA u p1 a16 21) <|
    mchk (inA u (hA u a16 p1.toNatClampNeg) a13 21) <|
    mchk (inA u (hA u a9 p1.toNatClampNeg) a6 21) <|
    mlet (uA u a6 (hA u a9 p1.toNatClampNeg).toNatClampNeg (iMax 0 ((hA u a13 (hA u a16 p1.toNatClampNeg).toNatClampNeg) - x2))) fun u20 =>
    mchk (hC u20 p0 == 3) <|
    mderef (hR u20 p0 4) fun a23 =>
    mchk (hC u20 p0 == 3) <|
    mderef (hR u20 p0 1) fun a26 =>
    mchk (inA u20 p1 a26 21) <|
    mchk (inA u20 (hA u20 a26 p1.toNatClampNeg) a23 21) <|
    mchk (inA u20 (hA u20 a26 p1.toNatClampNeg) a23 21) <|
    mlet (uA u20 a23 (hA u20 a26 p1.toNatClampNeg).toNatClampNeg ((hA u20 a23 (hA u20 a26 p1.toNatClampNeg).toNatClampNeg) + x2)) fun u30 =>
    hret () u30
  else
    hret () u
theorem whX3_sell_30 {K1 K2 : Nat} {p : Program} {e : Env} {s : State} {m : MethodId} {args : Array Value} {below : List Frame} {meth : Method} {c : Code} (hl0 : l.stackTraces = false) (C : CxH t G l p s m args meth c yX3_sell cX3_sell 3 none) (p0 : Nat) (p1 : Int32) (x2 : Int32) (u : HS) : VH mkU t G p l e 6 K1 K2 s m args below meth c 3 30 [(0, .ref p0), (1, .int p1), (2, .int x2)] [] u (hX3_sell_30 p0 p1 x2 u) := by
  unfold hX3_sell_30
  refine v_aload_n C.1 0 rfl rfl dX3_sell_30 ?_
  refine v_chk (fun h1 => ?_)
  refine v_hget C (v := va_rf (hR u p0 1)) 2 1 (eq_of_beq h1) (by decide) rfl in_X3 (by decide) (Or.inl q256) (fun _ h => h) (hF_r (ci := 2) (eq_of_beq h1) (by decide)) dX3_sell_31 ?_
  refine v_deref (fun a2 e3 => ?_)
  refine v_iload_n C.1 1 rfl rfl dX3_sell_34 ?_
  refine v_chk (fun h4 => ?_)
  refine v_haiald C h4 dX3_sell_35 ?_
  refine v_if_ge C.1 40 (by decide) dX3_sell_36 (fun _ => ?_) (fun _ => ?_)
  · refine v_aload_n C.1 0 rfl rfl dX3_sell_40 ?_
    refine v_chk (fun h5 => ?_)
    refine v_hget C (v := va_rf (hR u p0 3)) 2 3 (eq_of_beq h5) (by decide) rfl in_X3 (by decide) (Or.inl q261) (fun _ h => h) (hF_r (ci := 2) (eq_of_beq h5) (by decide)) dX3_sell_41 ?_
    refine v_deref (fun a6 e7 => ?_)
    refine v_aload_n C.1 0 rfl rfl dX3_sell_44 ?_
    refine v_chk (fun h8 => ?_)
    refine v_hget C (v := va_rf (hR u p0 1)) 2 1 (eq_of_beq h8) (by decide) rfl in_X3 (by decide) (Or.inl q256) (fun _ h => h) (hF_r (ci := 2) (eq_of_beq h8) (by decide)) dX3_sell_45 ?_
    refine v_deref (fun a9 e10 => ?_)
    refine v_iload_n C.1 1 rfl rfl dX3_sell_48 ?_
    refine v_chk (fun h11 => ?_)
    refine v_haiald C h11 dX3_sell_49 ?_
    refine v_iconst C.1 0 (by decide) dX3_sell_50 ?_
    refine v_aload_n C.1 0 rfl rfl dX3_sell_51 ?_
    refine v_chk (fun h12 => ?_)
    refine v_hget C (v := va_rf (hR u p0 3)) 2 3 (eq_of_beq h12) (by decide) rfl in_X3 (by decide) (Or.inl q261) (fun _ h => h) (hF_r (ci := 2) (eq_of_beq h12) (by decide)) dX3_sell_52 ?_
    refine v_deref (fun a13 e14 => ?_)
    refine v_aload_n C.1 0 rfl rfl dX3_sell_55 ?_
    refine v_chk (fun h15 => ?_)
    refine v_hget C (v := va_rf (hR u p0 1)) 2 1 (eq_of_beq h15) (by decide) rfl in_X3 (by decide) (Or.inl q256) (fun _ h => h) (hF_r (ci := 2) (eq_of_beq h15) (by decide)) dX3_sell_56 ?_
    refine v_deref (fun a16 e17 => ?_)
    refine v_iload_n C.1 1 rfl rfl dX3_sell_59 ?_
    refine v_chk (fun h18 => ?_)
    refine v_haiald C h18 dX3_sell_60 ?_
    refine v_chk (fun h19 => ?_)
    refine v_haiald C h19 dX3_sell_61 ?_
    refine v_iload_n C.1 2 rfl rfl dX3_sell_62 ?_
    refine v_isub C.1 dX3_sell_63 ?_
    refine v_mmax C q664 q409 q133 q410 (by exact Nat.le_of_ble_eq_true rfl) (by exact Nat.le_of_ble_eq_true rfl) dX3_sell_64 ?_
    refine v_chk (fun h21 => ?_)
    refine v_haiast C h21 dX3_sell_67 (fun u20 => ?_)
    refine v_aload_n C.1 0 rfl rfl dX3_sell_68 ?_
    refine v_chk (fun h22 => ?_)
    refine v_hget C (v := va_rf (hR u20 p0 4)) 2 4 (eq_of_beq h22) (by decide) rfl in_X3 (by decide) (Or.inl q264) (fun _ h => h) (hF_r (ci := 2) (eq_of_beq h22) (by decide)) dX3_sell_69 ?_
    refine v_deref (fun a23 e24 => ?_)
    refine v_aload_n C.1 0 rfl rfl dX3_sell_72 ?_
    refine v_chk (fun h25 => ?_)
    refine v_hget C (v := va_rf (hR u20 p0 1)) 2 1 (eq_of_beq h25) (by decide) rfl in_X3 (by decide) (Or.inl q256) (fun _ h => h) (hF_r (ci := 2) (eq_of_beq h25) (by decide)) dX3_sell_73 ?_
    refine v_deref (fun a26 e27 => ?_)
    refine v_iload_n C.1 1 rfl rfl dX3_sell_76 ?_
    refine v_chk (fun h28 => ?_)
    refine v_haiald C h28 dX3_sell_77 ?_
    refine v_dup2 C.1 rfl rfl dX3_sell_78 ?_
    refine v_chk (fun h29 => ?_)
    refine v_haiald C h29 dX3_sell_79 ?_
    refine v_iload_n C.1 2 rfl rfl dX3_sell_80 ?_
    refine v_iadd C.1 dX3_sell_81 ?_
    refine v_chk (fun h31 => ?_)
    refine v_haiast C h31 dX3_sell_82 (fun u30 => ?_)
    exact v_hvret C dX3_sell_83
  · exact v_hvret C dX3_sell_39
def hX3_sell (p0 : Nat) (p1 : Int32) (u : HS) : Option (OH Unit) :=
  mchk (hC u p0 == 3) <|
  hb (hX3_price p0 p1 u) fun r2 u1 =>
  mchk (hC u1 p0 == 3) <|
  mchk (hC u1 p0 == 3) <|
  mlet (uI u1 p0 8 ((hI u1 p0 8) + 1)) fun u6 =>
  if r2 = 0 then
    mchk (hC u6 p0 == 3) <|
    mchk (hC u6 p0 == 3) <|
    mlet (uI u6 p0 9 ((hI u6 p0 9) + 1)) fun u9 =>
    hX3_sell_30 p0 p1 r2 u9
  else
    hX3_sell_30 p0 p1 r2 u6
theorem ctX3_sell (t : TT) (G : GH) (l : Launch) (hl0 : l.stackTraces = false) (p0 : Nat) (p1 : Int32) (u : HS) : CtH mkU t G l yX3_sell cX3_sell 3 none 6 [.ref p0, .int p1] u (hX3_sell p0 p1 u) := by
  refine ctH_of [(0, .ref p0), (1, .int p1)] hl0 rfl (Nat.le_of_ble_eq_true rfl) rfl (fun K1 K2 p e s m args below meth c C => ?_)
  unfold hX3_sell
  refine v_aload_n C.1 0 rfl rfl dX3_sell_0 ?_
  refine v_iload_n C.1 1 rfl rfl dX3_sell_1 ?_
  refine v_chk (fun h3 => ?_)
  refine v_callVH C [.int p1] [] (ctX3_price t G l hl0 p0 p1 u) (fun _ _ => cwX3_price C q660 (by decide)) (recO C (ci := 2) (eq_of_beq h3) (by decide) rfl) rfl rfl (by exact Nat.le_of_ble_eq_true rfl) dX3_sell_2 (fun r2 u1 => ?_)
  refine v_istore_n C.1 [(2, .int r2), (0, .ref p0), (1, .int p1)] rfl (by decide) rfl dX3_sell_5 ?_
  refine v_aload_n C.1 1 rfl rfl dX3_sell_6 ?_
  refine v_dup C.1 rfl dX3_sell_7 ?_
  refine v_chk (fun h4 => ?_)
  refine v_hget C (v := .int (hI u1 p0 8)) 2 8 (eq_of_beq h4) (by decide) rfl in_X3 (by decide) (Or.inl q272) (fun _ h => h) (hF_i (ci := 2) (eq_of_beq h4) (by decide)) dX3_sell_8 ?_
  refine v_iconst C.1 1 (by decide) dX3_sell_11 ?_
  refine v_iadd C.1 dX3_sell_12 ?_
  refine v_chk (fun h5 => ?_)
  refine v_hputI C 2 8 (eq_of_beq h5) (by decide) rfl in_X3 tyX3 tyX3_ok nmX3 (by decide) (by decide) q272 (fun _ h => h) (Or.inl rfl) ⟨rfl, rfl⟩ dX3_sell_13 (fun u6 => ?_)
  refine v_iload_n C.1 0 rfl rfl dX3_sell_16 ?_
  refine v_if_ne C.1 30 (by decide) dX3_sell_17 (fun _ => ?_) (fun _ => ?_)
  · refine v_aload_n C.1 1 rfl rfl dX3_sell_20 ?_
    refine v_dup C.1 rfl dX3_sell_21 ?_
    refine v_chk (fun h7 => ?_)
    refine v_hget C (v := .int (hI u6 p0 9)) 2 9 (eq_of_beq h7) (by decide) rfl in_X3 (by decide) (Or.inl q274) (fun _ h => h) (hF_i (ci := 2) (eq_of_beq h7) (by decide)) dX3_sell_22 ?_
    refine v_iconst C.1 1 (by decide) dX3_sell_25 ?_
    refine v_iadd C.1 dX3_sell_26 ?_
    refine v_chk (fun h8 => ?_)
    refine v_hputI C 2 9 (eq_of_beq h8) (by decide) rfl in_X3 tyX3 tyX3_ok nmX3 (by decide) (by decide) q274 (fun _ h => h) (Or.inl rfl) ⟨rfl, rfl⟩ dX3_sell_27 (fun u9 => ?_)
    refine v_sub [1, 2, 0] rfl ?_
    exact whX3_sell_30 hl0 C p0 p1 r2 u9
  · refine v_sub [1, 2, 0] rfl ?_
    exact whX3_sell_30 hl0 C p0 p1 r2 u6
theorem cwX3_sell {t : TT} {G : GH} {l : Launch} {p : Program} {s : State} {m : MethodId} {args : Array Value} {meth : Method} {c : Code} {y0 : MethodName} {cc0 : ByteArray} {nL0 : Nat} {ret0 : Option FieldType} (C : CxH t G l p s m args meth c y0 cc0 nL0 ret0) {index lv mc ms K1 K2 : Nat} (hq : Cond.methodLink y0.cls index yX3_sell ∈ lw_all) (hR : 6 + 1 ≤ lv) : CallW (rmH lv K1 K2) s args y0.cls RX3 index yX3_sell cX3_sell 3 none (ws_ yX3_sell cX3_sell 3 none) (rmH 6 mc ms) mc ms 1 :=
  cwV 1 C.1.2.2.2.2.1 (lw_V hq q658 qs7 q126 q659) rfl rfl rfl (by decide +kernel) ⟨hR, by show 8 + (3 + 11) + 100 * 6 ≤ 100 * lv; omega⟩
def hX3_die (p0 : Nat) (p1 : Int32) (u : HS) : Option (OH Unit) :=
  mchk (hC u p0 == 3) <|
  mchk (hC u p0 == 3) <|
  mlet (uI u p0 7 ((hI u p0 7) ||| ((1 : Int32) <<< (p1 &&& 31)))) fun u3 =>
  mchk (hC u3 p0 == 3) <|
  hb (hX3_sell p0 p1 u3) fun _ u4 =>
  hret () u4
theorem ctX3_die (t : TT) (G : GH) (l : Launch) (hl0 : l.stackTraces = false) (p0 : Nat) (p1 : Int32) (u : HS) : CtH mkU t G l yX3_die cX3_die 2 none 7 [.ref p0, .int p1] u (hX3_die p0 p1 u) := by
  refine ctH_of [(0, .ref p0), (1, .int p1)] hl0 rfl (Nat.le_of_ble_eq_true rfl) rfl (fun K1 K2 p e s m args below meth c C => ?_)
  unfold hX3_die
  refine v_aload_n C.1 0 rfl rfl dX3_die_0 ?_
  refine v_dup C.1 rfl dX3_die_1 ?_
  refine v_chk (fun h1 => ?_)
  refine v_hget C (v := .int (hI u p0 7)) 2 7 (eq_of_beq h1) (by decide) rfl in_X3 (by decide) (Or.inl q270) (fun _ h => h) (hF_i (ci := 2) (eq_of_beq h1) (by decide)) dX3_die_2 ?_
  refine v_iconst C.1 1 (by decide) dX3_die_5 ?_
  refine v_iload_n C.1 1 rfl rfl dX3_die_6 ?_
  refine v_ishl C.1 dX3_die_7 ?_
  refine v_ior C.1 dX3_die_8 ?_
  refine v_chk (fun h2 => ?_)
  refine v_hputI C 2 7 (eq_of_beq h2) (by decide) rfl in_X3 tyX3 tyX3_ok nmX3 (by decide) (by decide) q270 (fun _ h => h) (Or.inl rfl) ⟨rfl, rfl⟩ dX3_die_9 (fun u3 => ?_)
  refine v_aload_n C.1 0 rfl rfl dX3_die_12 ?_
  refine v_iload_n C.1 1 rfl rfl dX3_die_13 ?_
  refine v_chk (fun h5 => ?_)
  refine v_callVH C [.int p1] [] (ctX3_sell t G l hl0 p0 p1 u3) (fun _ _ => cwX3_sell C q656 (by decide)) (recO C (ci := 2) (eq_of_beq h5) (by decide) rfl) rfl rfl (by exact Nat.le_of_ble_eq_true rfl) dX3_die_14 (fun _ u4 => ?_)
  exact v_hvret C dX3_die_17
theorem cwX3_die {t : TT} {G : GH} {l : Launch} {p : Program} {s : State} {m : MethodId} {args : Array Value} {meth : Method} {c : Code} {y0 : MethodName} {cc0 : ByteArray} {nL0 : Nat} {ret0 : Option FieldType} (C : CxH t G l p s m args meth c y0 cc0 nL0 ret0) {index lv mc ms K1 K2 : Nat} (hq : Cond.methodLink y0.cls index yX3_die ∈ lw_all) (hR : 7 + 1 ≤ lv) : CallW (rmH lv K1 K2) s args y0.cls RX3 index yX3_die cX3_die 2 none (ws_ yX3_die cX3_die 2 none) (rmH 7 mc ms) mc ms 1 :=
  cwV 1 C.1.2.2.2.2.1 (lw_V hq q653 q654 q126 q655) rfl rfl rfl (by decide +kernel) ⟨hR, by show 8 + (2 + 11) + 100 * 7 ≤ 100 * lv; omega⟩
def hX3_morning_36 (p0 : Nat) (k : Int32 → HS → Option (OH Nat)) (x1 : Int32) (u : HS) : Option (OH Nat) :=
  mchk (hC u p0 == 3) <|
  mderef (hR u p0 11) fun a2 =>
  mchk (hC u a2 == 1) <|
  mderef (hR u a2 2) fun a5 =>
  mchk (hC u a5 == 2) <|
  hb (hX2_people a5 u) fun r8 u7 =>
  if r8 ≤ x1 then
    mchk (hC u7 p0 == 3) <|
    mchk (hC u7 p0 == 3) <|
    mlet (uI u7 p0 6 ((hI u7 p0 6) + 1)) fun u12 =>
    hret p0 u12
  else
    mchk (hC u7 p0 == 3) <|
    hb (hX3_isSought p0 x1 u7) fun r11 u10 =>
    if r11 = 0 then
      k (x1 + 1) u10
    else
      mchk (hC u10 p0 == 3) <|
      mderef (hR u10 p0 11) fun a14 =>
      mchk (hC u10 a14 == 1) <|
      mderef (hR u10 a14 2) fun a17 =>
      mchk (hC u10 a17 == 2) <|
      mderef (hR u10 a17 0) fun a20 =>
      mchk (hC u10 p0 == 3) <|
      mderef (hR u10 p0 2) fun a23 =>
      mchk (inA u10 x1 a23 21) <|
      mchk (hC u10 a20 == 12) <|
      hb (hJ2_get a20 (hA u10 a23 x1.toNatClampNeg) u10) fun r27 u26 =>
      mchk (hC u26 r27 == 31) <|
      mchk (hC u26 r27 == 31) <|
      hb (hJ16_intValue r27 u26) fun r31 u30 =>
      mchk (hC u30 p0 == 3) <|
      mchk (hC u30 p0 == 3) <|
      mderef (hR u30 p0 0) fun a35 =>
      mchk (inA u30 x1 a35 21) <|
      if ((r31 + (hI u30 p0 6)) - (hA u30 a35 x1.toNatClampNeg)) < 10 then
        k (x1 + 1) u30
      else
        mchk (hC u30 p0 == 3) <|
        hb (hX3_die p0 x1 u30) fun _ u38 =>
        k (x1 + 1) u38
theorem whX3_morning_36 {K1 K2 : Nat} {p : Program} {e : Env} {s : State} {m : MethodId} {args : Array Value} {below : List Frame} {meth : Method} {c : Code} (hl0 : l.stackTraces = false) (C : CxH t G l p s m args meth c yX3_morning cX3_morning 2 (some (.object "WhiteBoard$Board"))) (p0 : Nat) (n : Nat) (x1 : Int32) (u : HS) : VH mkA t G p l e 422 K1 K2 s m args below meth c 2 36 [(0, .ref p0), (1, .int x1)] [] u (ml1 (hX3_morning_36 p0) n x1 u) := by
  refine vl1 (L := fun x1 => [(0, .ref p0), (1, .int x1)]) (fun k hk x1 u => ?_) n x1 u
  unfold hX3_morning_36
  refine v_iload_n C.1 1 rfl rfl dX3_morning_36 ?_
  refine v_aload_n C.1 0 rfl rfl dX3_morning_37 ?_
  refine v_chk (fun h1 => ?_)
  refine v_hget C (v := va_rf (hR u p0 11)) 2 11 (eq_of_beq h1) (by decide) rfl in_X3 (by decide) (Or.inl q278) (fun _ h => h) (hF_r (ci := 2) (eq_of_beq h1) (by decide)) dX3_morning_38 ?_
  refine v_deref (fun a2 e3 => ?_)
  refine v_chk (fun h4 => ?_)
  refine v_hget C (v := va_rf (hR u a2 2)) 0 2 (eq_of_beq h4) (by decide) rfl in_X1 (by decide) (Or.inr ⟨_, q310⟩) (fun _ h => h) (hF_r (ci := 0) (eq_of_beq h4) (by decide)) dX3_morning_41 ?_
  refine v_deref (fun a5 e6 => ?_)
  refine v_chk (fun h9 => ?_)
  refine v_callVH C [] [.int x1] (ctX2_people t G l hl0 a5 u) (fun _ _ => cwX2_people C q498 (by decide)) (recO C (ci := 1) (eq_of_beq h9) (by decide) rfl) rfl rfl (by exact Nat.le_of_ble_eq_true rfl) dX3_morning_44 (fun r8 u7 => ?_)
  refine v_icmp_ge C.1 113 (by decide) dX3_morning_47 (fun _ => ?_) (fun _ => ?_)
  · refine v_aload_n C.1 0 rfl rfl dX3_morning_113 ?_
    refine v_dup C.1 rfl dX3_morning_114 ?_
    refine v_chk (fun h10 => ?_)
    refine v_hget C (v := .int (hI u7 p0 6)) 2 6 (eq_of_beq h10) (by decide) rfl in_X3 (by decide) (Or.inl q268) (fun _ h => h) (hF_i (ci := 2) (eq_of_beq h10) (by decide)) dX3_morning_115 ?_
    refine v_iconst C.1 1 (by decide) dX3_morning_118 ?_
    refine v_iadd C.1 dX3_morning_119 ?_
    refine v_chk (fun h11 => ?_)
    refine v_hputI C 2 6 (eq_of_beq h11) (by decide) rfl in_X3 tyX3 tyX3_ok nmX3 (by decide) (by decide) q268 (fun _ h => h) (Or.inl rfl) ⟨rfl, rfl⟩ dX3_morning_120 (fun u12 => ?_)
    refine v_aload_n C.1 0 rfl rfl dX3_morning_123 ?_
    exact v_haret C (Or.inl ⟨_, rfl⟩) dX3_morning_124
  · refine v_aload_n C.1 0 rfl rfl dX3_morning_50 ?_
    refine v_iload_n C.1 1 rfl rfl dX3_morning_51 ?_
    refine v_chk (fun h12 => ?_)
    refine v_callVH C [.int x1] [] (ctX3_isSought t G l hl0 p0 x1 u7) (fun _ _ => cwX3_isSought C q633 (by decide)) (recO C (ci := 2) (eq_of_beq h12) (by decide) rfl) rfl rfl (by exact Nat.le_of_ble_eq_true rfl) dX3_morning_52 (fun r11 u10 => ?_)
    refine v_if_eq C.1 107 (by decide) dX3_morning_55 (fun _ => ?_) (fun _ => ?_)
    · refine v_iinc C.1 1 [(1, .int (x1 + 1)), (0, .ref p0)] 1 rfl (by decide) (by decide) rfl dX3_morning_107 ?_
      refine v_goto C.1 36 (by decide) dX3_morning_110 ?_
      refine v_sub [1, 0] rfl ?_
      exact hk (x1 + 1) u10
    · refine v_aload_n C.1 0 rfl rfl dX3_morning_58 ?_
      refine v_chk (fun h13 => ?_)
      refine v_hget C (v := va_rf (hR u10 p0 11)) 2 11 (eq_of_beq h13) (by decide) rfl in_X3 (by decide) (Or.inl q278) (fun _ h => h) (hF_r (ci := 2) (eq_of_beq h13) (by decide)) dX3_morning_59 ?_
      refine v_deref (fun a14 e15 => ?_)
      refine v_chk (fun h16 => ?_)
      refine v_hget C (v := va_rf (hR u10 a14 2)) 0 2 (eq_of_beq h16) (by decide) rfl in_X1 (by decide) (Or.inr ⟨_, q310⟩) (fun _ h => h) (hF_r (ci := 0) (eq_of_beq h16) (by decide)) dX3_morning_62 ?_
      refine v_deref (fun a17 e18 => ?_)
      refine v_chk (fun h19 => ?_)
      refine v_hget C (v := va_rf (hR u10 a17 0)) 1 0 (eq_of_beq h19) (by decide) rfl in_X2 (by decide) (Or.inr ⟨_, q198⟩) (fun _ h => h) (hF_r (ci := 1) (eq_of_beq h19) (by decide)) dX3_morning_65 ?_
      refine v_deref (fun a20 e21 => ?_)
      refine v_aload_n C.1 0 rfl rfl dX3_morning_68 ?_
      refine v_chk (fun h22 => ?_)
      refine v_hget C (v := va_rf (hR u10 p0 2)) 2 2 (eq_of_beq h22) (by decide) rfl in_X3 (by decide) (Or.inl q258) (fun _ h => h) (hF_r (ci := 2) (eq_of_beq h22) (by decide)) dX3_morning_69 ?_
      refine v_deref (fun a23 e24 => ?_)
      refine v_iload_n C.1 1 rfl rfl dX3_morning_72 ?_
      refine v_chk (fun h25 => ?_)
      refine v_haiald C h25 dX3_morning_73 ?_
      refine v_chk (fun h28 => ?_)
      refine v_callFH C [.int (hA u10 a23 x1.toNatClampNeg)] [] (ctJ2_get t G l hl0 a20 (hA u10 a23 x1.toNatClampNeg) u10) (fun _ _ => cwJ2_getF C q513 (by decide)) (eq_of_beq h28) (by decide) rfl rfl rfl (by exact Nat.le_of_ble_eq_true rfl) dX3_morning_74 (fun r27 u26 => ?_)
      refine v_chk (fun h29 => ?_)
      refine v_hcastB C (eq_of_beq h29) q525 dX3_morning_79 ?_
      refine v_chk (fun h32 => ?_)
      refine v_callVH C [] [] (ctJ16_intValue t G l hl0 r27 u26) (fun _ _ => cwJ16_intValue C q526 (by decide)) (recB C (eq_of_beq h32)) rfl rfl (by exact Nat.le_of_ble_eq_true rfl) dX3_morning_82 (fun r31 u30 => ?_)
      refine v_aload_n C.1 0 rfl rfl dX3_morning_85 ?_
      refine v_chk (fun h33 => ?_)
      refine v_hget C (v := .int (hI u30 p0 6)) 2 6 (eq_of_beq h33) (by decide) rfl in_X3 (by decide) (Or.inl q268) (fun _ h => h) (hF_i (ci := 2) (eq_of_beq h33) (by decide)) dX3_morning_86 ?_
      refine v_iadd C.1 dX3_morning_89 ?_
      refine v_aload_n C.1 0 rfl rfl dX3_morning_90 ?_
      refine v_chk (fun h34 => ?_)
      refine v_hget C (v := va_rf (hR u30 p0 0)) 2 0 (eq_of_beq h34) (by decide) rfl in_X3 (by decide) (Or.inl q254) (fun _ h => h) (hF_r (ci := 2) (eq_of_beq h34) (by decide)) dX3_morning_91 ?_
      refine v_deref (fun a35 e36 => ?_)
      refine v_iload_n C.1 1 rfl rfl dX3_morning_94 ?_
      refine v_chk (fun h37 => ?_)
      refine v_haiald C h37 dX3_morning_95 ?_
      refine v_isub C.1 dX3_morning_96 ?_
      refine v_bipush C.1 10 (by decide) dX3_morning_97 ?_
      refine v_icmp_lt C.1 107 (by decide) dX3_morning_99 (fun _ => ?_) (fun _ => ?_)
      · refine v_iinc C.1 1 [(1, .int (x1 + 1)), (0, .ref p0)] 1 rfl (by decide) (by decide) rfl dX3_morning_107 ?_
        refine v_goto C.1 36 (by decide) dX3_morning_110 ?_
        refine v_sub [1, 0] rfl ?_
        exact hk (x1 + 1) u30
      · refine v_aload_n C.1 0 rfl rfl dX3_morning_102 ?_
        refine v_iload_n C.1 1 rfl rfl dX3_morning_103 ?_
        refine v_chk (fun h39 => ?_)
        refine v_callVH C [.int x1] [] (ctX3_die t G l hl0 p0 x1 u30) (fun _ _ => cwX3_die C q652 (by decide)) (recO C (ci := 2) (eq_of_beq h39) (by decide) rfl) rfl rfl (by exact Nat.le_of_ble_eq_true rfl) dX3_morning_104 (fun _ u38 => ?_)
        refine v_iinc C.1 1 [(1, .int (x1 + 1)), (0, .ref p0)] 1 rfl (by decide) (by decide) rfl dX3_morning_107 ?_
        refine v_goto C.1 36 (by decide) dX3_morning_110 ?_
        refine v_sub [1, 0] rfl ?_
        exact hk (x1 + 1) u38
def hX3_morning_2 (p0 : Nat) (k : Int32 → HS → Option (OH Nat)) (x1 : Int32) (u : HS) : Option (OH Nat) :=
  mchk (hC u p0 == 3) <|
  mderef (hR u p0 11) fun a2 =>
  mchk (hC u a2 == 1) <|
  mderef (hR u a2 2) fun a5 =>
  mchk (hC u a5 == 2) <|
  if (hI u a5 7) ≤ x1 then
    ml1 (hX3_morning_36 p0) FUEL 0 u
  else
    mchk (hC u p0 == 3) <|
    if (hI u p0 10) = 0 then
      ml1 (hX3_morning_36 p0) FUEL 0 u
    else
      mchk (hC u p0 == 3) <|
      hb (hX3_writes p0 x1 u) fun _ u9 =>
      k (x1 + 1) u9
theorem whX3_morning_2 {K1 K2 : Nat} {p : Program} {e : Env} {s : State} {m : MethodId} {args : Array Value} {below : List Frame} {meth : Method} {c : Code} (hl0 : l.stackTraces = false) (C : CxH t G l p s m args meth c yX3_morning cX3_morning 2 (some (.object "WhiteBoard$Board"))) (p0 : Nat) (n : Nat) (x1 : Int32) (u : HS) : VH mkA t G p l e 422 K1 K2 s m args below meth c 2 2 [(0, .ref p0), (1, .int x1)] [] u (ml1 (hX3_morning_2 p0) n x1 u) := by
  refine vl1 (L := fun x1 => [(0, .ref p0), (1, .int x1)]) (fun k hk x1 u => ?_) n x1 u
  unfold hX3_morning_2
  refine v_iload_n C.1 1 rfl rfl dX3_morning_2 ?_
  refine v_aload_n C.1 0 rfl rfl dX3_morning_3 ?_
  refine v_chk (fun h1 => ?_)
  refine v_hget C (v := va_rf (hR u p0 11)) 2 11 (eq_of_beq h1) (by decide) rfl in_X3 (by decide) (Or.inl q278) (fun _ h => h) (hF_r (ci := 2) (eq_of_beq h1) (by decide)) dX3_morning_4 ?_
  refine v_deref (fun a2 e3 => ?_)
  refine v_chk (fun h4 => ?_)
  refine v_hget C (v := va_rf (hR u a2 2)) 0 2 (eq_of_beq h4) (by decide) rfl in_X1 (by decide) (Or.inr ⟨_, q310⟩) (fun _ h => h) (hF_r (ci := 0) (eq_of_beq h4) (by decide)) dX3_morning_7 ?_
  refine v_deref (fun a5 e6 => ?_)
  refine v_chk (fun h7 => ?_)
  refine v_hget C (v := .int (hI u a5 7)) 1 7 (eq_of_beq h7) (by decide) rfl in_X2 (by decide) (Or.inr ⟨_, q223⟩) (fun _ h => h) (hF_i (ci := 1) (eq_of_beq h7) (by decide)) dX3_morning_10 ?_
  refine v_icmp_ge C.1 34 (by decide) dX3_morning_13 (fun _ => ?_) (fun _ => ?_)
  · refine v_iconst C.1 0 (by decide) dX3_morning_34 ?_
    refine v_istore_n C.1 [(1, .int 0), (0, .ref p0)] rfl (by decide) rfl dX3_morning_35 ?_
    refine v_sub [1, 0] rfl ?_
    exact whX3_morning_36 hl0 C p0 FUEL 0 u
  · refine v_aload_n C.1 0 rfl rfl dX3_morning_16 ?_
    refine v_chk (fun h8 => ?_)
    refine v_hget C (v := .int (hI u p0 10)) 2 10 (eq_of_beq h8) (by decide) rfl in_X3 (by decide) (Or.inl q276) (fun _ h => h) (hF_i (ci := 2) (eq_of_beq h8) (by decide)) dX3_morning_17 ?_
    refine v_if_eq C.1 34 (by decide) dX3_morning_20 (fun _ => ?_) (fun _ => ?_)
    · refine v_iconst C.1 0 (by decide) dX3_morning_34 ?_
      refine v_istore_n C.1 [(1, .int 0), (0, .ref p0)] rfl (by decide) rfl dX3_morning_35 ?_
      refine v_sub [1, 0] rfl ?_
      exact whX3_morning_36 hl0 C p0 FUEL 0 u
    · refine v_aload_n C.1 0 rfl rfl dX3_morning_23 ?_
      refine v_iload_n C.1 1 rfl rfl dX3_morning_24 ?_
      refine v_chk (fun h10 => ?_)
      refine v_callVH C [.int x1] [] (ctX3_writes t G l hl0 p0 x1 u) (fun _ _ => cwX3_writes C q494 (by decide)) (recO C (ci := 2) (eq_of_beq h10) (by decide) rfl) rfl rfl (by exact Nat.le_of_ble_eq_true rfl) dX3_morning_25 (fun _ u9 => ?_)
      refine v_iinc C.1 1 [(1, .int (x1 + 1)), (0, .ref p0)] 1 rfl (by decide) (by decide) rfl dX3_morning_28 ?_
      refine v_goto C.1 2 (by decide) dX3_morning_31 ?_
      refine v_sub [1, 0] rfl ?_
      exact hk (x1 + 1) u9
def hX3_morning (p0 : Nat) (u : HS) : Option (OH Nat) :=
  ml1 (hX3_morning_2 p0) FUEL 0 u
theorem ctX3_morning (t : TT) (G : GH) (l : Launch) (hl0 : l.stackTraces = false) (p0 : Nat) (u : HS) : CtH mkA t G l yX3_morning cX3_morning 2 (some (.object "WhiteBoard$Board")) 422 [.ref p0] u (hX3_morning p0 u) := by
  refine ctH_of [(0, .ref p0)] hl0 rfl (Nat.le_of_ble_eq_true rfl) rfl (fun K1 K2 p e s m args below meth c C => ?_)
  unfold hX3_morning
  refine v_iconst C.1 0 (by decide) dX3_morning_0 ?_
  refine v_istore_n C.1 [(1, .int 0), (0, .ref p0)] rfl (by decide) rfl dX3_morning_1 ?_
  refine v_sub [1, 0] rfl ?_
  exact whX3_morning_2 hl0 C p0 FUEL 0 u
theorem cwX3_morning {t : TT} {G : GH} {l : Launch} {p : Program} {s : State} {m : MethodId} {args : Array Value} {meth : Method} {c : Code} {y0 : MethodName} {cc0 : ByteArray} {nL0 : Nat} {ret0 : Option FieldType} (C : CxH t G l p s m args meth c y0 cc0 nL0 ret0) {index lv mc ms K1 K2 : Nat} (hq : Cond.methodLink y0.cls index yX3_morning ∈ lw_all) (hR : 422 + 1 ≤ lv) : CallW (rmH lv K1 K2) s args y0.cls RX3 index yX3_morning cX3_morning 2 (some (.object "WhiteBoard$Board")) (ws_ yX3_morning cX3_morning 2 (some (.object "WhiteBoard$Board"))) (rmH 422 mc ms) mc ms 0 :=
  cwV 0 C.1.2.2.2.2.1 (lw_V hq q491 q492 q126 q493) rfl rfl rfl (by decide +kernel) ⟨hR, by show 8 + (2 + 11) + 100 * 422 ≤ 100 * lv; omega⟩
def hX3_after_8 (p0 : Nat) (p1 : Int32) (k : Int32 → Int32 → HS → Option (OH Nat)) (x2 : Int32) (x3 : Int32) (u : HS) : Option (OH Nat) :=
  if x2 ≤ x3 then
    hret p0 u
  else
    mchk (hC u p0 == 3) <|
    hb (hX3_morning p0 u) fun r2 u1 =>
    k x2 (x3 + 1) u1
theorem whX3_after_8 {K1 K2 : Nat} {p : Program} {e : Env} {s : State} {m : MethodId} {args : Array Value} {below : List Frame} {meth : Method} {c : Code} (hl0 : l.stackTraces = false) (C : CxH t G l p s m args meth c yX3_after cX3_after 4 (some (.object "WhiteBoard$Board"))) (p0 : Nat) (p1 : Int32) (n : Nat) (x2 : Int32) (x3 : Int32) (u : HS) : VH mkA t G p l e 423 K1 K2 s m args below meth c 4 8 [(0, .ref p0), (2, .int x2), (3, .int x3)] [] u (ml2 (hX3_after_8 p0 p1) n x2 x3 u) := by
  refine vl2 (L := fun x2 x3 => [(0, .ref p0), (2, .int x2), (3, .int x3)]) (fun k hk x2 x3 u => ?_) n x2 x3 u
  unfold hX3_after_8
  refine v_iload_n C.1 2 rfl rfl dX3_after_8 ?_
  refine v_iload_n C.1 1 rfl rfl dX3_after_9 ?_
  refine v_icmp_ge C.1 24 (by decide) dX3_after_10 (fun _ => ?_) (fun _ => ?_)
  · refine v_aload_n C.1 0 rfl rfl dX3_after_24 ?_
    exact v_haret C (Or.inl ⟨_, rfl⟩) dX3_after_25
  · refine v_aload_n C.1 0 rfl rfl dX3_after_13 ?_
    refine v_chk (fun h3 => ?_)
    refine v_callVH C [] [] (ctX3_morning t G l hl0 p0 u) (fun _ _ => cwX3_morning C q490 (by decide)) (recO C (ci := 2) (eq_of_beq h3) (by decide) rfl) rfl rfl (by exact Nat.le_of_ble_eq_true rfl) dX3_after_14 (fun r2 u1 => ?_)
    refine v_pop C.1 rfl dX3_after_17 ?_
    refine v_iinc C.1 1 [(3, .int (x3 + 1)), (0, .ref p0), (2, .int x2)] 2 rfl (by decide) (by decide) rfl dX3_after_18 ?_
    refine v_goto C.1 8 (by decide) dX3_after_21 ?_
    refine v_sub [1, 2, 0] rfl ?_
    exact hk x2 (x3 + 1) u1
def hX3_after (p0 : Nat) (p1 : Int32) (u : HS) : Option (OH Nat) :=
  mchk (hC u p0 == 3) <|
  hb (hX3_ahead p0 p1 u) fun r2 u1 =>
  ml2 (hX3_after_8 p0 p1) FUEL r2 0 u1
theorem ctX3_after (t : TT) (G : GH) (l : Launch) (hl0 : l.stackTraces = false) (p0 : Nat) (p1 : Int32) (u : HS) : CtH mkA t G l yX3_after cX3_after 4 (some (.object "WhiteBoard$Board")) 423 [.ref p0, .int p1] u (hX3_after p0 p1 u) := by
  refine ctH_of [(0, .ref p0), (1, .int p1)] hl0 rfl (Nat.le_of_ble_eq_true rfl) rfl (fun K1 K2 p e s m args below meth c C => ?_)
  unfold hX3_after
  refine v_aload_n C.1 0 rfl rfl dX3_after_0 ?_
  refine v_iload_n C.1 1 rfl rfl dX3_after_1 ?_
  refine v_chk (fun h3 => ?_)
  refine v_callVH C [.int p1] [] (ctX3_ahead t G l hl0 p0 p1 u) (fun _ _ => cwX3_ahead C q485 (by decide)) (recO C (ci := 2) (eq_of_beq h3) (by decide) rfl) rfl rfl (by exact Nat.le_of_ble_eq_true rfl) dX3_after_2 (fun r2 u1 => ?_)
  refine v_istore_n C.1 [(2, .int r2), (0, .ref p0), (1, .int p1)] rfl (by decide) rfl dX3_after_5 ?_
  refine v_iconst C.1 0 (by decide) dX3_after_6 ?_
  refine v_istore_n C.1 [(3, .int 0), (2, .int r2), (0, .ref p0), (1, .int p1)] rfl (by decide) rfl dX3_after_7 ?_
  refine v_sub [2, 1, 0] rfl ?_
  exact whX3_after_8 hl0 C p0 p1 FUEL r2 0 u1
theorem cwX3_after {t : TT} {G : GH} {l : Launch} {p : Program} {s : State} {m : MethodId} {args : Array Value} {meth : Method} {c : Code} {y0 : MethodName} {cc0 : ByteArray} {nL0 : Nat} {ret0 : Option FieldType} (C : CxH t G l p s m args meth c y0 cc0 nL0 ret0) {index lv mc ms K1 K2 : Nat} (hq : Cond.methodLink y0.cls index yX3_after ∈ lw_all) (hR : 423 + 1 ≤ lv) : CallW (rmH lv K1 K2) s args y0.cls RX3 index yX3_after cX3_after 4 (some (.object "WhiteBoard$Board")) (ws_ yX3_after cX3_after 4 (some (.object "WhiteBoard$Board"))) (rmH 423 mc ms) mc ms 1 :=
  cwV 1 C.1.2.2.2.2.1 (lw_V hq q482 q483 q126 q484) rfl rfl rfl (by decide +kernel) ⟨hR, by show 8 + (4 + 11) + 100 * 423 ≤ 100 * lv; omega⟩
def hX1_mornings_24 (p0 : Nat) (p1 : Int32) (u : HS) : Option (OH Int32) :=
  mchk (hC u p0 == 1) <|
  hb (hX1_refuse p0 1 u) fun r2 u1 =>
  hret r2 u1
theorem whX1_mornings_24 {K1 K2 : Nat} {p : Program} {e : Env} {s : State} {m : MethodId} {args : Array Value} {below : List Frame} {meth : Method} {c : Code} (hl0 : l.stackTraces = false) (C : CxH t G l p s m args meth c yX1_mornings cX1_mornings 2 (some .int)) (p0 : Nat) (p1 : Int32) (u : HS) : VH mkI t G p l e 424 K1 K2 s m args below meth c 2 24 [(0, .ref p0)] [] u (hX1_mornings_24 p0 p1 u) := by
  unfold hX1_mornings_24
  refine v_aload_n C.1 0 rfl rfl dX1_mornings_24 ?_
  refine v_iconst C.1 1 (by decide) dX1_mornings_25 ?_
  refine v_chk (fun h3 => ?_)
  refine v_callVH C [.int 1] [] (ctX1_refuse t G l hl0 p0 1 u) (fun _ _ => cwX1_refuse C q369 (by decide)) (recO C (ci := 0) (eq_of_beq h3) (by decide) rfl) rfl rfl (by exact Nat.le_of_ble_eq_true rfl) dX1_mornings_26 (fun r2 u1 => ?_)
  exact v_hiret C dX1_mornings_29
def hX1_mornings (p0 : Nat) (p1 : Int32) (u : HS) : Option (OH Int32) :=
  hb (hX1_in p1 1 20 u) fun r2 u1 =>
  if r2 = 0 then
    hX1_mornings_24 p0 p1 u1
  else
    mchk (hC u1 p0 == 1) <|
    mderef (hR u1 p0 3) fun a4 =>
    mchk (hC u1 a4 == 3) <|
    if ((hI u1 a4 6) + p1) ≤ 60 then
      mchk (hC u1 p0 == 1) <|
      hb (hX1_keep p0 u1) fun _ u7 =>
      mchk (hC u7 p0 == 1) <|
      mderef (hR u7 p0 3) fun a10 =>
      mchk (hC u7 a10 == 3) <|
      hb (hX3_after a10 p1 u7) fun r13 u12 =>
      mchk (hC u12 p0 == 1) <|
      mderef (hR u12 p0 3) fun a16 =>
      mchk (hC u12 a16 == 3) <|
      hret (hI u12 a16 6) u12
    else
      hX1_mornings_24 p0 p1 u1
theorem ctX1_mornings (t : TT) (G : GH) (l : Launch) (hl0 : l.stackTraces = false) (p0 : Nat) (p1 : Int32) (u : HS) : CtH mkI t G l yX1_mornings cX1_mornings 2 (some .int) 424 [.ref p0, .int p1] u (hX1_mornings p0 p1 u) := by
  refine ctH_of [(0, .ref p0), (1, .int p1)] hl0 rfl (Nat.le_of_ble_eq_true rfl) rfl (fun K1 K2 p e s m args below meth c C => ?_)
  unfold hX1_mornings
  refine v_iload_n C.1 1 rfl rfl dX1_mornings_0 ?_
  refine v_iconst C.1 1 (by decide) dX1_mornings_1 ?_
  refine v_bipush C.1 20 (by decide) dX1_mornings_2 ?_
  refine v_callSH C [.int p1, .int 1, .int 20] [] (ctX1_in t G l hl0 p1 1 20 u) (fun _ _ => cwX1_in C q366 (by decide)) rfl rfl (by exact Nat.le_of_ble_eq_true rfl) dX1_mornings_4 (fun r2 u1 => ?_)
  refine v_if_eq C.1 24 (by decide) dX1_mornings_7 (fun _ => ?_) (fun _ => ?_)
  · refine v_sub [0] rfl ?_
    exact whX1_mornings_24 hl0 C p0 p1 u1
  · refine v_aload_n C.1 0 rfl rfl dX1_mornings_10 ?_
    refine v_chk (fun h3 => ?_)
    refine v_hget C (v := va_rf (hR u1 p0 3)) 0 3 (eq_of_beq h3) (by decide) rfl in_X1 (by decide) (Or.inl q312) (fun _ h => h) (hF_r (ci := 0) (eq_of_beq h3) (by decide)) dX1_mornings_11 ?_
    refine v_deref (fun a4 e5 => ?_)
    refine v_chk (fun h6 => ?_)
    refine v_hget C (v := .int (hI u1 a4 6)) 2 6 (eq_of_beq h6) (by decide) rfl in_X3 (by decide) (Or.inr ⟨_, q269⟩) (fun _ h => h) (hF_i (ci := 2) (eq_of_beq h6) (by decide)) dX1_mornings_14 ?_
    refine v_iload_n C.1 1 rfl rfl dX1_mornings_17 ?_
    refine v_iadd C.1 dX1_mornings_18 ?_
    refine v_bipush C.1 60 (by decide) dX1_mornings_19 ?_
    refine v_icmp_le C.1 30 (by decide) dX1_mornings_21 (fun _ => ?_) (fun _ => ?_)
    · refine v_aload_n C.1 0 rfl rfl dX1_mornings_30 ?_
      refine v_chk (fun h8 => ?_)
      refine v_callVH C [] [] (ctX1_keep t G l hl0 p0 u1) (fun _ _ => cwX1_keep C q373 (by decide)) (recO C (ci := 0) (eq_of_beq h8) (by decide) rfl) rfl rfl (by exact Nat.le_of_ble_eq_true rfl) dX1_mornings_31 (fun _ u7 => ?_)
      refine v_aload_n C.1 0 rfl rfl dX1_mornings_34 ?_
      refine v_chk (fun h9 => ?_)
      refine v_hget C (v := va_rf (hR u7 p0 3)) 0 3 (eq_of_beq h9) (by decide) rfl in_X1 (by decide) (Or.inl q312) (fun _ h => h) (hF_r (ci := 0) (eq_of_beq h9) (by decide)) dX1_mornings_35 ?_
      refine v_deref (fun a10 e11 => ?_)
      refine v_iload_n C.1 1 rfl rfl dX1_mornings_38 ?_
      refine v_chk (fun h14 => ?_)
      refine v_callVH C [.int p1] [] (ctX3_after t G l hl0 a10 p1 u7) (fun _ _ => cwX3_after C q481 (by decide)) (recO C (ci := 2) (eq_of_beq h14) (by decide) rfl) rfl rfl (by exact Nat.le_of_ble_eq_true rfl) dX1_mornings_39 (fun r13 u12 => ?_)
      refine v_pop C.1 rfl dX1_mornings_42 ?_
      refine v_aload_n C.1 0 rfl rfl dX1_mornings_43 ?_
      refine v_chk (fun h15 => ?_)
      refine v_hget C (v := va_rf (hR u12 p0 3)) 0 3 (eq_of_beq h15) (by decide) rfl in_X1 (by decide) (Or.inl q312) (fun _ h => h) (hF_r (ci := 0) (eq_of_beq h15) (by decide)) dX1_mornings_44 ?_
      refine v_deref (fun a16 e17 => ?_)
      refine v_chk (fun h18 => ?_)
      refine v_hget C (v := .int (hI u12 a16 6)) 2 6 (eq_of_beq h18) (by decide) rfl in_X3 (by decide) (Or.inr ⟨_, q269⟩) (fun _ h => h) (hF_i (ci := 2) (eq_of_beq h18) (by decide)) dX1_mornings_47 ?_
      exact v_hiret C dX1_mornings_50
    · refine v_sub [0] rfl ?_
      exact whX1_mornings_24 hl0 C p0 p1 u1
theorem cwX1_mornings {t : TT} {G : GH} {l : Launch} {p : Program} {s : State} {m : MethodId} {args : Array Value} {meth : Method} {c : Code} {y0 : MethodName} {cc0 : ByteArray} {nL0 : Nat} {ret0 : Option FieldType} (C : CxH t G l p s m args meth c y0 cc0 nL0 ret0) {index lv mc ms K1 K2 : Nat} (hq : Cond.methodLink y0.cls index yX1_mornings ∈ lw_all) (hR : 424 + 1 ≤ lv) : CallW (rmH lv K1 K2) s args y0.cls RX1 index yX1_mornings cX1_mornings 2 (some .int) (ws_ yX1_mornings cX1_mornings 2 (some .int)) (rmH 424 mc ms) mc ms 1 :=
  cwV 1 C.1.2.2.2.2.1 (lw_V hq q363 q364 q121 q365) rfl rfl rfl (by decide +kernel) ⟨hR, by show 8 + (2 + 11) + 100 * 424 ≤ 100 * lv; omega⟩
def hX1_refuses (p0 : Nat) (u : HS) : Option (OH Int32) :=
  mchk (hC u p0 == 1) <|
  mderef (hR u p0 7) fun a2 =>
  mchk (inA u 1 a2 21) <|
  mchk (inA u 1 a2 21) <|
  mlet (uA u a2 (1 : Int32).toNatClampNeg ((hA u a2 (1 : Int32).toNatClampNeg) + 1)) fun u5 =>
  hz id 0 u5
theorem ctX1_refuses (t : TT) (G : GH) (l : Launch) (hl0 : l.stackTraces = false) (p0 : Nat) (u : HS) : CtH mkI t G l yX1_refuses cX1_refuses 1 (some .boolean) 2 [.ref p0] u (hX1_refuses p0 u) := by
  refine ctH_of [(0, .ref p0)] hl0 rfl (Nat.le_of_ble_eq_true rfl) rfl (fun K1 K2 p e s m args below meth c C => ?_)
  unfold hX1_refuses
  refine v_aload_n C.1 0 rfl rfl dX1_refuses_0 ?_
  refine v_chk (fun h1 => ?_)
  refine v_hget C (v := va_rf (hR u p0 7)) 0 7 (eq_of_beq h1) (by decide) rfl in_X1 (by decide) (Or.inl q317) (fun _ h => h) (hF_r (ci := 0) (eq_of_beq h1) (by decide)) dX1_refuses_1 ?_
  refine v_deref (fun a2 e3 => ?_)
  refine v_iconst C.1 1 (by decide) dX1_refuses_4 ?_
  refine v_dup2 C.1 rfl rfl dX1_refuses_5 ?_
  refine v_chk (fun h4 => ?_)
  refine v_haiald C h4 dX1_refuses_6 ?_
  refine v_iconst C.1 1 (by decide) dX1_refuses_7 ?_
  refine v_iadd C.1 dX1_refuses_8 ?_
  refine v_chk (fun h6 => ?_)
  refine v_haiast C h6 dX1_refuses_9 (fun u5 => ?_)
  refine v_iconst C.1 0 (by decide) dX1_refuses_10 ?_
  exact v_hzret C dX1_refuses_11
theorem cwX1_refuses {t : TT} {G : GH} {l : Launch} {p : Program} {s : State} {m : MethodId} {args : Array Value} {meth : Method} {c : Code} {y0 : MethodName} {cc0 : ByteArray} {nL0 : Nat} {ret0 : Option FieldType} (C : CxH t G l p s m args meth c y0 cc0 nL0 ret0) {index lv mc ms K1 K2 : Nat} (hq : Cond.methodLink y0.cls index yX1_refuses ∈ lw_all) (hR : 2 + 1 ≤ lv) : CallW (rmH lv K1 K2) s args y0.cls RX1 index yX1_refuses cX1_refuses 1 (some .boolean) (ws_ yX1_refuses cX1_refuses 1 (some .boolean)) (rmH 2 mc ms) mc ms 0 :=
  cwV 0 C.1.2.2.2.2.1 (lw_V hq q671 qs8 q121 q672) rfl rfl rfl (by decide +kernel) ⟨hR, by show 8 + (1 + 11) + 100 * 2 ≤ 100 * lv; omega⟩
def hX1_open (p0 : Nat) (p1 : Int32) (u : HS) : Option (OH Int32) :=
  mchk (hC u p0 == 1) <|
  mderef (hR u p0 3) fun a2 =>
  mchk (hC u a2 == 3) <|
  if (hI u a2 10) = p1 then
    mchk (hC u p0 == 1) <|
    hb (hX1_refuses p0 u) fun r6 u5 =>
    hz id r6 u5
  else
    mchk (hC u p0 == 1) <|
    hb (hX1_keep p0 u) fun _ u5 =>
    mchk (hC u5 p0 == 1) <|
    mderef (hR u5 p0 3) fun a8 =>
    mchk (hC u5 a8 == 3) <|
    mchk (isB p1) <|
    mlet (uI u5 a8 10 p1) fun u11 =>
    hz id 1 u11
theorem ctX1_open (t : TT) (G : GH) (l : Launch) (hl0 : l.stackTraces = false) (p0 : Nat) (p1 : Int32) (u : HS) : CtH mkI t G l yX1_open cX1_open 2 (some .boolean) 9 [.ref p0, .int p1] u (hX1_open p0 p1 u) := by
  refine ctH_of [(0, .ref p0), (1, .int p1)] hl0 rfl (Nat.le_of_ble_eq_true rfl) rfl (fun K1 K2 p e s m args below meth c C => ?_)
  unfold hX1_open
  refine v_aload_n C.1 0 rfl rfl dX1_open_0 ?_
  refine v_chk (fun h1 => ?_)
  refine v_hget C (v := va_rf (hR u p0 3)) 0 3 (eq_of_beq h1) (by decide) rfl in_X1 (by decide) (Or.inl q312) (fun _ h => h) (hF_r (ci := 0) (eq_of_beq h1) (by decide)) dX1_open_1 ?_
  refine v_deref (fun a2 e3 => ?_)
  refine v_chk (fun h4 => ?_)
  refine v_hget C (v := .int (hI u a2 10)) 2 10 (eq_of_beq h4) (by decide) rfl in_X3 (by decide) (Or.inr ⟨_, q277⟩) (fun _ h => h) (hF_i (ci := 2) (eq_of_beq h4) (by decide)) dX1_open_4 ?_
  refine v_iload_n C.1 1 rfl rfl dX1_open_7 ?_
  refine v_icmp_ne C.1 16 (by decide) dX1_open_8 (fun _ => ?_) (fun _ => ?_)
  · refine v_aload_n C.1 0 rfl rfl dX1_open_11 ?_
    refine v_chk (fun h7 => ?_)
    refine v_callVH C [] [] (ctX1_refuses t G l hl0 p0 u) (fun _ _ => cwX1_refuses C q669 (by decide)) (recO C (ci := 0) (eq_of_beq h7) (by decide) rfl) rfl rfl (by exact Nat.le_of_ble_eq_true rfl) dX1_open_12 (fun r6 u5 => ?_)
    exact v_hzret C dX1_open_15
  · refine v_aload_n C.1 0 rfl rfl dX1_open_16 ?_
    refine v_chk (fun h6 => ?_)
    refine v_callVH C [] [] (ctX1_keep t G l hl0 p0 u) (fun _ _ => cwX1_keep C q373 (by decide)) (recO C (ci := 0) (eq_of_beq h6) (by decide) rfl) rfl rfl (by exact Nat.le_of_ble_eq_true rfl) dX1_open_17 (fun _ u5 => ?_)
    refine v_aload_n C.1 0 rfl rfl dX1_open_20 ?_
    refine v_chk (fun h7 => ?_)
    refine v_hget C (v := va_rf (hR u5 p0 3)) 0 3 (eq_of_beq h7) (by decide) rfl in_X1 (by decide) (Or.inl q312) (fun _ h => h) (hF_r (ci := 0) (eq_of_beq h7) (by decide)) dX1_open_21 ?_
    refine v_deref (fun a8 e9 => ?_)
    refine v_iload_n C.1 1 rfl rfl dX1_open_24 ?_
    refine v_chk (fun h10 => ?_)
    refine v_chk (fun h12 => ?_)
    refine v_hputIN C 2 10 (eq_of_beq h10) (by decide) rfl in_X3 tyX3 tyX3_ok nmX3 (by decide) (by decide) q277 (fun _ h => h) (Or.inl rfl) rfl (fitv_z h12) dX1_open_25 (fun u11 => ?_)
    refine v_iconst C.1 1 (by decide) dX1_open_28 ?_
    exact v_hzret C dX1_open_29
theorem cwX1_open {t : TT} {G : GH} {l : Launch} {p : Program} {s : State} {m : MethodId} {args : Array Value} {meth : Method} {c : Code} {y0 : MethodName} {cc0 : ByteArray} {nL0 : Nat} {ret0 : Option FieldType} (C : CxH t G l p s m args meth c y0 cc0 nL0 ret0) {index lv mc ms K1 K2 : Nat} (hq : Cond.methodLink y0.cls index yX1_open ∈ lw_all) (hR : 9 + 1 ≤ lv) : CallW (rmH lv K1 K2) s args y0.cls RX1 index yX1_open cX1_open 2 (some .boolean) (ws_ yX1_open cX1_open 2 (some .boolean)) (rmH 9 mc ms) mc ms 1 :=
  cwV 1 C.1.2.2.2.2.1 (lw_V hq q666 q667 q121 q668) rfl rfl rfl (by decide +kernel) ⟨hR, by show 8 + (2 + 11) + 100 * 9 ≤ 100 * lv; omega⟩
def hJ2_isEmpty (p0 : Nat) (u : HS) : Option (OH Int32) :=
  mchk (hC u p0 == 12) <|
  if (hI u p0 2) = 0 then
    hz id 1 u
  else
    hz id 0 u
theorem ctJ2_isEmpty (t : TT) (G : GH) (l : Launch) (hl0 : l.stackTraces = false) (p0 : Nat) (u : HS) : CtH mkI t G l yJ2_isEmpty cJ2_isEmpty 1 (some .boolean) 2 [.ref p0] u (hJ2_isEmpty p0 u) := by
  refine ctH_of [(0, .ref p0)] hl0 rfl (Nat.le_of_ble_eq_true rfl) rfl (fun K1 K2 p e s m args below meth c C => ?_)
  unfold hJ2_isEmpty
  refine v_aload_n C.1 0 rfl rfl dJ2_isEmpty_0 ?_
  refine v_chk (fun h1 => ?_)
  refine v_hget C (v := .int (hI u p0 2)) 11 2 (eq_of_beq h1) (by decide) rfl in_J2 (by decide) (Or.inl q184) (fun _ h => h) (hF_i (ci := 11) (eq_of_beq h1) (by decide)) dJ2_isEmpty_1 ?_
  refine v_if_ne C.1 11 (by decide) dJ2_isEmpty_4 (fun _ => ?_) (fun _ => ?_)
  · refine v_iconst C.1 1 (by decide) dJ2_isEmpty_7 ?_
    refine v_goto C.1 12 (by decide) dJ2_isEmpty_8 ?_
    exact v_hzret C dJ2_isEmpty_12
  · refine v_iconst C.1 0 (by decide) dJ2_isEmpty_11 ?_
    exact v_hzret C dJ2_isEmpty_12
theorem cwJ2_isEmptyF {t : TT} {G : GH} {l : Launch} {p : Program} {s : State} {m : MethodId} {args : Array Value} {meth : Method} {c : Code} {y0 : MethodName} {cc0 : ByteArray} {nL0 : Nat} {ret0 : Option FieldType} (C : CxH t G l p s m args meth c y0 cc0 nL0 ret0) {index lv mc ms K1 K2 : Nat} (hq : Cond.methodLink y0.cls index (⟨"java/util/List", "isEmpty", "()Z"⟩ : MethodName) ∈ lw_all) (hR : 2 + 1 ≤ lv) : va_CI (rmH lv K1 K2) s args y0.cls RJ2 index (⟨"java/util/List", "isEmpty", "()Z"⟩ : MethodName) yJ2_isEmpty cJ2_isEmpty 1 (some .boolean) (ws_ yJ2_isEmpty cJ2_isEmpty 1 (some .boolean)) (rmH 2 mc ms) mc ms 0 :=
  va_cwF 0 C.1.2.2.2.2.1 (lw_F hq q681 q683 q125 q685) rfl rfl rfl (C.1.2.2.2.2.2.2.2.2.2.2.1 _ (List.mem_of_getElem? (i := 4) rfl)) (by decide +kernel) ⟨hR, by show 8 + (1 + 11) + 100 * 2 ≤ 100 * lv; omega⟩
def hX1_undo (p0 : Nat) (u : HS) : Option (OH Int32) :=
  mchk (hC u p0 == 1) <|
  mderef (hR u p0 8) fun a2 =>
  mchk (hC u a2 == 12) <|
  hb (hJ2_isEmpty a2 u) fun r5 u4 =>
  if r5 = 0 then
    mchk (hC u4 p0 == 1) <|
    mderef (hR u4 p0 8) fun a8 =>
    mchk (hC u4 p0 == 1) <|
    mderef (hR u4 p0 8) fun a11 =>
    mchk (hC u4 a11 == 12) <|
    hb (hJ2_size a11 u4) fun r14 u13 =>
    mchk (hC u13 a8 == 12) <|
    hb (hJ2_remove a8 (r14 - 1) u13) fun r17 u16 =>
    mchk (hC u16 r17 == 3) <|
    mchk (hC u16 r17 == 3) <|
    hb (hX3_copy r17 u16) fun r21 u20 =>
    mchk (hC u20 p0 == 1) <|
    mlet (uR u20 p0 3 (some r21)) fun u24 =>
    mchk (hC u24 p0 == 1) <|
    mderef (hR u24 p0 8) fun a26 =>
    mchk (hC u24 a26 == 12) <|
    hb (hJ2_size a26 u24) fun r29 u28 =>
    hret r29 u28
  else
    hret (-1) u4
theorem ctX1_undo (t : TT) (G : GH) (l : Launch) (hl0 : l.stackTraces = false) (p0 : Nat) (u : HS) : CtH mkI t G l yX1_undo cX1_undo 1 (some .int) 7 [.ref p0] u (hX1_undo p0 u) := by
  refine ctH_of [(0, .ref p0)] hl0 rfl (Nat.le_of_ble_eq_true rfl) rfl (fun K1 K2 p e s m args below meth c C => ?_)
  unfold hX1_undo
  refine v_aload_n C.1 0 rfl rfl dX1_undo_0 ?_
  refine v_chk (fun h1 => ?_)
  refine v_hget C (v := va_rf (hR u p0 8)) 0 8 (eq_of_beq h1) (by decide) rfl in_X1 (by decide) (Or.inl q318) (fun _ h => h) (hF_r (ci := 0) (eq_of_beq h1) (by decide)) dX1_undo_1 ?_
  refine v_deref (fun a2 e3 => ?_)
  refine v_chk (fun h6 => ?_)
  refine v_callFH C [] [] (ctJ2_isEmpty t G l hl0 a2 u) (fun _ _ => cwJ2_isEmptyF C q678 (by decide)) (eq_of_beq h6) (by decide) rfl rfl rfl (by exact Nat.le_of_ble_eq_true rfl) dX1_undo_4 (fun r5 u4 => ?_)
  refine v_if_eq C.1 14 (by decide) dX1_undo_9 (fun _ => ?_) (fun _ => ?_)
  · refine v_aload_n C.1 0 rfl rfl dX1_undo_14 ?_
    refine v_aload_n C.1 0 rfl rfl dX1_undo_15 ?_
    refine v_chk (fun h7 => ?_)
    refine v_hget C (v := va_rf (hR u4 p0 8)) 0 8 (eq_of_beq h7) (by decide) rfl in_X1 (by decide) (Or.inl q318) (fun _ h => h) (hF_r (ci := 0) (eq_of_beq h7) (by decide)) dX1_undo_16 ?_
    refine v_deref (fun a8 e9 => ?_)
    refine v_aload_n C.1 0 rfl rfl dX1_undo_19 ?_
    refine v_chk (fun h10 => ?_)
    refine v_hget C (v := va_rf (hR u4 p0 8)) 0 8 (eq_of_beq h10) (by decide) rfl in_X1 (by decide) (Or.inl q318) (fun _ h => h) (hF_r (ci := 0) (eq_of_beq h10) (by decide)) dX1_undo_20 ?_
    refine v_deref (fun a11 e12 => ?_)
    refine v_chk (fun h15 => ?_)
    refine v_callFH C [] [.ref a8, .ref p0] (ctJ2_size t G l hl0 a11 u4) (fun _ _ => cwJ2_sizeF C q453 (by decide)) (eq_of_beq h15) (by decide) rfl rfl rfl (by exact Nat.le_of_ble_eq_true rfl) dX1_undo_23 (fun r14 u13 => ?_)
    refine v_iconst C.1 1 (by decide) dX1_undo_28 ?_
    refine v_isub C.1 dX1_undo_29 ?_
    refine v_chk (fun h18 => ?_)
    refine v_callFH C [.int (r14 - 1)] [.ref p0] (ctJ2_remove t G l hl0 a8 (r14 - 1) u13) (fun _ _ => cwJ2_removeF C q462 (by decide)) (eq_of_beq h18) (by decide) rfl rfl rfl (by exact Nat.le_of_ble_eq_true rfl) dX1_undo_30 (fun r17 u16 => ?_)
    refine v_chk (fun h19 => ?_)
    refine v_hcastS C 2 (eq_of_beq h19) (by decide) rfl q246 dX1_undo_35 ?_
    refine v_chk (fun h22 => ?_)
    refine v_callVH C [] [.ref p0] (ctX3_copy t G l hl0 r17 u16) (fun _ _ => cwX3_copy C q377 (by decide)) (recO C (ci := 2) (eq_of_beq h22) (by decide) rfl) rfl rfl (by exact Nat.le_of_ble_eq_true rfl) dX1_undo_38 (fun r21 u20 => ?_)
    refine v_chk (fun h23 => ?_)
    refine v_hputR C (some r21) 0 3 (eq_of_beq h23) (by decide) rfl in_X1 tyX1 tyX1_ok nmX1 (by decide) (by decide) q312 (fun _ h => h) (Or.inl rfl) rfl rfl dX1_undo_41 (fun u24 => ?_)
    refine v_aload_n C.1 0 rfl rfl dX1_undo_44 ?_
    refine v_chk (fun h25 => ?_)
    refine v_hget C (v := va_rf (hR u24 p0 8)) 0 8 (eq_of_beq h25) (by decide) rfl in_X1 (by decide) (Or.inl q318) (fun _ h => h) (hF_r (ci := 0) (eq_of_beq h25) (by decide)) dX1_undo_45 ?_
    refine v_deref (fun a26 e27 => ?_)
    refine v_chk (fun h30 => ?_)
    refine v_callFH C [] [] (ctJ2_size t G l hl0 a26 u24) (fun _ _ => cwJ2_sizeF C q453 (by decide)) (eq_of_beq h30) (by decide) rfl rfl rfl (by exact Nat.le_of_ble_eq_true rfl) dX1_undo_48 (fun r29 u28 => ?_)
    exact v_hiret C dX1_undo_53
  · refine v_iconst C.1 (-1) (by decide) dX1_undo_12 ?_
    exact v_hiret C dX1_undo_13
theorem cwX1_undo {t : TT} {G : GH} {l : Launch} {p : Program} {s : State} {m : MethodId} {args : Array Value} {meth : Method} {c : Code} {y0 : MethodName} {cc0 : ByteArray} {nL0 : Nat} {ret0 : Option FieldType} (C : CxH t G l p s m args meth c y0 cc0 nL0 ret0) {index lv mc ms K1 K2 : Nat} (hq : Cond.methodLink y0.cls index yX1_undo ∈ lw_all) (hR : 7 + 1 ≤ lv) : CallW (rmH lv K1 K2) s args y0.cls RX1 index yX1_undo cX1_undo 1 (some .int) (ws_ yX1_undo cX1_undo 1 (some .int)) (rmH 7 mc ms) mc ms 0 :=
  cwV 0 C.1.2.2.2.2.1 (lw_V hq q674 q675 q121 q676) rfl rfl rfl (by decide +kernel) ⟨hR, by show 8 + (1 + 11) + 100 * 7 ≤ 100 * lv; omega⟩
def hX1_deadBy_37 (p0 : Nat) (p1 : Int32) (k18 : Nat → Int32 → Int32 → HS → Option (OH Int32)) (x2 : Nat) (x3 : Int32) (x4 : Int32) (u : HS) : Option (OH Int32) :=
  mchk (hC u x2 == 3) <|
  hb (hX3_morning x2 u) fun r2 u1 =>
  k18 x2 x3 (x4 + 1) u1
theorem whX1_deadBy_37 {K1 K2 : Nat} {p : Program} {e : Env} {s : State} {m : MethodId} {args : Array Value} {below : List Frame} {meth : Method} {c : Code} (hl0 : l.stackTraces = false) (C : CxH t G l p s m args meth c yX1_deadBy cX1_deadBy 5 (some .int)) (p0 : Nat) (p1 : Int32) (k18 : Nat → Int32 → Int32 → HS → Option (OH Int32)) (hk18 : ∀ (x2 : Nat) (x3 : Int32) (x4 : Int32) (u : HS), VH mkI t G p l e 423 K1 K2 s m args below meth c 5 18 [(1, .int p1), (2, .ref x2), (3, .int x3), (4, .int x4)] [] u (k18 x2 x3 x4 u)) (x2 : Nat) (x3 : Int32) (x4 : Int32) (u : HS) : VH mkI t G p l e 423 K1 K2 s m args below meth c 5 37 [(1, .int p1), (2, .ref x2), (3, .int x3), (4, .int x4)] [] u (hX1_deadBy_37 p0 p1 k18 x2 x3 x4 u) := by
  unfold hX1_deadBy_37
  refine v_aload_n C.1 1 rfl rfl dX1_deadBy_37 ?_
  refine v_chk (fun h3 => ?_)
  refine v_callVH C [] [] (ctX3_morning t G l hl0 x2 u) (fun _ _ => cwX3_morning C q695 (by decide)) (recO C (ci := 2) (eq_of_beq h3) (by decide) rfl) rfl rfl (by exact Nat.le_of_ble_eq_true rfl) dX1_deadBy_38 (fun r2 u1 => ?_)
  refine v_pop C.1 rfl dX1_deadBy_41 ?_
  refine v_iinc C.1 1 [(4, .int (x4 + 1)), (1, .int p1), (2, .ref x2), (3, .int x3)] 3 rfl (by decide) (by decide) rfl dX1_deadBy_42 ?_
  refine v_goto C.1 18 (by decide) dX1_deadBy_45 ?_
  refine v_sub [1, 2, 3, 0] rfl ?_
  exact hk18 x2 x3 (x4 + 1) u1
def hX1_deadBy_18 (p0 : Nat) (p1 : Int32) (k : Nat → Int32 → Int32 → HS → Option (OH Int32)) (x2 : Nat) (x3 : Int32) (x4 : Int32) (u : HS) : Option (OH Int32) :=
  if x3 ≤ x4 then
    mchk (hC u x2 == 3) <|
    hret (hI u x2 7) u
  else
    mchk (hC u x2 == 3) <|
    if (hI u x2 6) = p1 then
      mchk (hC u x2 == 3) <|
      mlet (uI u x2 10 0) fun u3 =>
      hX1_deadBy_37 p0 p1 k x2 x3 x4 u3
    else
      hX1_deadBy_37 p0 p1 k x2 x3 x4 u
theorem whX1_deadBy_18 {K1 K2 : Nat} {p : Program} {e : Env} {s : State} {m : MethodId} {args : Array Value} {below : List Frame} {meth : Method} {c : Code} (hl0 : l.stackTraces = false) (C : CxH t G l p s m args meth c yX1_deadBy cX1_deadBy 5 (some .int)) (p0 : Nat) (p1 : Int32) (n : Nat) (x2 : Nat) (x3 : Int32) (x4 : Int32) (u : HS) : VH mkI t G p l e 423 K1 K2 s m args below meth c 5 18 [(1, .int p1), (2, .ref x2), (3, .int x3), (4, .int x4)] [] u (ml3 (hX1_deadBy_18 p0 p1) n x2 x3 x4 u) := by
  refine vl3 (L := fun x2 x3 x4 => [(1, .int p1), (2, .ref x2), (3, .int x3), (4, .int x4)]) (fun k hk x2 x3 x4 u => ?_) n x2 x3 x4 u
  unfold hX1_deadBy_18
  refine v_iload C.1 3 rfl dX1_deadBy_18 ?_
  refine v_iload_n C.1 2 rfl rfl dX1_deadBy_20 ?_
  refine v_icmp_ge C.1 48 (by decide) dX1_deadBy_21 (fun _ => ?_) (fun _ => ?_)
  · refine v_aload_n C.1 1 rfl rfl dX1_deadBy_48 ?_
    refine v_chk (fun h1 => ?_)
    refine v_hget C (v := .int (hI u x2 7)) 2 7 (eq_of_beq h1) (by decide) rfl in_X3 (by decide) (Or.inr ⟨_, q271⟩) (fun _ h => h) (hF_i (ci := 2) (eq_of_beq h1) (by decide)) dX1_deadBy_49 ?_
    exact v_hiret C dX1_deadBy_52
  · refine v_aload_n C.1 1 rfl rfl dX1_deadBy_24 ?_
    refine v_chk (fun h1 => ?_)
    refine v_hget C (v := .int (hI u x2 6)) 2 6 (eq_of_beq h1) (by decide) rfl in_X3 (by decide) (Or.inr ⟨_, q269⟩) (fun _ h => h) (hF_i (ci := 2) (eq_of_beq h1) (by decide)) dX1_deadBy_25 ?_
    refine v_iload_n C.1 0 rfl rfl dX1_deadBy_28 ?_
    refine v_icmp_ne C.1 37 (by decide) dX1_deadBy_29 (fun _ => ?_) (fun _ => ?_)
    · refine v_aload_n C.1 1 rfl rfl dX1_deadBy_32 ?_
      refine v_iconst C.1 0 (by decide) dX1_deadBy_33 ?_
      refine v_chk (fun h2 => ?_)
      refine v_hputIN C 2 10 (eq_of_beq h2) (by decide) rfl in_X3 tyX3 tyX3_ok nmX3 (by decide) (by decide) q277 (fun _ h => h) (Or.inl rfl) rfl ⟨rfl, rfl⟩ dX1_deadBy_34 (fun u3 => ?_)
      exact whX1_deadBy_37 hl0 C p0 p1 k hk x2 x3 x4 u3
    · exact whX1_deadBy_37 hl0 C p0 p1 k hk x2 x3 x4 u
def hX1_deadBy (p0 : Nat) (p1 : Int32) (u : HS) : Option (OH Int32) :=
  mchk (hC u p0 == 1) <|
  mderef (hR u p0 3) fun a2 =>
  mchk (hC u a2 == 3) <|
  hb (hX3_copy a2 u) fun r5 u4 =>
  mchk (hC u4 r5 == 3) <|
  hb (hX3_ahead r5 30 u4) fun r8 u7 =>
  ml3 (hX1_deadBy_18 p0 p1) FUEL r5 r8 0 u7
theorem ctX1_deadBy (t : TT) (G : GH) (l : Launch) (hl0 : l.stackTraces = false) (p0 : Nat) (p1 : Int32) (u : HS) : CtH mkI t G l yX1_deadBy cX1_deadBy 5 (some .int) 423 [.ref p0, .int p1] u (hX1_deadBy p0 p1 u) := by
  refine ctH_of [(0, .ref p0), (1, .int p1)] hl0 rfl (Nat.le_of_ble_eq_true rfl) rfl (fun K1 K2 p e s m args below meth c C => ?_)
  unfold hX1_deadBy
  refine v_aload_n C.1 0 rfl rfl dX1_deadBy_0 ?_
  refine v_chk (fun h1 => ?_)
  refine v_hget C (v := va_rf (hR u p0 3)) 0 3 (eq_of_beq h1) (by decide) rfl in_X1 (by decide) (Or.inl q312) (fun _ h => h) (hF_r (ci := 0) (eq_of_beq h1) (by decide)) dX1_deadBy_1 ?_
  refine v_deref (fun a2 e3 => ?_)
  refine v_chk (fun h6 => ?_)
  refine v_callVH C [] [] (ctX3_copy t G l hl0 a2 u) (fun _ _ => cwX3_copy C q377 (by decide)) (recO C (ci := 2) (eq_of_beq h6) (by decide) rfl) rfl rfl (by exact Nat.le_of_ble_eq_true rfl) dX1_deadBy_4 (fun r5 u4 => ?_)
  refine v_astore_n C.1 [(2, .ref r5), (0, .ref p0), (1, .int p1)] rfl (by decide) rfl dX1_deadBy_7 ?_
  refine v_aload_n C.1 0 rfl rfl dX1_deadBy_8 ?_
  refine v_bipush C.1 30 (by decide) dX1_deadBy_9 ?_
  refine v_chk (fun h9 => ?_)
  refine v_callVH C [.int 30] [] (ctX3_ahead t G l hl0 r5 30 u4) (fun _ _ => cwX3_ahead C q694 (by decide)) (recO C (ci := 2) (eq_of_beq h9) (by decide) rfl) rfl rfl (by exact Nat.le_of_ble_eq_true rfl) dX1_deadBy_11 (fun r8 u7 => ?_)
  refine v_istore_n C.1 [(3, .int r8), (2, .ref r5), (0, .ref p0), (1, .int p1)] rfl (by decide) rfl dX1_deadBy_14 ?_
  refine v_iconst C.1 0 (by decide) dX1_deadBy_15 ?_
  refine v_istore C.1 [(4, .int 0), (3, .int r8), (2, .ref r5), (0, .ref p0), (1, .int p1)] (by decide) rfl dX1_deadBy_16 ?_
  refine v_sub [4, 2, 1, 0] rfl ?_
  exact whX1_deadBy_18 hl0 C p0 p1 FUEL r5 r8 0 u7
theorem cwX1_deadBy {t : TT} {G : GH} {l : Launch} {p : Program} {s : State} {m : MethodId} {args : Array Value} {meth : Method} {c : Code} {y0 : MethodName} {cc0 : ByteArray} {nL0 : Nat} {ret0 : Option FieldType} (C : CxH t G l p s m args meth c y0 cc0 nL0 ret0) {index lv mc ms K1 K2 : Nat} (hq : Cond.methodLink y0.cls index yX1_deadBy ∈ lw_all) (hR : 423 + 1 ≤ lv) : CallW (rmH lv K1 K2) s args y0.cls RX1 index yX1_deadBy cX1_deadBy 5 (some .int) (ws_ yX1_deadBy cX1_deadBy 5 (some .int)) (rmH 423 mc ms) mc ms 1 :=
  cwV 1 C.1.2.2.2.2.1 (lw_V hq q692 qs9 q121 q693) rfl rfl rfl (by decide +kernel) ⟨hR, by show 8 + (5 + 11) + 100 * 423 ≤ 100 * lv; omega⟩
def hX1_spared (p0 : Nat) (u : HS) : Option (OH Int32) :=
  mchk (hC u p0 == 1) <|
  hb (hX1_deadBy p0 (-1) u) fun r2 u1 =>
  mchk (hC u1 p0 == 1) <|
  mderef (hR u1 p0 3) fun a5 =>
  mchk (hC u1 a5 == 3) <|
  mchk (hC u1 p0 == 1) <|
  hb (hX1_deadBy p0 (hI u1 a5 6) u1) fun r9 u8 =>
  hret (r2 &&& (r9 ^^^ (-1))) u8
theorem ctX1_spared (t : TT) (G : GH) (l : Launch) (hl0 : l.stackTraces = false) (p0 : Nat) (u : HS) : CtH mkI t G l yX1_spared cX1_spared 1 (some .int) 424 [.ref p0] u (hX1_spared p0 u) := by
  refine ctH_of [(0, .ref p0)] hl0 rfl (Nat.le_of_ble_eq_true rfl) rfl (fun K1 K2 p e s m args below meth c C => ?_)
  unfold hX1_spared
  refine v_aload_n C.1 0 rfl rfl dX1_spared_0 ?_
  refine v_iconst C.1 (-1) (by decide) dX1_spared_1 ?_
  refine v_chk (fun h3 => ?_)
  refine v_callVH C [.int (-1)] [] (ctX1_deadBy t G l hl0 p0 (-1) u) (fun _ _ => cwX1_deadBy C q690 (by decide)) (recO C (ci := 0) (eq_of_beq h3) (by decide) rfl) rfl rfl (by exact Nat.le_of_ble_eq_true rfl) dX1_spared_2 (fun r2 u1 => ?_)
  refine v_aload_n C.1 0 rfl rfl dX1_spared_5 ?_
  refine v_aload_n C.1 0 rfl rfl dX1_spared_6 ?_
  refine v_chk (fun h4 => ?_)
  refine v_hget C (v := va_rf (hR u1 p0 3)) 0 3 (eq_of_beq h4) (by decide) rfl in_X1 (by decide) (Or.inl q312) (fun _ h => h) (hF_r (ci := 0) (eq_of_beq h4) (by decide)) dX1_spared_7 ?_
  refine v_deref (fun a5 e6 => ?_)
  refine v_chk (fun h7 => ?_)
  refine v_hget C (v := .int (hI u1 a5 6)) 2 6 (eq_of_beq h7) (by decide) rfl in_X3 (by decide) (Or.inr ⟨_, q269⟩) (fun _ h => h) (hF_i (ci := 2) (eq_of_beq h7) (by decide)) dX1_spared_10 ?_
  refine v_chk (fun h10 => ?_)
  refine v_callVH C [.int (hI u1 a5 6)] [.int r2] (ctX1_deadBy t G l hl0 p0 (hI u1 a5 6) u1) (fun _ _ => cwX1_deadBy C q690 (by decide)) (recO C (ci := 0) (eq_of_beq h10) (by decide) rfl) rfl rfl (by exact Nat.le_of_ble_eq_true rfl) dX1_spared_13 (fun r9 u8 => ?_)
  refine v_iconst C.1 (-1) (by decide) dX1_spared_16 ?_
  refine v_ixor C.1 dX1_spared_17 ?_
  refine v_iand C.1 dX1_spared_18 ?_
  exact v_hiret C dX1_spared_19
theorem cwX1_spared {t : TT} {G : GH} {l : Launch} {p : Program} {s : State} {m : MethodId} {args : Array Value} {meth : Method} {c : Code} {y0 : MethodName} {cc0 : ByteArray} {nL0 : Nat} {ret0 : Option FieldType} (C : CxH t G l p s m args meth c y0 cc0 nL0 ret0) {index lv mc ms K1 K2 : Nat} (hq : Cond.methodLink y0.cls index yX1_spared ∈ lw_all) (hR : 424 + 1 ≤ lv) : CallW (rmH lv K1 K2) s args y0.cls RX1 index yX1_spared cX1_spared 1 (some .int) (ws_ yX1_spared cX1_spared 1 (some .int)) (rmH 424 mc ms) mc ms 0 :=
  cwV 0 C.1.2.2.2.2.1 (lw_V hq q687 q688 q121 q689) rfl rfl rfl (by decide +kernel) ⟨hR, by show 8 + (1 + 11) + 100 * 424 ≤ 100 * lv; omega⟩
def hX1_forget (p0 : Nat) (u : HS) : Option (OH Unit) :=
  mlet (hZ u) fun a1 =>
  addc 1 (cN 11) <|
  mlet (nO u 11) fun u3 =>
  hb (hJ2_init a1 u3) fun _ u4 =>
  mchk (hC u4 p0 == 1) <|
  mlet (uR u4 p0 9 (some a1)) fun u6 =>
  hret () u6
theorem ctX1_forget (t : TT) (G : GH) (l : Launch) (hl0 : l.stackTraces = false) (p0 : Nat) (u : HS) : CtH mkU t G l yX1_forget cX1_forget 1 none 5 [.ref p0] u (hX1_forget p0 u) := by
  refine ctH_of [(0, .ref p0)] hl0 rfl (Nat.le_of_ble_eq_true rfl) rfl (fun K1 K2 p e s m args below meth c C => ?_)
  unfold hX1_forget
  refine v_aload_n C.1 0 rfl rfl dX1_forget_0 ?_
  refine v_letE (fun a1 e2 => ?_)
  refine v_hnew C 11 e2 (by decide) rfl in_J2 tyJ2 tyJ2_ok df_J2 q304 q170 q125 dX1_forget_1 (fun u3 => ?_)
  refine v_dup C.1 rfl dX1_forget_4 ?_
  refine v_callIH C [] [.ref a1, .ref p0] (ctJ2_init t G l hl0 a1 u3) (fun _ _ => cwJ2_init C q305 (by decide)) rfl rfl (by exact Nat.le_of_ble_eq_true rfl) dX1_forget_5 (fun _ u4 => ?_)
  refine v_chk (fun h5 => ?_)
  refine v_hputR C (some a1) 0 9 (eq_of_beq h5) (by decide) rfl in_X1 tyX1 tyX1_ok nmX1 (by decide) (by decide) q319 (fun _ h => h) (Or.inl rfl) rfl rfl dX1_forget_8 (fun u6 => ?_)
  exact v_hvret C dX1_forget_11
theorem cwX1_forget {t : TT} {G : GH} {l : Launch} {p : Program} {s : State} {m : MethodId} {args : Array Value} {meth : Method} {c : Code} {y0 : MethodName} {cc0 : ByteArray} {nL0 : Nat} {ret0 : Option FieldType} (C : CxH t G l p s m args meth c y0 cc0 nL0 ret0) {index lv mc ms K1 K2 : Nat} (hq : Cond.methodLink y0.cls index yX1_forget ∈ lw_all) (hR : 5 + 1 ≤ lv) : CallW (rmH lv K1 K2) s args y0.cls RX1 index yX1_forget cX1_forget 1 none (ws_ yX1_forget cX1_forget 1 none) (rmH 5 mc ms) mc ms 0 :=
  cwV 0 C.1.2.2.2.2.1 (lw_V hq q697 q698 q121 q699) rfl rfl rfl (by decide +kernel) ⟨hR, by show 8 + (1 + 11) + 100 * 5 ≤ 100 * lv; omega⟩
def hX1_later (p0 : Nat) (p1 : Int32) (u : HS) : Option (OH Nat) :=
  mchk (hC u p0 == 1) <|
  mderef (hR u p0 3) fun a2 =>
  mchk (hC u a2 == 3) <|
  hb (hX3_copy a2 u) fun r5 u4 =>
  mchk (hC u4 r5 == 3) <|
  hb (hX3_after r5 p1 u4) fun r8 u7 =>
  hret r8 u7
theorem ctX1_later (t : TT) (G : GH) (l : Launch) (hl0 : l.stackTraces = false) (p0 : Nat) (p1 : Int32) (u : HS) : CtH mkA t G l yX1_later cX1_later 2 (some (.object "WhiteBoard$Board")) 424 [.ref p0, .int p1] u (hX1_later p0 p1 u) := by
  refine ctH_of [(0, .ref p0), (1, .int p1)] hl0 rfl (Nat.le_of_ble_eq_true rfl) rfl (fun K1 K2 p e s m args below meth c C => ?_)
  unfold hX1_later
  refine v_aload_n C.1 0 rfl rfl dX1_later_0 ?_
  refine v_chk (fun h1 => ?_)
  refine v_hget C (v := va_rf (hR u p0 3)) 0 3 (eq_of_beq h1) (by decide) rfl in_X1 (by decide) (Or.inl q312) (fun _ h => h) (hF_r (ci := 0) (eq_of_beq h1) (by decide)) dX1_later_1 ?_
  refine v_deref (fun a2 e3 => ?_)
  refine v_chk (fun h6 => ?_)
  refine v_callVH C [] [] (ctX3_copy t G l hl0 a2 u) (fun _ _ => cwX3_copy C q377 (by decide)) (recO C (ci := 2) (eq_of_beq h6) (by decide) rfl) rfl rfl (by exact Nat.le_of_ble_eq_true rfl) dX1_later_4 (fun r5 u4 => ?_)
  refine v_iload_n C.1 1 rfl rfl dX1_later_7 ?_
  refine v_chk (fun h9 => ?_)
  refine v_callVH C [.int p1] [] (ctX3_after t G l hl0 r5 p1 u4) (fun _ _ => cwX3_after C q481 (by decide)) (recO C (ci := 2) (eq_of_beq h9) (by decide) rfl) rfl rfl (by exact Nat.le_of_ble_eq_true rfl) dX1_later_8 (fun r8 u7 => ?_)
  exact v_haret C (Or.inl ⟨_, rfl⟩) dX1_later_11
theorem cwX1_later {t : TT} {G : GH} {l : Launch} {p : Program} {s : State} {m : MethodId} {args : Array Value} {meth : Method} {c : Code} {y0 : MethodName} {cc0 : ByteArray} {nL0 : Nat} {ret0 : Option FieldType} (C : CxH t G l p s m args meth c y0 cc0 nL0 ret0) {index lv mc ms K1 K2 : Nat} (hq : Cond.methodLink y0.cls index yX1_later ∈ lw_all) (hR : 424 + 1 ≤ lv) : CallW (rmH lv K1 K2) s args y0.cls RX1 index yX1_later cX1_later 2 (some (.object "WhiteBoard$Board")) (ws_ yX1_later cX1_later 2 (some (.object "WhiteBoard$Board"))) (rmH 424 mc ms) mc ms 1 :=
  cwV 1 C.1.2.2.2.2.1 (lw_V hq q706 qs10 q121 q707) rfl rfl rfl (by decide +kernel) ⟨hR, by show 8 + (2 + 11) + 100 * 424 ≤ 100 * lv; omega⟩
def hX1_richest_14 (p0 : Nat) (k : Nat → Int32 → Int32 → Int32 → HS → Option (OH Int32)) (x1 : Nat) (x2 : Int32) (x3 : Int32) (x4 : Int32) (u : HS) : Option (OH Int32) :=
  mchk (hC u p0 == 1) <|
  mderef (hR u p0 2) fun a2 =>
  mchk (hC u a2 == 2) <|
  if (hI u a2 7) ≤ x4 then
    hret x2 u
  else
    mchk (hC u x1 == 3) <|
    mderef (hR u x1 4) fun a6 =>
    mchk (inA u x4 a6 21) <|
    if x3 < (hA u a6 x4.toNatClampNeg) then
      mchk (hC u x1 == 3) <|
      mderef (hR u x1 4) fun a10 =>
      mchk (inA u x4 a10 21) <|
      mlet (hA u a10 x4.toNatClampNeg) fun v13 =>
      k x1 x4 v13 (x4 + 1) u
    else
      k x1 x2 x3 (x4 + 1) u
theorem whX1_richest_14 {K1 K2 : Nat} {p : Program} {e : Env} {s : State} {m : MethodId} {args : Array Value} {below : List Frame} {meth : Method} {c : Code} (hl0 : l.stackTraces = false) (C : CxH t G l p s m args meth c yX1_richest cX1_richest 5 (some .int)) (p0 : Nat) (n : Nat) (x1 : Nat) (x2 : Int32) (x3 : Int32) (x4 : Int32) (u : HS) : VH mkI t G p l e 425 K1 K2 s m args below meth c 5 14 [(0, .ref p0), (1, .ref x1), (2, .int x2), (3, .int x3), (4, .int x4)] [] u (ml4 (hX1_richest_14 p0) n x1 x2 x3 x4 u) := by
  refine vl4 (L := fun x1 x2 x3 x4 => [(0, .ref p0), (1, .ref x1), (2, .int x2), (3, .int x3), (4, .int x4)]) (fun k hk x1 x2 x3 x4 u => ?_) n x1 x2 x3 x4 u
  unfold hX1_richest_14
  refine v_iload C.1 4 rfl dX1_richest_14 ?_
  refine v_aload_n C.1 0 rfl rfl dX1_richest_16 ?_
  refine v_chk (fun h1 => ?_)
  refine v_hget C (v := va_rf (hR u p0 2)) 0 2 (eq_of_beq h1) (by decide) rfl in_X1 (by decide) (Or.inl q311) (fun _ h => h) (hF_r (ci := 0) (eq_of_beq h1) (by decide)) dX1_richest_17 ?_
  refine v_deref (fun a2 e3 => ?_)
  refine v_chk (fun h4 => ?_)
  refine v_hget C (v := .int (hI u a2 7)) 1 7 (eq_of_beq h4) (by decide) rfl in_X2 (by decide) (Or.inr ⟨_, q222⟩) (fun _ h => h) (hF_i (ci := 1) (eq_of_beq h4) (by decide)) dX1_richest_20 ?_
  refine v_icmp_ge C.1 57 (by decide) dX1_richest_23 (fun _ => ?_) (fun _ => ?_)
  · refine v_iload_n C.1 2 rfl rfl dX1_richest_57 ?_
    exact v_hiret C dX1_richest_58
  · refine v_aload_n C.1 1 rfl rfl dX1_richest_26 ?_
    refine v_chk (fun h5 => ?_)
    refine v_hget C (v := va_rf (hR u x1 4)) 2 4 (eq_of_beq h5) (by decide) rfl in_X3 (by decide) (Or.inr ⟨_, q265⟩) (fun _ h => h) (hF_r (ci := 2) (eq_of_beq h5) (by decide)) dX1_richest_27 ?_
    refine v_deref (fun a6 e7 => ?_)
    refine v_iload C.1 4 rfl dX1_richest_30 ?_
    refine v_chk (fun h8 => ?_)
    refine v_haiald C h8 dX1_richest_32 ?_
    refine v_iload_n C.1 3 rfl rfl dX1_richest_33 ?_
    refine v_icmp_gt C.1 40 (by decide) dX1_richest_34 (fun _ => ?_) (fun _ => ?_)
    · refine v_iload C.1 4 rfl dX1_richest_40 ?_
      refine v_istore_n C.1 [(2, .int x4), (0, .ref p0), (1, .ref x1), (3, .int x3), (4, .int x4)] rfl (by decide) rfl dX1_richest_42 ?_
      refine v_aload_n C.1 2 rfl rfl dX1_richest_43 ?_
      refine v_chk (fun h9 => ?_)
      refine v_hget C (v := va_rf (hR u x1 4)) 2 4 (eq_of_beq h9) (by decide) rfl in_X3 (by decide) (Or.inr ⟨_, q265⟩) (fun _ h => h) (hF_r (ci := 2) (eq_of_beq h9) (by decide)) dX1_richest_44 ?_
      refine v_deref (fun a10 e11 => ?_)
      refine v_iload C.1 4 rfl dX1_richest_47 ?_
      refine v_chk (fun h12 => ?_)
      refine v_haiald C h12 dX1_richest_49 ?_
      refine v_topi (fun v13 => ?_)
      refine v_istore_n C.1 [(3, .int v13), (2, .int x4), (0, .ref p0), (1, .ref x1), (4, .int x4)] rfl (by decide) rfl dX1_richest_50 ?_
      refine v_iinc C.1 1 [(4, .int (x4 + 1)), (3, .int v13), (2, .int x4), (0, .ref p0), (1, .ref x1)] 4 rfl (by decide) (by decide) rfl dX1_richest_51 ?_
      refine v_goto C.1 14 (by decide) dX1_richest_54 ?_
      refine v_sub [3, 4, 2, 1, 0] rfl ?_
      exact hk x1 x4 v13 (x4 + 1) u
    · refine v_goto C.1 51 (by decide) dX1_richest_37 ?_
      refine v_iinc C.1 1 [(4, .int (x4 + 1)), (0, .ref p0), (1, .ref x1), (2, .int x2), (3, .int x3)] 4 rfl (by decide) (by decide) rfl dX1_richest_51 ?_
      refine v_goto C.1 14 (by decide) dX1_richest_54 ?_
      refine v_sub [1, 2, 3, 4, 0] rfl ?_
      exact hk x1 x2 x3 (x4 + 1) u
def hX1_richest (p0 : Nat) (u : HS) : Option (OH Int32) :=
  mchk (hC u p0 == 1) <|
  hb (hX1_later p0 30 u) fun r2 u1 =>
  ml4 (hX1_richest_14 p0) FUEL r2 (-1) 0 0 u1
theorem ctX1_richest (t : TT) (G : GH) (l : Launch) (hl0 : l.stackTraces = false) (p0 : Nat) (u : HS) : CtH mkI t G l yX1_richest cX1_richest 5 (some .int) 425 [.ref p0] u (hX1_richest p0 u) := by
  refine ctH_of [(0, .ref p0)] hl0 rfl (Nat.le_of_ble_eq_true rfl) rfl (fun K1 K2 p e s m args below meth c C => ?_)
  unfold hX1_richest
  refine v_aload_n C.1 0 rfl rfl dX1_richest_0 ?_
  refine v_bipush C.1 30 (by decide) dX1_richest_1 ?_
  refine v_chk (fun h3 => ?_)
  refine v_callVH C [.int 30] [] (ctX1_later t G l hl0 p0 30 u) (fun _ _ => cwX1_later C q704 (by decide)) (recO C (ci := 0) (eq_of_beq h3) (by decide) rfl) rfl rfl (by exact Nat.le_of_ble_eq_true rfl) dX1_richest_3 (fun r2 u1 => ?_)
  refine v_astore_n C.1 [(1, .ref r2), (0, .ref p0)] rfl (by decide) rfl dX1_richest_6 ?_
  refine v_iconst C.1 (-1) (by decide) dX1_richest_7 ?_
  refine v_istore_n C.1 [(2, .int (-1)), (1, .ref r2), (0, .ref p0)] rfl (by decide) rfl dX1_richest_8 ?_
  refine v_iconst C.1 0 (by decide) dX1_richest_9 ?_
  refine v_istore_n C.1 [(3, .int 0), (2, .int (-1)), (1, .ref r2), (0, .ref p0)] rfl (by decide) rfl dX1_richest_10 ?_
  refine v_iconst C.1 0 (by decide) dX1_richest_11 ?_
  refine v_istore C.1 [(4, .int 0), (3, .int 0), (2, .int (-1)), (1, .ref r2), (0, .ref p0)] (by decide) rfl dX1_richest_12 ?_
  refine v_sub [4, 3, 2, 1, 0] rfl ?_
  exact whX1_richest_14 hl0 C p0 FUEL r2 (-1) 0 0 u1
theorem cwX1_richest {t : TT} {G : GH} {l : Launch} {p : Program} {s : State} {m : MethodId} {args : Array Value} {meth : Method} {c : Code} {y0 : MethodName} {cc0 : ByteArray} {nL0 : Nat} {ret0 : Option FieldType} (C : CxH t G l p s m args meth c y0 cc0 nL0 ret0) {index lv mc ms K1 K2 : Nat} (hq : Cond.methodLink y0.cls index yX1_richest ∈ lw_all) (hR : 425 + 1 ≤ lv) : CallW (rmH lv K1 K2) s args y0.cls RX1 index yX1_richest cX1_richest 5 (some .int) (ws_ yX1_richest cX1_richest 5 (some .int)) (rmH 425 mc ms) mc ms 0 :=
  cwV 0 C.1.2.2.2.2.1 (lw_V hq q701 q702 q121 q703) rfl rfl rfl (by decide +kernel) ⟨hR, by show 8 + (5 + 11) + 100 * 425 ≤ 100 * lv; omega⟩
def hX1_idle_15 (p0 : Nat) (k : Nat → Int32 → HS → Option (OH Int32)) (x1 : Nat) (x2 : Int32) (u : HS) : Option (OH Int32) :=
  if x2 ≤ 0 then
    hret (-1) u
  else
    mchk (hC u x1 == 3) <|
    hb (hX3_list x1 u) fun r2 u1 =>
    mchk (hC u1 x1 == 3) <|
    hb (hX3_morning x1 u1) fun r5 u4 =>
    mchk (hC u4 r5 == 3) <|
    hb (hX3_list r5 u4) fun r8 u7 =>
    if r8 = r2 then
      mchk (hC u7 x1 == 3) <|
      hret ((hI u7 x1 6) - 1) u7
    else
      k x1 (x2 + (-1)) u7
theorem whX1_idle_15 {K1 K2 : Nat} {p : Program} {e : Env} {s : State} {m : MethodId} {args : Array Value} {below : List Frame} {meth : Method} {c : Code} (hl0 : l.stackTraces = false) (C : CxH t G l p s m args meth c yX1_idle cX1_idle 4 (some .int)) (p0 : Nat) (n : Nat) (x1 : Nat) (x2 : Int32) (u : HS) : VH mkI t G p l e 423 K1 K2 s m args below meth c 4 15 [(1, .ref x1), (2, .int x2)] [] u (ml2 (hX1_idle_15 p0) n x1 x2 u) := by
  refine vl2 (L := fun x1 x2 => [(1, .ref x1), (2, .int x2)]) (fun k hk x1 x2 u => ?_) n x1 x2 u
  unfold hX1_idle_15
  refine v_iload_n C.1 1 rfl rfl dX1_idle_15 ?_
  refine v_if_le C.1 48 (by decide) dX1_idle_16 (fun _ => ?_) (fun _ => ?_)
  · refine v_iconst C.1 (-1) (by decide) dX1_idle_48 ?_
    exact v_hiret C dX1_idle_49
  · refine v_aload_n C.1 0 rfl rfl dX1_idle_19 ?_
    refine v_chk (fun h3 => ?_)
    refine v_callVH C [] [] (ctX3_list t G l hl0 x1 u) (fun _ _ => cwX3_list C q712 (by decide)) (recO C (ci := 2) (eq_of_beq h3) (by decide) rfl) rfl rfl (by exact Nat.le_of_ble_eq_true rfl) dX1_idle_20 (fun r2 u1 => ?_)
    refine v_istore_n C.1 [(3, .int r2), (1, .ref x1), (2, .int x2)] rfl (by decide) rfl dX1_idle_23 ?_
    refine v_aload_n C.1 1 rfl rfl dX1_idle_24 ?_
    refine v_chk (fun h6 => ?_)
    refine v_callVH C [] [] (ctX3_morning t G l hl0 x1 u1) (fun _ _ => cwX3_morning C q695 (by decide)) (recO C (ci := 2) (eq_of_beq h6) (by decide) rfl) rfl rfl (by exact Nat.le_of_ble_eq_true rfl) dX1_idle_25 (fun r5 u4 => ?_)
    refine v_chk (fun h9 => ?_)
    refine v_callVH C [] [] (ctX3_list t G l hl0 r5 u4) (fun _ _ => cwX3_list C q712 (by decide)) (recO C (ci := 2) (eq_of_beq h9) (by decide) rfl) rfl rfl (by exact Nat.le_of_ble_eq_true rfl) dX1_idle_28 (fun r8 u7 => ?_)
    refine v_iload_n C.1 0 rfl rfl dX1_idle_31 ?_
    refine v_icmp_ne C.1 42 (by decide) dX1_idle_32 (fun _ => ?_) (fun _ => ?_)
    · refine v_aload_n C.1 1 rfl rfl dX1_idle_35 ?_
      refine v_chk (fun h10 => ?_)
      refine v_hget C (v := .int (hI u7 x1 6)) 2 6 (eq_of_beq h10) (by decide) rfl in_X3 (by decide) (Or.inr ⟨_, q269⟩) (fun _ h => h) (hF_i (ci := 2) (eq_of_beq h10) (by decide)) dX1_idle_36 ?_
      refine v_iconst C.1 1 (by decide) dX1_idle_39 ?_
      refine v_isub C.1 dX1_idle_40 ?_
      exact v_hiret C dX1_idle_41
    · refine v_iinc C.1 (-1) [(2, .int (x2 + (-1))), (3, .int r2), (1, .ref x1)] 2 rfl (by decide) (by decide) rfl dX1_idle_42 ?_
      refine v_goto C.1 15 (by decide) dX1_idle_45 ?_
      refine v_sub [2, 0] rfl ?_
      exact hk x1 (x2 + (-1)) u7
def hX1_idle (p0 : Nat) (u : HS) : Option (OH Int32) :=
  mchk (hC u p0 == 1) <|
  mderef (hR u p0 3) fun a2 =>
  mchk (hC u a2 == 3) <|
  hb (hX3_copy a2 u) fun r5 u4 =>
  mchk (hC u4 r5 == 3) <|
  hb (hX3_ahead r5 30 u4) fun r8 u7 =>
  ml2 (hX1_idle_15 p0) FUEL r5 r8 u7
theorem ctX1_idle (t : TT) (G : GH) (l : Launch) (hl0 : l.stackTraces = false) (p0 : Nat) (u : HS) : CtH mkI t G l yX1_idle cX1_idle 4 (some .int) 423 [.ref p0] u (hX1_idle p0 u) := by
  refine ctH_of [(0, .ref p0)] hl0 rfl (Nat.le_of_ble_eq_true rfl) rfl (fun K1 K2 p e s m args below meth c C => ?_)
  unfold hX1_idle
  refine v_aload_n C.1 0 rfl rfl dX1_idle_0 ?_
  refine v_chk (fun h1 => ?_)
  refine v_hget C (v := va_rf (hR u p0 3)) 0 3 (eq_of_beq h1) (by decide) rfl in_X1 (by decide) (Or.inl q312) (fun _ h => h) (hF_r (ci := 0) (eq_of_beq h1) (by decide)) dX1_idle_1 ?_
  refine v_deref (fun a2 e3 => ?_)
  refine v_chk (fun h6 => ?_)
  refine v_callVH C [] [] (ctX3_copy t G l hl0 a2 u) (fun _ _ => cwX3_copy C q377 (by decide)) (recO C (ci := 2) (eq_of_beq h6) (by decide) rfl) rfl rfl (by exact Nat.le_of_ble_eq_true rfl) dX1_idle_4 (fun r5 u4 => ?_)
  refine v_astore_n C.1 [(1, .ref r5), (0, .ref p0)] rfl (by decide) rfl dX1_idle_7 ?_
  refine v_aload_n C.1 0 rfl rfl dX1_idle_8 ?_
  refine v_bipush C.1 30 (by decide) dX1_idle_9 ?_
  refine v_chk (fun h9 => ?_)
  refine v_callVH C [.int 30] [] (ctX3_ahead t G l hl0 r5 30 u4) (fun _ _ => cwX3_ahead C q694 (by decide)) (recO C (ci := 2) (eq_of_beq h9) (by decide) rfl) rfl rfl (by exact Nat.le_of_ble_eq_true rfl) dX1_idle_11 (fun r8 u7 => ?_)
  refine v_istore_n C.1 [(2, .int r8), (1, .ref r5), (0, .ref p0)] rfl (by decide) rfl dX1_idle_14 ?_
  refine v_sub [1, 0] rfl ?_
  exact whX1_idle_15 hl0 C p0 FUEL r5 r8 u7
theorem cwX1_idle {t : TT} {G : GH} {l : Launch} {p : Program} {s : State} {m : MethodId} {args : Array Value} {meth : Method} {c : Code} {y0 : MethodName} {cc0 : ByteArray} {nL0 : Nat} {ret0 : Option FieldType} (C : CxH t G l p s m args meth c y0 cc0 nL0 ret0) {index lv mc ms K1 K2 : Nat} (hq : Cond.methodLink y0.cls index yX1_idle ∈ lw_all) (hR : 423 + 1 ≤ lv) : CallW (rmH lv K1 K2) s args y0.cls RX1 index yX1_idle cX1_idle 4 (some .int) (ws_ yX1_idle cX1_idle 4 (some .int)) (rmH 423 mc ms) mc ms 0 :=
  cwV 0 C.1.2.2.2.2.1 (lw_V hq q709 q710 q121 q711) rfl rfl rfl (by decide +kernel) ⟨hR, by show 8 + (4 + 11) + 100 * 423 ≤ 100 * lv; omega⟩
def hX1_sought_4 (p0 : Nat) (k : Int32 → Int32 → HS → Option (OH Int32)) (x1 : Int32) (x2 : Int32) (u : HS) : Option (OH Int32) :=
  mchk (hC u p0 == 1) <|
  mderef (hR u p0 2) fun a2 =>
  mchk (hC u a2 == 2) <|
  hb (hX2_people a2 u) fun r5 u4 =>
  if r5 ≤ x2 then
    hret x1 u4
  else
    mchk (hC u4 p0 == 1) <|
    mderef (hR u4 p0 3) fun a8 =>
    mchk (hC u4 a8 == 3) <|
    hb (hX3_isSought a8 x2 u4) fun r11 u10 =>
    if r11 = 0 then
      k x1 (x2 + 1) u10
    else
      mlet (x1 ||| ((1 : Int32) <<< (x2 &&& 31))) fun v13 =>
      k v13 (x2 + 1) u10
theorem whX1_sought_4 {K1 K2 : Nat} {p : Program} {e : Env} {s : State} {m : MethodId} {args : Array Value} {below : List Frame} {meth : Method} {c : Code} (hl0 : l.stackTraces = false) (C : CxH t G l p s m args meth c yX1_sought cX1_sought 3 (some .int)) (p0 : Nat) (n : Nat) (x1 : Int32) (x2 : Int32) (u : HS) : VH mkI t G p l e 8 K1 K2 s m args below meth c 3 4 [(0, .ref p0), (1, .int x1), (2, .int x2)] [] u (ml2 (hX1_sought_4 p0) n x1 x2 u) := by
  refine vl2 (L := fun x1 x2 => [(0, .ref p0), (1, .int x1), (2, .int x2)]) (fun k hk x1 x2 u => ?_) n x1 x2 u
  unfold hX1_sought_4
  refine v_iload_n C.1 2 rfl rfl dX1_sought_4 ?_
  refine v_aload_n C.1 0 rfl rfl dX1_sought_5 ?_
  refine v_chk (fun h1 => ?_)
  refine v_hget C (v := va_rf (hR u p0 2)) 0 2 (eq_of_beq h1) (by decide) rfl in_X1 (by decide) (Or.inl q311) (fun _ h => h) (hF_r (ci := 0) (eq_of_beq h1) (by decide)) dX1_sought_6 ?_
  refine v_deref (fun a2 e3 => ?_)
  refine v_chk (fun h6 => ?_)
  refine v_callVH C [] [.int x2] (ctX2_people t G l hl0 a2 u) (fun _ _ => cwX2_people C q717 (by decide)) (recO C (ci := 1) (eq_of_beq h6) (by decide) rfl) rfl rfl (by exact Nat.le_of_ble_eq_true rfl) dX1_sought_9 (fun r5 u4 => ?_)
  refine v_icmp_ge C.1 38 (by decide) dX1_sought_12 (fun _ => ?_) (fun _ => ?_)
  · refine v_iload_n C.1 1 rfl rfl dX1_sought_38 ?_
    exact v_hiret C dX1_sought_39
  · refine v_aload_n C.1 0 rfl rfl dX1_sought_15 ?_
    refine v_chk (fun h7 => ?_)
    refine v_hget C (v := va_rf (hR u4 p0 3)) 0 3 (eq_of_beq h7) (by decide) rfl in_X1 (by decide) (Or.inl q312) (fun _ h => h) (hF_r (ci := 0) (eq_of_beq h7) (by decide)) dX1_sought_16 ?_
    refine v_deref (fun a8 e9 => ?_)
    refine v_iload_n C.1 2 rfl rfl dX1_sought_19 ?_
    refine v_chk (fun h12 => ?_)
    refine v_callVH C [.int x2] [] (ctX3_isSought t G l hl0 a8 x2 u4) (fun _ _ => cwX3_isSought C q718 (by decide)) (recO C (ci := 2) (eq_of_beq h12) (by decide) rfl) rfl rfl (by exact Nat.le_of_ble_eq_true rfl) dX1_sought_20 (fun r11 u10 => ?_)
    refine v_if_eq C.1 32 (by decide) dX1_sought_23 (fun _ => ?_) (fun _ => ?_)
    · refine v_iinc C.1 1 [(2, .int (x2 + 1)), (0, .ref p0), (1, .int x1)] 2 rfl (by decide) (by decide) rfl dX1_sought_32 ?_
      refine v_goto C.1 4 (by decide) dX1_sought_35 ?_
      refine v_sub [1, 2, 0] rfl ?_
      exact hk x1 (x2 + 1) u10
    · refine v_iload_n C.1 1 rfl rfl dX1_sought_26 ?_
      refine v_iconst C.1 1 (by decide) dX1_sought_27 ?_
      refine v_iload_n C.1 2 rfl rfl dX1_sought_28 ?_
      refine v_ishl C.1 dX1_sought_29 ?_
      refine v_ior C.1 dX1_sought_30 ?_
      refine v_topi (fun v13 => ?_)
      refine v_istore_n C.1 [(1, .int v13), (0, .ref p0), (2, .int x2)] rfl (by decide) rfl dX1_sought_31 ?_
      refine v_iinc C.1 1 [(2, .int (x2 + 1)), (1, .int v13), (0, .ref p0)] 2 rfl (by decide) (by decide) rfl dX1_sought_32 ?_
      refine v_goto C.1 4 (by decide) dX1_sought_35 ?_
      refine v_sub [2, 1, 0] rfl ?_
      exact hk v13 (x2 + 1) u10
def hX1_sought (p0 : Nat) (u : HS) : Option (OH Int32) :=
  ml2 (hX1_sought_4 p0) FUEL 0 0 u
theorem ctX1_sought (t : TT) (G : GH) (l : Launch) (hl0 : l.stackTraces = false) (p0 : Nat) (u : HS) : CtH mkI t G l yX1_sought cX1_sought 3 (some .int) 8 [.ref p0] u (hX1_sought p0 u) := by
  refine ctH_of [(0, .ref p0)] hl0 rfl (Nat.le_of_ble_eq_true rfl) rfl (fun K1 K2 p e s m args below meth c C => ?_)
  unfold hX1_sought
  refine v_iconst C.1 0 (by decide) dX1_sought_0 ?_
  refine v_istore_n C.1 [(1, .int 0), (0, .ref p0)] rfl (by decide) rfl dX1_sought_1 ?_
  refine v_iconst C.1 0 (by decide) dX1_sought_2 ?_
  refine v_istore_n C.1 [(2, .int 0), (1, .int 0), (0, .ref p0)] rfl (by decide) rfl dX1_sought_3 ?_
  refine v_sub [2, 1, 0] rfl ?_
  exact whX1_sought_4 hl0 C p0 FUEL 0 0 u
theorem cwX1_sought {t : TT} {G : GH} {l : Launch} {p : Program} {s : State} {m : MethodId} {args : Array Value} {meth : Method} {c : Code} {y0 : MethodName} {cc0 : ByteArray} {nL0 : Nat} {ret0 : Option FieldType} (C : CxH t G l p s m args meth c y0 cc0 nL0 ret0) {index lv mc ms K1 K2 : Nat} (hq : Cond.methodLink y0.cls index yX1_sought ∈ lw_all) (hR : 8 + 1 ≤ lv) : CallW (rmH lv K1 K2) s args y0.cls RX1 index yX1_sought cX1_sought 3 (some .int) (ws_ yX1_sought cX1_sought 3 (some .int)) (rmH 8 mc ms) mc ms 0 :=
  cwV 0 C.1.2.2.2.2.1 (lw_V hq q714 q715 q121 q716) rfl rfl rfl (by decide +kernel) ⟨hR, by show 8 + (3 + 11) + 100 * 8 ≤ 100 * lv; omega⟩
def hJ2_toArray (p0 : Nat) (u : HS) : Option (OH Nat) :=
  mchk (hC u p0 == 12) <|
  mderef (hR u p0 1) fun a2 =>
  mchk (hC u p0 == 12) <|
  hb (hJ14_copyOf a2 (hI u p0 2) u) fun r6 u5 =>
  hret r6 u5
theorem ctJ2_toArray (t : TT) (G : GH) (l : Launch) (hl0 : l.stackTraces = false) (p0 : Nat) (u : HS) : CtH mkA t G l yJ2_toArray cJ2_toArray 1 (some (.array (.object "java/lang/Object"))) 4 [.ref p0] u (hJ2_toArray p0 u) := by
  refine ctH_of [(0, .ref p0)] hl0 rfl (Nat.le_of_ble_eq_true rfl) rfl (fun K1 K2 p e s m args below meth c C => ?_)
  unfold hJ2_toArray
  refine v_aload_n C.1 0 rfl rfl dJ2_toArray_0 ?_
  refine v_chk (fun h1 => ?_)
  refine v_hget C (v := va_rf (hR u p0 1)) 11 1 (eq_of_beq h1) (by decide) rfl in_J2 (by decide) (Or.inl q183) (fun _ h => h) (hF_r (ci := 11) (eq_of_beq h1) (by decide)) dJ2_toArray_1 ?_
  refine v_deref (fun a2 e3 => ?_)
  refine v_aload_n C.1 0 rfl rfl dJ2_toArray_4 ?_
  refine v_chk (fun h4 => ?_)
  refine v_hget C (v := .int (hI u p0 2)) 11 2 (eq_of_beq h4) (by decide) rfl in_J2 (by decide) (Or.inl q184) (fun _ h => h) (hF_i (ci := 11) (eq_of_beq h4) (by decide)) dJ2_toArray_5 ?_
  refine v_callSH C [.ref a2, .int (hI u p0 2)] [] (ctJ14_copyOf t G l hl0 a2 (hI u p0 2) u) (fun _ _ => cwJ14_copyOf C q415 (by decide)) rfl rfl (by exact Nat.le_of_ble_eq_true rfl) dJ2_toArray_8 (fun r6 u5 => ?_)
  exact v_haret C (Or.inr ⟨_, rfl⟩) dJ2_toArray_11
theorem cwJ2_toArrayF {t : TT} {G : GH} {l : Launch} {p : Program} {s : State} {m : MethodId} {args : Array Value} {meth : Method} {c : Code} {y0 : MethodName} {cc0 : ByteArray} {nL0 : Nat} {ret0 : Option FieldType} (C : CxH t G l p s m args meth c y0 cc0 nL0 ret0) {index lv mc ms K1 K2 : Nat} (hq : Cond.methodLink y0.cls index (⟨"java/util/Collection", "toArray", "()[Ljava/lang/Object;"⟩ : MethodName) ∈ lw_all) (hR : 4 + 1 ≤ lv) : va_CI (rmH lv K1 K2) s args y0.cls RJ2 index (⟨"java/util/Collection", "toArray", "()[Ljava/lang/Object;"⟩ : MethodName) yJ2_toArray cJ2_toArray 1 (some (.array (.object "java/lang/Object"))) (ws_ yJ2_toArray cJ2_toArray 1 (some (.array (.object "java/lang/Object")))) (rmH 4 mc ms) mc ms 0 :=
  va_cwF 0 C.1.2.2.2.2.1 (lw_F hq q731 q733 q125 q735) rfl rfl rfl (C.1.2.2.2.2.2.2.2.2.2.2.1 _ (List.mem_of_getElem? (i := 5) rfl)) (by decide +kernel) ⟨hR, by show 8 + (1 + 11) + 100 * 4 ≤ 100 * lv; omega⟩
def hJ2_init_2 (p0 : Nat) (p1 : Nat) (u : HS) : Option (OH Unit) :=
  hb (hJ1_init p0 u) fun _ u1 =>
  mchk (hC u1 p1 == 12) <|
  hb (hJ2_toArray p1 u1) fun r3 u2 =>
  mchk (hC u2 r3 == 25 || hC u2 r3 == 35) <|
  mchk (hC u2 p0 == 12) <|
  mlet (uI u2 p0 2 (Int32.ofNat (hN u2 r3))) fun u7 =>
  if (Int32.ofNat (hN u2 r3)) = 0 then
    mlet (hK u7 1) fun a8 =>
    mchk (hC u7 p0 == 12) <|
    mlet (uR u7 p0 1 (some a8)) fun u12 =>
    hret () u12
  else
    mchk (hC u7 p1 == 12) <|
    mlet (hK u7 6) fun a8 =>
    mlet (hK u7 6) fun a12 =>
    if a8 = a12 then
      mchk (hC u7 p0 == 12) <|
      mlet (uR u7 p0 1 (some r3)) fun u16 =>
      hret () u16
    else
      mchk (hC u7 p0 == 12) <|
      mlet (hK u7 5) fun a16 =>
      hb (hJ14_copyOf_2 r3 (hI u7 p0 2) a16 u7) fun r20 u19 =>
      mchk (hC u19 p0 == 12) <|
      mlet (uR u19 p0 1 (some r20)) fun u22 =>
      hret () u22
theorem ctJ2_init_2 (t : TT) (G : GH) (l : Launch) (hl0 : l.stackTraces = false) (p0 : Nat) (p1 : Nat) (u : HS) : CtH mkU t G l yJ2_init_2 cJ2_init_2 3 none 5 [.ref p0, .ref p1] u (hJ2_init_2 p0 p1 u) := by
  refine ctH_of [(0, .ref p0), (1, .ref p1)] hl0 rfl (Nat.le_of_ble_eq_true rfl) rfl (fun K1 K2 p e s m args below meth c C => ?_)
  unfold hJ2_init_2
  refine v_aload_n C.1 0 rfl rfl dJ2_init_2_0 ?_
  refine v_callIH C [] [] (ctJ1_init t G l hl0 p0 u) (fun _ _ => cwJ1_init C q174 (by decide)) rfl rfl (by exact Nat.le_of_ble_eq_true rfl) dJ2_init_2_1 (fun _ u1 => ?_)
  refine v_aload_n C.1 1 rfl rfl dJ2_init_2_4 ?_
  refine v_chk (fun h4 => ?_)
  refine v_callFH C [] [] (ctJ2_toArray t G l hl0 p1 u1) (fun _ _ => cwJ2_toArrayF C q727 (by decide)) (eq_of_beq h4) (by decide) rfl rfl rfl (by exact Nat.le_of_ble_eq_true rfl) dJ2_init_2_5 (fun r3 u2 => ?_)
  refine v_astore_n C.1 [(2, .ref r3), (0, .ref p0), (1, .ref p1)] rfl (by decide) rfl dJ2_init_2_10 ?_
  refine v_aload_n C.1 1 rfl rfl dJ2_init_2_11 ?_
  refine v_aload_n C.1 0 rfl rfl dJ2_init_2_12 ?_
  refine v_chk (fun h5 => ?_)
  refine v_qalen C h5 dJ2_init_2_13 ?_
  refine v_dup_x1 C.1 rfl rfl dJ2_init_2_14 ?_
  refine v_chk (fun h6 => ?_)
  refine v_hputI C 11 2 (eq_of_beq h6) (by decide) rfl in_J2 tyJ2 tyJ2_ok nmJ2 (by decide) (by decide) q184 (fun _ h => h) (Or.inl rfl) ⟨rfl, rfl⟩ dJ2_init_2_15 (fun u7 => ?_)
  refine v_if_eq C.1 57 (by decide) dJ2_init_2_18 (fun _ => ?_) (fun _ => ?_)
  · refine v_aload_n C.1 1 rfl rfl dJ2_init_2_57 ?_
    refine v_K (fun ek10 _ => ?_)
    refine v_letE (fun a8 e9 => ?_)
    refine v_gets C (v := .ref a8) (by rw [e9, ek10]; exact C.2.1.emp) q745 (fun _ h => h) dJ2_init_2_58 ?_
    refine v_chk (fun h11 => ?_)
    refine v_hputR C (some a8) 11 1 (eq_of_beq h11) (by decide) rfl in_J2 tyJ2 tyJ2_ok nmJ2 (by decide) (by decide) q183 (fun _ h => h) (Or.inl rfl) rfl rfl dJ2_init_2_61 (fun u12 => ?_)
    exact v_hvret C dJ2_init_2_64
  · refine v_aload_n C.1 2 rfl rfl dJ2_init_2_21 ?_
    refine v_chk (fun h11 => ?_)
    refine v_K (fun ek10 _ => ?_)
    refine v_letE (fun a8 e9 => ?_)
    refine v_getCI (mi := a8) C q737 (by rw [e9, ek10]; exact C.2.1.mL) (eq_of_beq h11) (by exact Nat.le_of_ble_eq_true rfl) (by exact Nat.le_of_ble_eq_true rfl) dJ2_init_2_22 ?_
    refine v_K (fun ek14 _ => ?_)
    refine v_letE (fun a12 e13 => ?_)
    refine v_ldcM (mi := a12) C q742 (by rw [e13, ek14]; exact C.2.1.mL) dJ2_init_2_27 ?_
    refine v_acmp_ne C 40 (by decide) dJ2_init_2_29 (fun _ => ?_) (fun _ => ?_)
    · refine v_aload_n C.1 1 rfl rfl dJ2_init_2_32 ?_
      refine v_aload_n C.1 0 rfl rfl dJ2_init_2_33 ?_
      refine v_chk (fun h15 => ?_)
      refine v_hputR C (some r3) 11 1 (eq_of_beq h15) (by decide) rfl in_J2 tyJ2 tyJ2_ok nmJ2 (by decide) (by decide) q183 (fun _ h => h) (Or.inl rfl) rfl rfl dJ2_init_2_34 (fun u16 => ?_)
      refine v_goto C.1 64 (by decide) dJ2_init_2_37 ?_
      exact v_hvret C dJ2_init_2_64
    · refine v_aload_n C.1 1 rfl rfl dJ2_init_2_40 ?_
      refine v_aload_n C.1 0 rfl rfl dJ2_init_2_41 ?_
      refine v_aload_n C.1 1 rfl rfl dJ2_init_2_42 ?_
      refine v_chk (fun h15 => ?_)
      refine v_hget C (v := .int (hI u7 p0 2)) 11 2 (eq_of_beq h15) (by decide) rfl in_J2 (by decide) (Or.inl q184) (fun _ h => h) (hF_i (ci := 11) (eq_of_beq h15) (by decide)) dJ2_init_2_43 ?_
      refine v_K (fun ek18 _ => ?_)
      refine v_letE (fun a16 e17 => ?_)
      refine v_ldcM (mi := a16) C q743 (by rw [e17, ek18]; exact C.2.1.mO) dJ2_init_2_46 ?_
      refine v_callSH C [.ref r3, .int (hI u7 p0 2), .ref a16] [.ref p0] (ctJ14_copyOf_2 t G l hl0 r3 (hI u7 p0 2) a16 u7) (fun _ _ => cwJ14_copyOf_2 C q744 (by decide)) rfl rfl (by exact Nat.le_of_ble_eq_true rfl) dJ2_init_2_48 (fun r20 u19 => ?_)
      refine v_chk (fun h21 => ?_)
      refine v_hputR C (some r20) 11 1 (eq_of_beq h21) (by decide) rfl in_J2 tyJ2 tyJ2_ok nmJ2 (by decide) (by decide) q183 (fun _ h => h) (Or.inl rfl) rfl rfl dJ2_init_2_51 (fun u22 => ?_)
      refine v_goto C.1 64 (by decide) dJ2_init_2_54 ?_
      exact v_hvret C dJ2_init_2_64
theorem cwJ2_init_2 {t : TT} {G : GH} {l : Launch} {p : Program} {s : State} {m : MethodId} {args : Array Value} {meth : Method} {c : Code} {y0 : MethodName} {cc0 : ByteArray} {nL0 : Nat} {ret0 : Option FieldType} (C : CxH t G l p s m args meth c y0 cc0 nL0 ret0) {index lv mc ms K1 K2 : Nat} (hq : Cond.methodLink y0.cls index yJ2_init_2 ∈ lw_all) (hR : 5 + 1 ≤ lv) : CallB (rmH lv K1 K2) s args y0.cls index yJ2_init_2 cJ2_init_2 3 none (ws_ yJ2_init_2 cJ2_init_2 3 none) (rmH 5 mc ms) mc ms 1 ∧ yJ2_init_2.name = "<init>" ∧ (Cond.instanceMethod yJ2_init_2).before args s = true :=
  cwI 1 C.1.2.2.2.2.1 (lw_meth q725) rfl rfl rfl (C.1.2.2.2.2.1 _ q125) (C.1.2.2.2.2.1 _ hq) (C.1.2.2.2.2.1 _ q724) rfl (by decide +kernel) ⟨hR, by show 8 + (3 + 11) + 100 * 5 ≤ 100 * lv; omega⟩
def hX1_image (p0 : Nat) (u : HS) : Option (OH Unit) :=
  mchk (hC u p0 == 1) <|
  mderef (hR u p0 3) fun a2 =>
  mchk (hC u a2 == 3) <|
  hb (hX3_copy a2 u) fun r5 u4 =>
  mchk (hC u4 p0 == 1) <|
  mlet (uR u4 p0 10 (some r5)) fun u8 =>
  mlet (hZ u8) fun a9 =>
  addc 1 (cN 11) <|
  mlet (nO u8 11) fun u11 =>
  mchk (hC u11 p0 == 1) <|
  mderef (hR u11 p0 8) fun a13 =>
  hb (hJ2_init_2 a9 a13 u11) fun _ u15 =>
  mchk (hC u15 p0 == 1) <|
  mlet (uR u15 p0 11 (some a9)) fun u17 =>
  mlet (hZ u17) fun a18 =>
  addc 1 (cN 11) <|
  mlet (nO u17 11) fun u20 =>
  mchk (hC u20 p0 == 1) <|
  mderef (hR u20 p0 9) fun a22 =>
  hb (hJ2_init_2 a18 a22 u20) fun _ u24 =>
  mchk (hC u24 p0 == 1) <|
  mlet (uR u24 p0 12 (some a18)) fun u26 =>
  hret () u26
theorem ctX1_image (t : TT) (G : GH) (l : Launch) (hl0 : l.stackTraces = false) (p0 : Nat) (u : HS) : CtH mkU t G l yX1_image cX1_image 1 none 7 [.ref p0] u (hX1_image p0 u) := by
  refine ctH_of [(0, .ref p0)] hl0 rfl (Nat.le_of_ble_eq_true rfl) rfl (fun K1 K2 p e s m args below meth c C => ?_)
  unfold hX1_image
  refine v_aload_n C.1 0 rfl rfl dX1_image_0 ?_
  refine v_aload_n C.1 0 rfl rfl dX1_image_1 ?_
  refine v_chk (fun h1 => ?_)
  refine v_hget C (v := va_rf (hR u p0 3)) 0 3 (eq_of_beq h1) (by decide) rfl in_X1 (by decide) (Or.inl q312) (fun _ h => h) (hF_r (ci := 0) (eq_of_beq h1) (by decide)) dX1_image_2 ?_
  refine v_deref (fun a2 e3 => ?_)
  refine v_chk (fun h6 => ?_)
  refine v_callVH C [] [.ref p0] (ctX3_copy t G l hl0 a2 u) (fun _ _ => cwX3_copy C q377 (by decide)) (recO C (ci := 2) (eq_of_beq h6) (by decide) rfl) rfl rfl (by exact Nat.le_of_ble_eq_true rfl) dX1_image_5 (fun r5 u4 => ?_)
  refine v_chk (fun h7 => ?_)
  refine v_hputR C (some r5) 0 10 (eq_of_beq h7) (by decide) rfl in_X1 tyX1 tyX1_ok nmX1 (by decide) (by decide) q320 (fun _ h => h) (Or.inl rfl) rfl rfl dX1_image_8 (fun u8 => ?_)
  refine v_aload_n C.1 0 rfl rfl dX1_image_11 ?_
  refine v_letE (fun a9 e10 => ?_)
  refine v_hnew C 11 e10 (by decide) rfl in_J2 tyJ2 tyJ2_ok df_J2 q304 q170 q125 dX1_image_12 (fun u11 => ?_)
  refine v_dup C.1 rfl dX1_image_15 ?_
  refine v_aload_n C.1 0 rfl rfl dX1_image_16 ?_
  refine v_chk (fun h12 => ?_)
  refine v_hget C (v := va_rf (hR u11 p0 8)) 0 8 (eq_of_beq h12) (by decide) rfl in_X1 (by decide) (Or.inl q318) (fun _ h => h) (hF_r (ci := 0) (eq_of_beq h12) (by decide)) dX1_image_17 ?_
  refine v_deref (fun a13 e14 => ?_)
  refine v_callIH C [.ref a13] [.ref a9, .ref p0] (ctJ2_init_2 t G l hl0 a9 a13 u11) (fun _ _ => cwJ2_init_2 C q723 (by decide)) rfl rfl (by exact Nat.le_of_ble_eq_true rfl) dX1_image_20 (fun _ u15 => ?_)
  refine v_chk (fun h16 => ?_)
  refine v_hputR C (some a9) 0 11 (eq_of_beq h16) (by decide) rfl in_X1 tyX1 tyX1_ok nmX1 (by decide) (by decide) q321 (fun _ h => h) (Or.inl rfl) rfl rfl dX1_image_23 (fun u17 => ?_)
  refine v_aload_n C.1 0 rfl rfl dX1_image_26 ?_
  refine v_letE (fun a18 e19 => ?_)
  refine v_hnew C 11 e19 (by decide) rfl in_J2 tyJ2 tyJ2_ok df_J2 q304 q170 q125 dX1_image_27 (fun u20 => ?_)
  refine v_dup C.1 rfl dX1_image_30 ?_
  refine v_aload_n C.1 0 rfl rfl dX1_image_31 ?_
  refine v_chk (fun h21 => ?_)
  refine v_hget C (v := va_rf (hR u20 p0 9)) 0 9 (eq_of_beq h21) (by decide) rfl in_X1 (by decide) (Or.inl q319) (fun _ h => h) (hF_r (ci := 0) (eq_of_beq h21) (by decide)) dX1_image_32 ?_
  refine v_deref (fun a22 e23 => ?_)
  refine v_callIH C [.ref a22] [.ref a18, .ref p0] (ctJ2_init_2 t G l hl0 a18 a22 u20) (fun _ _ => cwJ2_init_2 C q723 (by decide)) rfl rfl (by exact Nat.le_of_ble_eq_true rfl) dX1_image_35 (fun _ u24 => ?_)
  refine v_chk (fun h25 => ?_)
  refine v_hputR C (some a18) 0 12 (eq_of_beq h25) (by decide) rfl in_X1 tyX1 tyX1_ok nmX1 (by decide) (by decide) q322 (fun _ h => h) (Or.inl rfl) rfl rfl dX1_image_38 (fun u26 => ?_)
  exact v_hvret C dX1_image_41
theorem cwX1_image {t : TT} {G : GH} {l : Launch} {p : Program} {s : State} {m : MethodId} {args : Array Value} {meth : Method} {c : Code} {y0 : MethodName} {cc0 : ByteArray} {nL0 : Nat} {ret0 : Option FieldType} (C : CxH t G l p s m args meth c y0 cc0 nL0 ret0) {index lv mc ms K1 K2 : Nat} (hq : Cond.methodLink y0.cls index yX1_image ∈ lw_all) (hR : 7 + 1 ≤ lv) : CallW (rmH lv K1 K2) s args y0.cls RX1 index yX1_image cX1_image 1 none (ws_ yX1_image cX1_image 1 none) (rmH 7 mc ms) mc ms 0 :=
  cwV 0 C.1.2.2.2.2.1 (lw_V hq q720 q721 q121 q722) rfl rfl rfl (by decide +kernel) ⟨hR, by show 8 + (1 + 11) + 100 * 7 ≤ 100 * lv; omega⟩
end
