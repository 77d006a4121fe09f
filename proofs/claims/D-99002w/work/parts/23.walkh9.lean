/-! walks in mode H, printed by tools/genh.py -/
set_option maxRecDepth 100000
section
variable {t : TT} {G : GH} {l : Launch}
def hX5_isSign (p0 : Nat) (p1 : Int32) (u : HS) : Option (OH Int32) :=
  mchk (hC u p0 == 5) <|
  if (hI u p0 5) = 3 then
    mchk (hC u p0 == 5) <|
    mderef (hR u p0 11) fun a3 =>
    mchk (hC u a3 == 1) <|
    mderef (hR u a3 4) fun a6 =>
    mchk (hC u p0 == 5) <|
    mchk (inA u (hI u p0 6) a6 23) <|
    if (hA u a6 (hI u p0 6).toNatClampNeg) = p1 then
      hz id 1 u
    else
      hz id 0 u
  else
    hz id 0 u
theorem ctX5_isSign (t : TT) (G : GH) (l : Launch) (hl0 : l.stackTraces = false) (p0 : Nat) (p1 : Int32) (u : HS) : CtH mkI t G l yX5_isSign cX5_isSign 2 (some .boolean) 2 [.ref p0, .int p1] u (hX5_isSign p0 p1 u) := by
  refine ctH_of [(0, .ref p0), (1, .int p1)] hl0 rfl (Nat.le_of_ble_eq_true rfl) rfl (fun K1 K2 p e s m args below meth c C => ?_)
  unfold hX5_isSign
  refine v_aload_n C.1 0 rfl rfl dX5_isSign_0 ?_
  refine v_chk (fun h1 => ?_)
  refine v_hget C (v := .int (hI u p0 5)) 4 5 (eq_of_beq h1) (by decide) rfl in_X5 (by decide) (Or.inl q853) (fun _ h => h) (hF_i (ci := 4) (eq_of_beq h1) (by decide)) dX5_isSign_1 ?_
  refine v_iconst C.1 3 (by decide) dX5_isSign_4 ?_
  refine v_icmp_ne C.1 28 (by decide) dX5_isSign_5 (fun _ => ?_) (fun _ => ?_)
  · refine v_aload_n C.1 0 rfl rfl dX5_isSign_8 ?_
    refine v_chk (fun h2 => ?_)
    refine v_hget C (v := va_rf (hR u p0 11)) 4 11 (eq_of_beq h2) (by decide) rfl in_X5 (by decide) (Or.inl q860) (fun _ h => h) (hF_r (ci := 4) (eq_of_beq h2) (by decide)) dX5_isSign_9 ?_
    refine v_deref (fun a3 e4 => ?_)
    refine v_chk (fun h5 => ?_)
    refine v_hget C (v := va_rf (hR u a3 4)) 0 4 (eq_of_beq h5) (by decide) rfl in_X1 (by decide) (Or.inr ⟨_, q313⟩) (fun _ h => h) (hF_r (ci := 0) (eq_of_beq h5) (by decide)) dX5_isSign_12 ?_
    refine v_deref (fun a6 e7 => ?_)
    refine v_aload_n C.1 0 rfl rfl dX5_isSign_15 ?_
    refine v_chk (fun h8 => ?_)
    refine v_hget C (v := .int (hI u p0 6)) 4 6 (eq_of_beq h8) (by decide) rfl in_X5 (by decide) (Or.inl q854) (fun _ h => h) (hF_i (ci := 4) (eq_of_beq h8) (by decide)) dX5_isSign_16 ?_
    refine v_chk (fun h9 => ?_)
    refine v_habald C h9 dX5_isSign_19 ?_
    refine v_iload_n C.1 1 rfl rfl dX5_isSign_20 ?_
    refine v_icmp_ne C.1 28 (by decide) dX5_isSign_21 (fun _ => ?_) (fun _ => ?_)
    · refine v_iconst C.1 1 (by decide) dX5_isSign_24 ?_
      refine v_goto C.1 29 (by decide) dX5_isSign_25 ?_
      exact v_hzret C dX5_isSign_29
    · refine v_iconst C.1 0 (by decide) dX5_isSign_28 ?_
      exact v_hzret C dX5_isSign_29
  · refine v_iconst C.1 0 (by decide) dX5_isSign_28 ?_
    exact v_hzret C dX5_isSign_29
theorem cwX5_isSign {t : TT} {G : GH} {l : Launch} {p : Program} {s : State} {m : MethodId} {args : Array Value} {meth : Method} {c : Code} {y0 : MethodName} {cc0 : ByteArray} {nL0 : Nat} {ret0 : Option FieldType} (C : CxH t G l p s m args meth c y0 cc0 nL0 ret0) {index lv mc ms K1 K2 : Nat} (hq : Cond.methodLink y0.cls index yX5_isSign ∈ lw_all) (hR : 2 + 1 ≤ lv) : CallW (rmH lv K1 K2) s args y0.cls RX5 index yX5_isSign cX5_isSign 2 (some .boolean) (ws_ yX5_isSign cX5_isSign 2 (some .boolean)) (rmH 2 mc ms) mc ms 1 :=
  cwV 1 C.1.2.2.2.2.1 (lw_V hq q1127 qs30 q132 q1128) rfl rfl rfl (by decide +kernel) ⟨hR, by show 8 + (2 + 11) + 100 * 2 ≤ 100 * lv; omega⟩
def hX9_init (p0 : Nat) (p1 : Int32) (u : HS) : Option (OH Unit) :=
  mchk (hC u p0 == 9) <|
  mlet (uI u p0 0 p1) fun u2 =>
  hret () u2
theorem ctX9_init (t : TT) (G : GH) (l : Launch) (hl0 : l.stackTraces = false) (p0 : Nat) (p1 : Int32) (u : HS) : CtH mkU t G l yX9_init cX9_init 2 none 2 [.ref p0, .int p1] u (hX9_init p0 p1 u) := by
  refine ctH_of [(0, .ref p0), (1, .int p1)] hl0 rfl (Nat.le_of_ble_eq_true rfl) rfl (fun K1 K2 p e s m args below meth c C => ?_)
  unfold hX9_init
  refine v_aload_n C.1 0 rfl rfl dX9_init_0 ?_
  refine v_objInit C q1157 q161 q162 (by exact Nat.le_of_ble_eq_true rfl) (by exact Nat.le_of_ble_eq_true rfl) dX9_init_1 ?_
  refine v_aload_n C.1 0 rfl rfl dX9_init_4 ?_
  refine v_iload_n C.1 1 rfl rfl dX9_init_5 ?_
  refine v_chk (fun h1 => ?_)
  refine v_hputI C 8 0 (eq_of_beq h1) (by decide) rfl in_X9 tyX9 tyX9_ok nmX9 (by decide) (by decide) q1158 (fun _ h => h) (Or.inr ⟨rfl, rfl, rfl⟩) ⟨rfl, rfl⟩ dX9_init_6 (fun u2 => ?_)
  exact v_hvret C dX9_init_9
theorem cwX9_init {t : TT} {G : GH} {l : Launch} {p : Program} {s : State} {m : MethodId} {args : Array Value} {meth : Method} {c : Code} {y0 : MethodName} {cc0 : ByteArray} {nL0 : Nat} {ret0 : Option FieldType} (C : CxH t G l p s m args meth c y0 cc0 nL0 ret0) {index lv mc ms K1 K2 : Nat} (hq : Cond.methodLink y0.cls index yX9_init ∈ lw_all) (hR : 2 + 1 ≤ lv) : CallB (rmH lv K1 K2) s args y0.cls index yX9_init cX9_init 2 none (ws_ yX9_init cX9_init 2 none) (rmH 2 mc ms) mc ms 1 ∧ yX9_init.name = "<init>" ∧ (Cond.instanceMethod yX9_init).before args s = true :=
  cwI 1 C.1.2.2.2.2.1 (lw_meth q1156) rfl rfl rfl (C.1.2.2.2.2.1 _ q149) (C.1.2.2.2.2.1 _ hq) (C.1.2.2.2.2.1 _ q1155) rfl (by decide +kernel) ⟨hR, by show 8 + (2 + 11) + 100 * 2 ≤ 100 * lv; omega⟩
def hX5_which_2 (p0 : Nat) (p1 : Nat) (k : Int32 → HS → Option (OH Int32)) (x2 : Int32) (u : HS) : Option (OH Int32) :=
  mchk (hC u p1 == 26) <|
  if (Int32.ofNat (hN u p1)) ≤ x2 then
    hret (-1) u
  else
    mchk (inA u x2 p1 26) <|
    mderef (hQ u p1 x2.toNatClampNeg) fun a3 =>
    mchk (hC u p0 == 5) <|
    hb (hX5_is p0 a3 u) fun r6 u5 =>
    if r6 = 0 then
      k (x2 + 1) u5
    else
      hret x2 u5
theorem whX5_which_2 {K1 K2 : Nat} {p : Program} {e : Env} {s : State} {m : MethodId} {args : Array Value} {below : List Frame} {meth : Method} {c : Code} (hl0 : l.stackTraces = false) (C : CxH t G l p s m args meth c yX5_which cX5_which 3 (some .int)) (p0 : Nat) (p1 : Nat) (n : Nat) (x2 : Int32) (u : HS) : VH mkI t G p l e 7 K1 K2 s m args below meth c 3 2 [(0, .ref p0), (1, .ref p1), (2, .int x2)] [] u (ml1 (hX5_which_2 p0 p1) n x2 u) := by
  refine vl1 (L := fun x2 => [(0, .ref p0), (1, .ref p1), (2, .int x2)]) (fun k hk x2 u => ?_) n x2 u
  unfold hX5_which_2
  refine v_iload_n C.1 2 rfl rfl dX5_which_2 ?_
  refine v_aload_n C.1 1 rfl rfl dX5_which_3 ?_
  refine v_chk (fun h1 => ?_)
  refine v_halen C 6 (by decide) (eq_of_beq h1) dX5_which_4 ?_
  refine v_icmp_ge C.1 26 (by decide) dX5_which_5 (fun _ => ?_) (fun _ => ?_)
  · refine v_iconst C.1 (-1) (by decide) dX5_which_26 ?_
    exact v_hiret C dX5_which_27
  · refine v_aload_n C.1 0 rfl rfl dX5_which_8 ?_
    refine v_aload_n C.1 1 rfl rfl dX5_which_9 ?_
    refine v_iload_n C.1 2 rfl rfl dX5_which_10 ?_
    refine v_chk (fun h2 => ?_)
    refine v_haald C 6 (by decide) h2 dX5_which_11 ?_
    refine v_deref (fun a3 e4 => ?_)
    refine v_chk (fun h7 => ?_)
    refine v_callVH C [.ref a3] [] (ctX5_is t G l hl0 p0 a3 u) (fun _ _ => cwX5_is C q984 (by decide)) (recO C (ci := 4) (eq_of_beq h7) (by decide) rfl) rfl rfl (by exact Nat.le_of_ble_eq_true rfl) dX5_which_12 (fun r6 u5 => ?_)
    refine v_if_eq C.1 20 (by decide) dX5_which_15 (fun _ => ?_) (fun _ => ?_)
    · refine v_iinc C.1 1 [(2, .int (x2 + 1)), (0, .ref p0), (1, .ref p1)] 2 rfl (by decide) (by decide) rfl dX5_which_20 ?_
      refine v_goto C.1 2 (by decide) dX5_which_23 ?_
      refine v_sub [1, 2, 0] rfl ?_
      exact hk (x2 + 1) u5
    · refine v_iload_n C.1 2 rfl rfl dX5_which_18 ?_
      exact v_hiret C dX5_which_19
def hX5_which (p0 : Nat) (p1 : Nat) (u : HS) : Option (OH Int32) :=
  ml1 (hX5_which_2 p0 p1) FUEL 0 u
theorem ctX5_which (t : TT) (G : GH) (l : Launch) (hl0 : l.stackTraces = false) (p0 : Nat) (p1 : Nat) (u : HS) : CtH mkI t G l yX5_which cX5_which 3 (some .int) 7 [.ref p0, .ref p1] u (hX5_which p0 p1 u) := by
  refine ctH_of [(0, .ref p0), (1, .ref p1)] hl0 rfl (Nat.le_of_ble_eq_true rfl) rfl (fun K1 K2 p e s m args below meth c C => ?_)
  unfold hX5_which
  refine v_iconst C.1 0 (by decide) dX5_which_0 ?_
  refine v_istore_n C.1 [(2, .int 0), (0, .ref p0), (1, .ref p1)] rfl (by decide) rfl dX5_which_1 ?_
  refine v_sub [1, 2, 0] rfl ?_
  exact whX5_which_2 hl0 C p0 p1 FUEL 0 u
theorem cwX5_which {t : TT} {G : GH} {l : Launch} {p : Program} {s : State} {m : MethodId} {args : Array Value} {meth : Method} {c : Code} {y0 : MethodName} {cc0 : ByteArray} {nL0 : Nat} {ret0 : Option FieldType} (C : CxH t G l p s m args meth c y0 cc0 nL0 ret0) {index lv mc ms K1 K2 : Nat} (hq : Cond.methodLink y0.cls index yX5_which ∈ lw_all) (hR : 7 + 1 ≤ lv) : CallW (rmH lv K1 K2) s args y0.cls RX5 index yX5_which cX5_which 3 (some .int) (ws_ yX5_which cX5_which 3 (some .int)) (rmH 7 mc ms) mc ms 1 :=
  cwV 1 C.1.2.2.2.2.1 (lw_V hq q1164 qs36 q132 q1165) rfl rfl rfl (by decide +kernel) ⟨hR, by show 8 + (3 + 11) + 100 * 7 ≤ 100 * lv; omega⟩
def hX10_init (p0 : Nat) (p1 : Int32) (u : HS) : Option (OH Unit) :=
  mchk (hC u p0 == 10) <|
  mlet (uI u p0 0 p1) fun u2 =>
  hret () u2
theorem ctX10_init (t : TT) (G : GH) (l : Launch) (hl0 : l.stackTraces = false) (p0 : Nat) (p1 : Int32) (u : HS) : CtH mkU t G l yX10_init cX10_init 2 none 2 [.ref p0, .int p1] u (hX10_init p0 p1 u) := by
  refine ctH_of [(0, .ref p0), (1, .int p1)] hl0 rfl (Nat.le_of_ble_eq_true rfl) rfl (fun K1 K2 p e s m args below meth c C => ?_)
  unfold hX10_init
  refine v_aload_n C.1 0 rfl rfl dX10_init_0 ?_
  refine v_objInit C q1171 q161 q162 (by exact Nat.le_of_ble_eq_true rfl) (by exact Nat.le_of_ble_eq_true rfl) dX10_init_1 ?_
  refine v_aload_n C.1 0 rfl rfl dX10_init_4 ?_
  refine v_iload_n C.1 1 rfl rfl dX10_init_5 ?_
  refine v_chk (fun h1 => ?_)
  refine v_hputI C 9 0 (eq_of_beq h1) (by decide) rfl in_X10 tyX10 tyX10_ok nmX10 (by decide) (by decide) q1172 (fun _ h => h) (Or.inr ⟨rfl, rfl, rfl⟩) ⟨rfl, rfl⟩ dX10_init_6 (fun u2 => ?_)
  exact v_hvret C dX10_init_9
theorem cwX10_init {t : TT} {G : GH} {l : Launch} {p : Program} {s : State} {m : MethodId} {args : Array Value} {meth : Method} {c : Code} {y0 : MethodName} {cc0 : ByteArray} {nL0 : Nat} {ret0 : Option FieldType} (C : CxH t G l p s m args meth c y0 cc0 nL0 ret0) {index lv mc ms K1 K2 : Nat} (hq : Cond.methodLink y0.cls index yX10_init ∈ lw_all) (hR : 2 + 1 ≤ lv) : CallB (rmH lv K1 K2) s args y0.cls index yX10_init cX10_init 2 none (ws_ yX10_init cX10_init 2 none) (rmH 2 mc ms) mc ms 1 ∧ yX10_init.name = "<init>" ∧ (Cond.instanceMethod yX10_init).before args s = true :=
  cwI 1 C.1.2.2.2.2.1 (lw_meth q1170) rfl rfl rfl (C.1.2.2.2.2.1 _ q150) (C.1.2.2.2.2.1 _ hq) (C.1.2.2.2.2.1 _ q1169) rfl (by decide +kernel) ⟨hR, by show 8 + (2 + 11) + 100 * 2 ≤ 100 * lv; omega⟩
theorem cwX5_expression {t : TT} {G : GH} {l : Launch} {p : Program} {s : State} {m : MethodId} {args : Array Value} {meth : Method} {c : Code} {y0 : MethodName} {cc0 : ByteArray} {nL0 : Nat} {ret0 : Option FieldType} (C : CxH t G l p s m args meth c y0 cc0 nL0 ret0) {index lv mc ms K1 K2 lx : Nat} (hq : Cond.methodLink y0.cls index yX5_expression ∈ lw_all) (hR : lx + 1 ≤ lv) : CallW (rmH lv K1 K2) s args y0.cls RX5 index yX5_expression cX5_expression 3 (some (.object "WhiteBoard$Form")) (ws_ yX5_expression cX5_expression 3 (some (.object "WhiteBoard$Form"))) (rmH lx mc ms) mc ms 1 :=
  cwV 1 C.1.2.2.2.2.1 (lw_V hq q1123 qs29 q132 q1124) rfl rfl rfl (by decide +kernel) ⟨hR, by show 8 + (3 + 11) + 100 * lx ≤ 100 * lv; omega⟩
def ExprC (fe : Nat → Int32 → HS → Option (OH (PX Nat))) (t : TT) (G : GH) (l : Launch) (ld : Nat) : Prop := 30 ≤ ld ∧ ∀ (b : Nat) (x : Int32) (u : HS), CtX mkA t G l yX5_expression cX5_expression 3 (some (.object "WhiteBoard$Form")) ld [.ref b, .int x] u (fe b x u)
def hX5_part_100 (fe : Nat → Int32 → HS → Option (OH (PX Nat))) (p0 : Nat) (p1 : Int32) (x2 : Int32) (s0 : Nat) (s1 : Int32) (u : HS) : Option (OH (PX Nat)) :=
  mchk (hC u s0 == 5) <|
  hx (hX5_want s0 s1 3 u) fun _ u1 =>
  mchk (hC u1 p0 == 5) <|
  hb (hX5_next p0 u1) fun _ u3 =>
  mlet (hZ u3) fun a5 =>
  addc 1 (cN 9) <|
  mlet (nO u3 9) fun u7 =>
  hb (hX10_init a5 x2 u7) fun _ u8 =>
  hret (.inl a5) u8
theorem whX5_part_100 {K1 K2 ld : Nat} {p : Program} {e : Env} {s : State} {m : MethodId} {args : Array Value} {below : List Frame} {meth : Method} {c : Code} (hl0 : l.stackTraces = false) (C : CxX t G l p s m args meth c yX5_part cX5_part 3 (some (.object "WhiteBoard$Form"))) (fe : Nat → Int32 → HS → Option (OH (PX Nat))) (hrec : ExprC fe t G l ld) (p0 : Nat) (p1 : Int32) (x2 : Int32) (s0 : Nat) (s1 : Int32) (u : HS) : VX mkA t G p l e (ld + 1) K1 K2 s m args below meth c 3 100 [(0, .ref p0), (2, .int x2)] [.int s1, .ref s0] u (hX5_part_100 fe p0 p1 x2 s0 s1 u) := by
  unfold hX5_part_100
  refine v_iconst C.1.1 3 (by decide) dX5_part_100 ?_
  refine v_chk (fun h2 => ?_)
  refine v_callVX C [.int s1, .int 3] [] (ctX5_want t G l hl0 s0 s1 3 u) (fun _ _ => cwX5_want C.1 q1008 (by have h9 := hrec.1; omega)) (recO C.1 (ci := 4) (eq_of_beq h2) (by decide) rfl) rfl rfl (by exact Nat.le_of_ble_eq_true rfl) dX5_part_101 (fun _ u1 => ?_)
  refine v_aload_n C.1.1 0 rfl rfl dX5_part_104 ?_
  refine v_chk (fun h4 => ?_)
  refine v_callVH C.1 [] [] (ctX5_next t G l hl0 p0 u1) (fun _ _ => cwX5_next C.1 q890 (by have h9 := hrec.1; omega)) (recO C.1 (ci := 4) (eq_of_beq h4) (by decide) rfl) rfl rfl (by exact Nat.le_of_ble_eq_true rfl) dX5_part_105 (fun _ u3 => ?_)
  refine v_letE (fun a5 e6 => ?_)
  refine v_hnew C.1 9 e6 (by decide) rfl in_X10 tyX10 tyX10_ok df_X10 q1166 q1167 q150 dX5_part_108 (fun u7 => ?_)
  refine v_dup C.1.1 rfl dX5_part_111 ?_
  refine v_iload_n C.1.1 1 rfl rfl dX5_part_112 ?_
  refine v_callIH C.1 [.int x2] [.ref a5] (ctX10_init t G l hl0 a5 x2 u7) (fun _ _ => cwX10_init C.1 q1168 (by have h9 := hrec.1; omega)) rfl rfl (by exact Nat.le_of_ble_eq_true rfl) dX5_part_113 (fun _ u8 => ?_)
  exact v_xaret C.1 (Or.inl ⟨_, rfl⟩) dX5_part_116
def hX5_part_76 (fe : Nat → Int32 → HS → Option (OH (PX Nat))) (p0 : Nat) (p1 : Int32) (s0 : Nat) (s1 : Int32) (u : HS) : Option (OH (PX Nat)) :=
  mchk (hC u s0 == 5) <|
  hx (hX5_want s0 s1 1 u) fun _ u1 =>
  mchk (hC u1 p0 == 5) <|
  mderef (hR u1 p0 3) fun a4 =>
  mchk (hC u1 p0 == 5) <|
  hb (hX5_which p0 a4 u1) fun r7 u6 =>
  if r7 = (-1) then
    hX5_part_100 fe p0 p1 r7 p0 0 u6
  else
    hX5_part_100 fe p0 p1 r7 p0 1 u6
theorem whX5_part_76 {K1 K2 ld : Nat} {p : Program} {e : Env} {s : State} {m : MethodId} {args : Array Value} {below : List Frame} {meth : Method} {c : Code} (hl0 : l.stackTraces = false) (C : CxX t G l p s m args meth c yX5_part cX5_part 3 (some (.object "WhiteBoard$Form"))) (fe : Nat → Int32 → HS → Option (OH (PX Nat))) (hrec : ExprC fe t G l ld) (p0 : Nat) (p1 : Int32) (s0 : Nat) (s1 : Int32) (u : HS) : VX mkA t G p l e (ld + 1) K1 K2 s m args below meth c 3 76 [(0, .ref p0)] [.int s1, .ref s0] u (hX5_part_76 fe p0 p1 s0 s1 u) := by
  unfold hX5_part_76
  refine v_iconst C.1.1 1 (by decide) dX5_part_76 ?_
  refine v_chk (fun h2 => ?_)
  refine v_callVX C [.int s1, .int 1] [] (ctX5_want t G l hl0 s0 s1 1 u) (fun _ _ => cwX5_want C.1 q1008 (by have h9 := hrec.1; omega)) (recO C.1 (ci := 4) (eq_of_beq h2) (by decide) rfl) rfl rfl (by exact Nat.le_of_ble_eq_true rfl) dX5_part_77 (fun _ u1 => ?_)
  refine v_aload_n C.1.1 0 rfl rfl dX5_part_80 ?_
  refine v_aload_n C.1.1 0 rfl rfl dX5_part_81 ?_
  refine v_chk (fun h3 => ?_)
  refine v_hget C.1 (v := va_rf (hR u1 p0 3)) 4 3 (eq_of_beq h3) (by decide) rfl in_X5 (by decide) (Or.inl q851) (fun _ h => h) (hF_r (ci := 4) (eq_of_beq h3) (by decide)) dX5_part_82 ?_
  refine v_deref (fun a4 e5 => ?_)
  refine v_chk (fun h8 => ?_)
  refine v_callVH C.1 [.ref a4] [] (ctX5_which t G l hl0 p0 a4 u1) (fun _ _ => cwX5_which C.1 q1162 (by have h9 := hrec.1; omega)) (recO C.1 (ci := 4) (eq_of_beq h8) (by decide) rfl) rfl rfl (by exact Nat.le_of_ble_eq_true rfl) dX5_part_85 (fun r7 u6 => ?_)
  refine v_istore_n C.1.1 [(2, .int r7), (0, .ref p0)] rfl (by decide) rfl dX5_part_88 ?_
  refine v_aload_n C.1.1 1 rfl rfl dX5_part_89 ?_
  refine v_iload_n C.1.1 0 rfl rfl dX5_part_90 ?_
  refine v_iconst C.1.1 (-1) (by decide) dX5_part_91 ?_
  refine v_icmp_eq C.1.1 99 (by decide) dX5_part_92 (fun _ => ?_) (fun _ => ?_)
  · refine v_iconst C.1.1 0 (by decide) dX5_part_99 ?_
    refine v_sub [1, 0] rfl ?_
    exact whX5_part_100 hl0 C fe hrec p0 p1 r7 p0 0 u6
  · refine v_iconst C.1.1 1 (by decide) dX5_part_95 ?_
    refine v_goto C.1.1 100 (by decide) dX5_part_96 ?_
    refine v_sub [1, 0] rfl ?_
    exact whX5_part_100 hl0 C fe hrec p0 p1 r7 p0 1 u6
def hX5_part (fe : Nat → Int32 → HS → Option (OH (PX Nat))) (p0 : Nat) (p1 : Int32) (u : HS) : Option (OH (PX Nat)) :=
  mchk (hC u p0 == 5) <|
  if (hI u p0 5) = 2 then
    mlet (hZ u) fun a2 =>
    addc 1 (cN 8) <|
    mlet (nO u 8) fun u4 =>
    mchk (hC u4 p0 == 5) <|
    hx (hX5_number p0 0 9999 u4) fun r6 u5 =>
    hb (hX9_init a2 r6 u5) fun _ u8 =>
    hret (.inl a2) u8
  else
    mchk (hC u p0 == 5) <|
    hb (hX5_isSign p0 40 u) fun r3 u2 =>
    if r3 = 0 then
      mchk (hC u2 p0 == 5) <|
      if (hI u2 p0 5) = 1 then
        hX5_part_76 fe p0 p1 p0 1 u2
      else
        hX5_part_76 fe p0 p1 p0 0 u2
    else
      mchk (hC u2 p0 == 5) <|
      hb (hX5_next p0 u2) fun _ u5 =>
      mchk (hC u5 p0 == 5) <|
      hx (fe p0 (p1 + 1) u5) fun r8 u7 =>
      mchk (hC u7 p0 == 5) <|
      hb (hX5_isSign p0 41 u7) fun r11 u10 =>
      mchk (hC u10 p0 == 5) <|
      hx (hX5_want p0 r11 1 u10) fun _ u13 =>
      mchk (hC u13 p0 == 5) <|
      hb (hX5_next p0 u13) fun _ u15 =>
      hret (.inl r8) u15
theorem ctX5_part (t : TT) (G : GH) (l : Launch) (hl0 : l.stackTraces = false) {ld : Nat} (fe : Nat → Int32 → HS → Option (OH (PX Nat))) (hrec : ExprC fe t G l ld) (p0 : Nat) (p1 : Int32) (u : HS) : CtX mkA t G l yX5_part cX5_part 3 (some (.object "WhiteBoard$Form")) (ld + 1) [.ref p0, .int p1] u (hX5_part fe p0 p1 u) := by
  refine ctX_of [(0, .ref p0), (1, .int p1)] hl0 rfl (Nat.le_of_ble_eq_true rfl) rfl (fun K1 K2 p e s m args below meth c C => ?_)
  unfold hX5_part
  refine v_aload_n C.1.1 0 rfl rfl dX5_part_0 ?_
  refine v_chk (fun h1 => ?_)
  refine v_hget C.1 (v := .int (hI u p0 5)) 4 5 (eq_of_beq h1) (by decide) rfl in_X5 (by decide) (Or.inl q853) (fun _ h => h) (hF_i (ci := 4) (eq_of_beq h1) (by decide)) dX5_part_1 ?_
  refine v_iconst C.1.1 2 (by decide) dX5_part_4 ?_
  refine v_icmp_ne C.1.1 24 (by decide) dX5_part_5 (fun _ => ?_) (fun _ => ?_)
  · refine v_letE (fun a2 e3 => ?_)
    refine v_hnew C.1 8 e3 (by decide) rfl in_X9 tyX9 tyX9_ok df_X9 q1152 q1153 q149 dX5_part_8 (fun u4 => ?_)
    refine v_dup C.1.1 rfl dX5_part_11 ?_
    refine v_aload_n C.1.1 0 rfl rfl dX5_part_12 ?_
    refine v_iconst C.1.1 0 (by decide) dX5_part_13 ?_
    refine v_sipush C.1.1 9999 (by decide) dX5_part_14 ?_
    refine v_chk (fun h7 => ?_)
    refine v_callVX C [.int 0, .int 9999] [.ref a2, .ref a2] (ctX5_number t G l hl0 p0 0 9999 u4) (fun _ _ => cwX5_number C.1 q1036 (by have h9 := hrec.1; omega)) (recO C.1 (ci := 4) (eq_of_beq h7) (by decide) rfl) rfl rfl (by exact Nat.le_of_ble_eq_true rfl) dX5_part_17 (fun r6 u5 => ?_)
    refine v_callIH C.1 [.int r6] [.ref a2] (ctX9_init t G l hl0 a2 r6 u5) (fun _ _ => cwX9_init C.1 q1154 (by have h9 := hrec.1; omega)) rfl rfl (by exact Nat.le_of_ble_eq_true rfl) dX5_part_20 (fun _ u8 => ?_)
    exact v_xaret C.1 (Or.inl ⟨_, rfl⟩) dX5_part_23
  · refine v_aload_n C.1.1 0 rfl rfl dX5_part_24 ?_
    refine v_bipush C.1.1 40 (by decide) dX5_part_25 ?_
    refine v_chk (fun h4 => ?_)
    refine v_callVH C.1 [.int 40] [] (ctX5_isSign t G l hl0 p0 40 u) (fun _ _ => cwX5_isSign C.1 q1125 (by have h9 := hrec.1; omega)) (recO C.1 (ci := 4) (eq_of_beq h4) (by decide) rfl) rfl rfl (by exact Nat.le_of_ble_eq_true rfl) dX5_part_27 (fun r3 u2 => ?_)
    refine v_if_eq C.1.1 62 (by decide) dX5_part_30 (fun _ => ?_) (fun _ => ?_)
    · refine v_aload_n C.1.1 0 rfl rfl dX5_part_62 ?_
      refine v_aload_n C.1.1 0 rfl rfl dX5_part_63 ?_
      refine v_chk (fun h5 => ?_)
      refine v_hget C.1 (v := .int (hI u2 p0 5)) 4 5 (eq_of_beq h5) (by decide) rfl in_X5 (by decide) (Or.inl q853) (fun _ h => h) (hF_i (ci := 4) (eq_of_beq h5) (by decide)) dX5_part_64 ?_
      refine v_iconst C.1.1 1 (by decide) dX5_part_67 ?_
      refine v_icmp_ne C.1.1 75 (by decide) dX5_part_68 (fun _ => ?_) (fun _ => ?_)
      · refine v_iconst C.1.1 1 (by decide) dX5_part_71 ?_
        refine v_goto C.1.1 76 (by decide) dX5_part_72 ?_
        refine v_sub [0] rfl ?_
        exact whX5_part_76 hl0 C fe hrec p0 p1 p0 1 u2
      · refine v_iconst C.1.1 0 (by decide) dX5_part_75 ?_
        refine v_sub [0] rfl ?_
        exact whX5_part_76 hl0 C fe hrec p0 p1 p0 0 u2
    · refine v_aload_n C.1.1 0 rfl rfl dX5_part_33 ?_
      refine v_chk (fun h6 => ?_)
      refine v_callVH C.1 [] [] (ctX5_next t G l hl0 p0 u2) (fun _ _ => cwX5_next C.1 q890 (by have h9 := hrec.1; omega)) (recO C.1 (ci := 4) (eq_of_beq h6) (by decide) rfl) rfl rfl (by exact Nat.le_of_ble_eq_true rfl) dX5_part_34 (fun _ u5 => ?_)
      refine v_aload_n C.1.1 0 rfl rfl dX5_part_37 ?_
      refine v_iload_n C.1.1 1 rfl rfl dX5_part_38 ?_
      refine v_iconst C.1.1 1 (by decide) dX5_part_39 ?_
      refine v_iadd C.1.1 dX5_part_40 ?_
      refine v_chk (fun h9 => ?_)
      refine v_callVX C [.int (p1 + 1)] [] (hrec.2 p0 (p1 + 1) u5) (fun _ _ => cwX5_expression C.1 q1121 (by have h9 := hrec.1; omega)) (recO C.1 (ci := 4) (eq_of_beq h9) (by decide) rfl) rfl rfl (by exact Nat.le_of_ble_eq_true rfl) dX5_part_41 (fun r8 u7 => ?_)
      refine v_astore_n C.1.1 [(2, .ref r8), (0, .ref p0), (1, .int p1)] rfl (by decide) rfl dX5_part_44 ?_
      refine v_aload_n C.1.1 1 rfl rfl dX5_part_45 ?_
      refine v_aload_n C.1.1 1 rfl rfl dX5_part_46 ?_
      refine v_bipush C.1.1 41 (by decide) dX5_part_47 ?_
      refine v_chk (fun h12 => ?_)
      refine v_callVH C.1 [.int 41] [.ref p0] (ctX5_isSign t G l hl0 p0 41 u7) (fun _ _ => cwX5_isSign C.1 q1125 (by have h9 := hrec.1; omega)) (recO C.1 (ci := 4) (eq_of_beq h12) (by decide) rfl) rfl rfl (by exact Nat.le_of_ble_eq_true rfl) dX5_part_49 (fun r11 u10 => ?_)
      refine v_iconst C.1.1 1 (by decide) dX5_part_52 ?_
      refine v_chk (fun h14 => ?_)
      refine v_callVX C [.int r11, .int 1] [] (ctX5_want t G l hl0 p0 r11 1 u10) (fun _ _ => cwX5_want C.1 q1008 (by have h9 := hrec.1; omega)) (recO C.1 (ci := 4) (eq_of_beq h14) (by decide) rfl) rfl rfl (by exact Nat.le_of_ble_eq_true rfl) dX5_part_53 (fun _ u13 => ?_)
      refine v_aload_n C.1.1 1 rfl rfl dX5_part_56 ?_
      refine v_chk (fun h16 => ?_)
      refine v_callVH C.1 [] [] (ctX5_next t G l hl0 p0 u13) (fun _ _ => cwX5_next C.1 q890 (by have h9 := hrec.1; omega)) (recO C.1 (ci := 4) (eq_of_beq h16) (by decide) rfl) rfl rfl (by exact Nat.le_of_ble_eq_true rfl) dX5_part_57 (fun _ u15 => ?_)
      refine v_aload_n C.1.1 0 rfl rfl dX5_part_60 ?_
      exact v_xaret C.1 (Or.inl ⟨_, rfl⟩) dX5_part_61
theorem cwX5_part {t : TT} {G : GH} {l : Launch} {p : Program} {s : State} {m : MethodId} {args : Array Value} {meth : Method} {c : Code} {y0 : MethodName} {cc0 : ByteArray} {nL0 : Nat} {ret0 : Option FieldType} (C : CxH t G l p s m args meth c y0 cc0 nL0 ret0) {index lv mc ms K1 K2 lx : Nat} (hq : Cond.methodLink y0.cls index yX5_part ∈ lw_all) (hR : lx + 1 ≤ lv) : CallW (rmH lv K1 K2) s args y0.cls RX5 index yX5_part cX5_part 3 (some (.object "WhiteBoard$Form")) (ws_ yX5_part cX5_part 3 (some (.object "WhiteBoard$Form"))) (rmH lx mc ms) mc ms 1 :=
  cwV 1 C.1.2.2.2.2.1 (lw_V hq q1150 qs35 q132 q1151) rfl rfl rfl (by decide +kernel) ⟨hR, by show 8 + (3 + 11) + 100 * lx ≤ 100 * lv; omega⟩
def hJ18_init (p0 : Nat) (p1 : Int32) (u : HS) : Option (OH Unit) :=
  if (1 : Int32) = 0 then
    none
  else
    mchk (!(decide (p1 < 0)) && decide (p1.toNatClampNeg ≤ 60000000)) <|
    mlet (hZ u) fun a1 =>
    addc 1 (p1.toNatClampNeg) <|
    mlet (nA u 3 (p1.toNatClampNeg)) fun u3 =>
    mchk (hC u3 p0 == 13) <|
    mlet (uR u3 p0 0 (some a1)) fun u6 =>
    mchk (hC u6 p0 == 13) <|
    mlet (uI u6 p0 1 0) fun u8 =>
    hret () u8
theorem ctJ18_init (t : TT) (G : GH) (l : Launch) (hl0 : l.stackTraces = false) (p0 : Nat) (p1 : Int32) (u : HS) : CtH mkU t G l yJ18_init cJ18_init 2 none 2 [.ref p0, .int p1] u (hJ18_init p0 p1 u) := by
  refine ctH_of [(0, .ref p0), (1, .int p1)] hl0 rfl (Nat.le_of_ble_eq_true rfl) rfl (fun K1 K2 p e s m args below meth c C => ?_)
  unfold hJ18_init
  refine v_aload_n C.1 0 rfl rfl dJ18_init_0 ?_
  refine v_objInit C q1190 q161 q162 (by exact Nat.le_of_ble_eq_true rfl) (by exact Nat.le_of_ble_eq_true rfl) dJ18_init_1 ?_
  refine v_gets C C.2.1.comp q1191 (fun _ h => h) dJ18_init_4 ?_
  refine v_if_eq C.1 25 (by decide) dJ18_init_7 (fun _ => ?_) (fun _ => ?_)
  · refine v_aload_n C.1 0 rfl rfl dJ18_init_25 ?_
    refine v_iload_n C.1 1 rfl rfl dJ18_init_26 ?_
    exact v_none
  · refine v_aload_n C.1 0 rfl rfl dJ18_init_10 ?_
    refine v_iload_n C.1 1 rfl rfl dJ18_init_11 ?_
    refine v_chk (fun h4 => ?_)
    refine v_letE (fun a1 e2 => ?_)
    refine v_hnewa C 3 e2 (by decide) rfl q353 (nb_0 h4) rfl (nb_1 h4) dJ18_init_12 (fun u3 => ?_)
    refine v_chk (fun h5 => ?_)
    refine v_hputR C (some a1) 12 0 (eq_of_beq h5) (by decide) rfl in_J19 tyJ19 tyJ19_ok nmJ19 (by decide) (by decide) q1199 (fun _ h => h) (Or.inl rfl) rfl rfl dJ18_init_14 (fun u6 => ?_)
    refine v_aload_n C.1 0 rfl rfl dJ18_init_17 ?_
    refine v_iconst C.1 0 (by decide) dJ18_init_18 ?_
    refine v_chk (fun h7 => ?_)
    refine v_hputI C 12 1 (eq_of_beq h7) (by decide) rfl in_J19 tyJ19 tyJ19_ok nmJ19 (by decide) (by decide) q1200 (fun _ h => h) (Or.inl rfl) ⟨rfl, rfl⟩ dJ18_init_19 (fun u8 => ?_)
    refine v_goto C.1 38 (by decide) dJ18_init_22 ?_
    exact v_hvret C dJ18_init_38
theorem cwJ18_init {t : TT} {G : GH} {l : Launch} {p : Program} {s : State} {m : MethodId} {args : Array Value} {meth : Method} {c : Code} {y0 : MethodName} {cc0 : ByteArray} {nL0 : Nat} {ret0 : Option FieldType} (C : CxH t G l p s m args meth c y0 cc0 nL0 ret0) {index lv mc ms K1 K2 : Nat} (hq : Cond.methodLink y0.cls index yJ18_init ∈ lw_all) (hR : 2 + 1 ≤ lv) : CallB (rmH lv K1 K2) s args y0.cls index yJ18_init cJ18_init 2 none (ws_ yJ18_init cJ18_init 2 none) (rmH 2 mc ms) mc ms 1 ∧ yJ18_init.name = "<init>" ∧ (Cond.instanceMethod yJ18_init).before args s = true :=
  cwI 1 C.1.2.2.2.2.1 (lw_meth q1189) rfl rfl rfl (C.1.2.2.2.2.1 _ q151) (C.1.2.2.2.2.1 _ hq) (C.1.2.2.2.2.1 _ q1188) rfl (by decide +kernel) ⟨hR, by show 8 + (2 + 11) + 100 * 2 ≤ 100 * lv; omega⟩
def hJ19_init (p0 : Nat) (u : HS) : Option (OH Unit) :=
  hb (hJ18_init p0 16 u) fun _ u1 =>
  hret () u1
theorem ctJ19_init (t : TT) (G : GH) (l : Launch) (hl0 : l.stackTraces = false) (p0 : Nat) (u : HS) : CtH mkU t G l yJ19_init cJ19_init 1 none 3 [.ref p0] u (hJ19_init p0 u) := by
  refine ctH_of [(0, .ref p0)] hl0 rfl (Nat.le_of_ble_eq_true rfl) rfl (fun K1 K2 p e s m args below meth c C => ?_)
  unfold hJ19_init
  refine v_aload_n C.1 0 rfl rfl dJ19_init_0 ?_
  refine v_bipush C.1 16 (by decide) dJ19_init_1 ?_
  refine v_callIH C [.int 16] [] (ctJ18_init t G l hl0 p0 16 u) (fun _ _ => cwJ18_init C q1187 (by decide)) rfl rfl (by exact Nat.le_of_ble_eq_true rfl) dJ19_init_3 (fun _ u1 => ?_)
  exact v_hvret C dJ19_init_6
theorem cwJ19_init {t : TT} {G : GH} {l : Launch} {p : Program} {s : State} {m : MethodId} {args : Array Value} {meth : Method} {c : Code} {y0 : MethodName} {cc0 : ByteArray} {nL0 : Nat} {ret0 : Option FieldType} (C : CxH t G l p s m args meth c y0 cc0 nL0 ret0) {index lv mc ms K1 K2 : Nat} (hq : Cond.methodLink y0.cls index yJ19_init ∈ lw_all) (hR : 3 + 1 ≤ lv) : CallB (rmH lv K1 K2) s args y0.cls index yJ19_init cJ19_init 1 none (ws_ yJ19_init cJ19_init 1 none) (rmH 3 mc ms) mc ms 0 ∧ yJ19_init.name = "<init>" ∧ (Cond.instanceMethod yJ19_init).before args s = true :=
  cwI 0 C.1.2.2.2.2.1 (lw_meth q1186) rfl rfl rfl (C.1.2.2.2.2.1 _ q152) (C.1.2.2.2.2.1 _ hq) (C.1.2.2.2.2.1 _ q1185) rfl (by decide +kernel) ⟨hR, by show 8 + (1 + 11) + 100 * 3 ≤ 100 * lv; omega⟩
def hX8_init (p0 : Nat) (p1 : Nat) (u : HS) : Option (OH Unit) :=
  mlet (hZ u) fun a1 =>
  addc 1 (cN 11) <|
  mlet (nO u 11) fun u3 =>
  hb (hJ2_init a1 u3) fun _ u4 =>
  mchk (hC u4 p0 == 8) <|
  mlet (uR u4 p0 0 (some a1)) fun u6 =>
  mlet (hZ u6) fun a7 =>
  addc 1 (cN 12) <|
  mlet (nO u6 12) fun u9 =>
  hb (hJ19_init a7 u9) fun _ u10 =>
  mchk (hC u10 p0 == 8) <|
  mlet (uR u10 p0 1 (some a7)) fun u12 =>
  mchk (hC u12 p0 == 8) <|
  mderef (hR u12 p0 0) fun a14 =>
  mchk (hC u12 a14 == 12) <|
  hb (hJ2_add a14 p1 u12) fun r17 u16 =>
  hret () u16
theorem ctX8_init (t : TT) (G : GH) (l : Launch) (hl0 : l.stackTraces = false) (p0 : Nat) (p1 : Nat) (u : HS) : CtH mkU t G l yX8_init cX8_init 2 none 8 [.ref p0, .ref p1] u (hX8_init p0 p1 u) := by
  refine ctH_of [(0, .ref p0), (1, .ref p1)] hl0 rfl (Nat.le_of_ble_eq_true rfl) rfl (fun K1 K2 p e s m args below meth c C => ?_)
  unfold hX8_init
  refine v_aload_n C.1 0 rfl rfl dX8_init_0 ?_
  refine v_objInit C q1179 q161 q162 (by exact Nat.le_of_ble_eq_true rfl) (by exact Nat.le_of_ble_eq_true rfl) dX8_init_1 ?_
  refine v_aload_n C.1 0 rfl rfl dX8_init_4 ?_
  refine v_letE (fun a1 e2 => ?_)
  refine v_hnew C 11 e2 (by decide) rfl in_J2 tyJ2 tyJ2_ok df_J2 q1180 q170 q125 dX8_init_5 (fun u3 => ?_)
  refine v_dup C.1 rfl dX8_init_8 ?_
  refine v_callIH C [] [.ref a1, .ref p0] (ctJ2_init t G l hl0 a1 u3) (fun _ _ => cwJ2_init C q1181 (by decide)) rfl rfl (by exact Nat.le_of_ble_eq_true rfl) dX8_init_9 (fun _ u4 => ?_)
  refine v_chk (fun h5 => ?_)
  refine v_hputR C (some a1) 7 0 (eq_of_beq h5) (by decide) rfl in_X8 tyX8 tyX8_ok nmX8 (by decide) (by decide) q1212 (fun _ h => h) (Or.inr ⟨rfl, rfl, rfl⟩) rfl rfl dX8_init_12 (fun u6 => ?_)
  refine v_aload_n C.1 0 rfl rfl dX8_init_15 ?_
  refine v_letE (fun a7 e8 => ?_)
  refine v_hnew C 12 e8 (by decide) rfl in_J19 tyJ19 tyJ19_ok df_J19 q1182 q1183 q152 dX8_init_16 (fun u9 => ?_)
  refine v_dup C.1 rfl dX8_init_19 ?_
  refine v_callIH C [] [.ref a7, .ref p0] (ctJ19_init t G l hl0 a7 u9) (fun _ _ => cwJ19_init C q1184 (by decide)) rfl rfl (by exact Nat.le_of_ble_eq_true rfl) dX8_init_20 (fun _ u10 => ?_)
  refine v_chk (fun h11 => ?_)
  refine v_hputR C (some a7) 7 1 (eq_of_beq h11) (by decide) rfl in_X8 tyX8 tyX8_ok nmX8 (by decide) (by decide) q1213 (fun _ h => h) (Or.inr ⟨rfl, rfl, rfl⟩) rfl rfl dX8_init_23 (fun u12 => ?_)
  refine v_aload_n C.1 0 rfl rfl dX8_init_26 ?_
  refine v_chk (fun h13 => ?_)
  refine v_hget C (v := va_rf (hR u12 p0 0)) 7 0 (eq_of_beq h13) (by decide) rfl in_X8 (by decide) (Or.inl q1212) (fun _ h => h) (hF_r (ci := 7) (eq_of_beq h13) (by decide)) dX8_init_27 ?_
  refine v_deref (fun a14 e15 => ?_)
  refine v_aload_n C.1 1 rfl rfl dX8_init_30 ?_
  refine v_chk (fun h18 => ?_)
  refine v_callFH C [.ref p1] [] (ctJ2_add t G l hl0 a14 p1 u12) (fun _ _ => cwJ2_addF C q1211 (by decide)) (eq_of_beq h18) (by decide) rfl rfl rfl (by exact Nat.le_of_ble_eq_true rfl) dX8_init_31 (fun r17 u16 => ?_)
  refine v_pop C.1 rfl dX8_init_36 ?_
  exact v_hvret C dX8_init_37
theorem cwX8_init {t : TT} {G : GH} {l : Launch} {p : Program} {s : State} {m : MethodId} {args : Array Value} {meth : Method} {c : Code} {y0 : MethodName} {cc0 : ByteArray} {nL0 : Nat} {ret0 : Option FieldType} (C : CxH t G l p s m args meth c y0 cc0 nL0 ret0) {index lv mc ms K1 K2 : Nat} (hq : Cond.methodLink y0.cls index yX8_init ∈ lw_all) (hR : 8 + 1 ≤ lv) : CallB (rmH lv K1 K2) s args y0.cls index yX8_init cX8_init 2 none (ws_ yX8_init cX8_init 2 none) (rmH 8 mc ms) mc ms 1 ∧ yX8_init.name = "<init>" ∧ (Cond.instanceMethod yX8_init).before args s = true :=
  cwI 1 C.1.2.2.2.2.1 (lw_meth q1178) rfl rfl rfl (C.1.2.2.2.2.1 _ q148) (C.1.2.2.2.2.1 _ hq) (C.1.2.2.2.2.1 _ q1177) rfl (by decide +kernel) ⟨hR, by show 8 + (2 + 11) + 100 * 8 ≤ 100 * lv; omega⟩
def hX5_sign (p0 : Nat) (u : HS) : Option (OH Int32) :=
  mchk (hC u p0 == 5) <|
  mderef (hR u p0 11) fun a2 =>
  mchk (hC u a2 == 1) <|
  mderef (hR u a2 4) fun a5 =>
  mchk (hC u p0 == 5) <|
  mchk (inA u (hI u p0 6) a5 23) <|
  mlet ((Int32.toUInt32 (hA u a5 (hI u p0 6).toNatClampNeg) % 65536).toInt32) fun v9 =>
  mchk (hC u p0 == 5) <|
  hb (hX5_next p0 u) fun _ u10 =>
  mchk (isCh v9) <|
  hret v9 u10
theorem ctX5_sign (t : TT) (G : GH) (l : Launch) (hl0 : l.stackTraces = false) (p0 : Nat) (u : HS) : CtH mkI t G l yX5_sign cX5_sign 2 (some .char) 7 [.ref p0] u (hX5_sign p0 u) := by
  refine ctH_of [(0, .ref p0)] hl0 rfl (Nat.le_of_ble_eq_true rfl) rfl (fun K1 K2 p e s m args below meth c C => ?_)
  unfold hX5_sign
  refine v_aload_n C.1 0 rfl rfl dX5_sign_0 ?_
  refine v_chk (fun h1 => ?_)
  refine v_hget C (v := va_rf (hR u p0 11)) 4 11 (eq_of_beq h1) (by decide) rfl in_X5 (by decide) (Or.inl q860) (fun _ h => h) (hF_r (ci := 4) (eq_of_beq h1) (by decide)) dX5_sign_1 ?_
  refine v_deref (fun a2 e3 => ?_)
  refine v_chk (fun h4 => ?_)
  refine v_hget C (v := va_rf (hR u a2 4)) 0 4 (eq_of_beq h4) (by decide) rfl in_X1 (by decide) (Or.inr ⟨_, q313⟩) (fun _ h => h) (hF_r (ci := 0) (eq_of_beq h4) (by decide)) dX5_sign_4 ?_
  refine v_deref (fun a5 e6 => ?_)
  refine v_aload_n C.1 0 rfl rfl dX5_sign_7 ?_
  refine v_chk (fun h7 => ?_)
  refine v_hget C (v := .int (hI u p0 6)) 4 6 (eq_of_beq h7) (by decide) rfl in_X5 (by decide) (Or.inl q854) (fun _ h => h) (hF_i (ci := 4) (eq_of_beq h7) (by decide)) dX5_sign_8 ?_
  refine v_chk (fun h8 => ?_)
  refine v_habald C h8 dX5_sign_11 ?_
  refine v_i2c C.1 dX5_sign_12 ?_
  refine v_topi (fun v9 => ?_)
  refine v_istore_n C.1 [(1, .int v9), (0, .ref p0)] rfl (by decide) rfl dX5_sign_13 ?_
  refine v_aload_n C.1 1 rfl rfl dX5_sign_14 ?_
  refine v_chk (fun h11 => ?_)
  refine v_callVH C [] [] (ctX5_next t G l hl0 p0 u) (fun _ _ => cwX5_next C q890 (by decide)) (recO C (ci := 4) (eq_of_beq h11) (by decide) rfl) rfl rfl (by exact Nat.le_of_ble_eq_true rfl) dX5_sign_15 (fun _ u10 => ?_)
  refine v_iload_n C.1 0 rfl rfl dX5_sign_18 ?_
  refine v_chk (fun h12 => ?_)
  exact v_hcret C h12 dX5_sign_19
theorem cwX5_sign {t : TT} {G : GH} {l : Launch} {p : Program} {s : State} {m : MethodId} {args : Array Value} {meth : Method} {c : Code} {y0 : MethodName} {cc0 : ByteArray} {nL0 : Nat} {ret0 : Option FieldType} (C : CxH t G l p s m args meth c y0 cc0 nL0 ret0) {index lv mc ms K1 K2 : Nat} (hq : Cond.methodLink y0.cls index yX5_sign ∈ lw_all) (hR : 7 + 1 ≤ lv) : CallW (rmH lv K1 K2) s args y0.cls RX5 index yX5_sign cX5_sign 2 (some .char) (ws_ yX5_sign cX5_sign 2 (some .char)) (rmH 7 mc ms) mc ms 0 :=
  cwV 0 C.1.2.2.2.2.1 (lw_V hq q1221 qs37 q132 q1222) rfl rfl rfl (by decide +kernel) ⟨hR, by show 8 + (2 + 11) + 100 * 7 ≤ 100 * lv; omega⟩
def hJ18_newCapacity (p0 : Nat) (p1 : Int32) (u : HS) : Option (OH Int32) :=
  mchk (hC u p0 == 13) <|
  mderef (hR u p0 0) fun a2 =>
  mchk (hC u a2 == 23) <|
  mlet (Int32.ofNat (hN u a2)) fun v5 =>
  mchk (hC u p0 == 13) <|
  mlet (p1 <<< ((hI u p0 1) &&& 31)) fun v7 =>
  mlet (v7 - v5) fun v8 =>
  mchk (hC u p0 == 13) <|
  hb (hJ13_newLength v5 v8 (v5 + ((2 : Int32) <<< ((hI u p0 1) &&& 31))) u) fun r11 u10 =>
  if r11 = 2147483647 then
    none
  else
    mchk (hC u10 p0 == 13) <|
    hret (r11 >>> ((hI u10 p0 1) &&& 31)) u10
theorem ctJ18_newCapacity (t : TT) (G : GH) (l : Launch) (hl0 : l.stackTraces = false) (p0 : Nat) (p1 : Int32) (u : HS) : CtH mkI t G l yJ18_newCapacity cJ18_newCapacity 6 (some .int) 3 [.ref p0, .int p1] u (hJ18_newCapacity p0 p1 u) := by
  refine ctH_of [(0, .ref p0), (1, .int p1)] hl0 rfl (Nat.le_of_ble_eq_true rfl) rfl (fun K1 K2 p e s m args below meth c C => ?_)
  unfold hJ18_newCapacity
  refine v_aload_n C.1 0 rfl rfl dJ18_newCapacity_0 ?_
  refine v_chk (fun h1 => ?_)
  refine v_hget C (v := va_rf (hR u p0 0)) 12 0 (eq_of_beq h1) (by decide) rfl in_J19 (by decide) (Or.inl q1199) (fun _ h => h) (hF_r (ci := 12) (eq_of_beq h1) (by decide)) dJ18_newCapacity_1 ?_
  refine v_deref (fun a2 e3 => ?_)
  refine v_chk (fun h4 => ?_)
  refine v_halen C 3 (by decide) (eq_of_beq h4) dJ18_newCapacity_4 ?_
  refine v_topi (fun v5 => ?_)
  refine v_istore_n C.1 [(2, .int v5), (0, .ref p0), (1, .int p1)] rfl (by decide) rfl dJ18_newCapacity_5 ?_
  refine v_iload_n C.1 2 rfl rfl dJ18_newCapacity_6 ?_
  refine v_aload_n C.1 1 rfl rfl dJ18_newCapacity_7 ?_
  refine v_chk (fun h6 => ?_)
  refine v_hget C (v := .int (hI u p0 1)) 12 1 (eq_of_beq h6) (by decide) rfl in_J19 (by decide) (Or.inl q1200) (fun _ h => h) (hF_i (ci := 12) (eq_of_beq h6) (by decide)) dJ18_newCapacity_8 ?_
  refine v_ishl C.1 dJ18_newCapacity_11 ?_
  refine v_topi (fun v7 => ?_)
  refine v_istore_n C.1 [(3, .int v7), (2, .int v5), (0, .ref p0), (1, .int p1)] rfl (by decide) rfl dJ18_newCapacity_12 ?_
  refine v_iload_n C.1 0 rfl rfl dJ18_newCapacity_13 ?_
  refine v_iload_n C.1 1 rfl rfl dJ18_newCapacity_14 ?_
  refine v_isub C.1 dJ18_newCapacity_15 ?_
  refine v_topi (fun v8 => ?_)
  refine v_istore C.1 [(4, .int v8), (3, .int v7), (2, .int v5), (0, .ref p0), (1, .int p1)] (by decide) rfl dJ18_newCapacity_16 ?_
  refine v_iload_n C.1 2 rfl rfl dJ18_newCapacity_18 ?_
  refine v_iload C.1 0 rfl dJ18_newCapacity_19 ?_
  refine v_iload_n C.1 2 rfl rfl dJ18_newCapacity_21 ?_
  refine v_iconst C.1 2 (by decide) dJ18_newCapacity_22 ?_
  refine v_aload_n C.1 3 rfl rfl dJ18_newCapacity_23 ?_
  refine v_chk (fun h9 => ?_)
  refine v_hget C (v := .int (hI u p0 1)) 12 1 (eq_of_beq h9) (by decide) rfl in_J19 (by decide) (Or.inl q1200) (fun _ h => h) (hF_i (ci := 12) (eq_of_beq h9) (by decide)) dJ18_newCapacity_24 ?_
  refine v_ishl C.1 dJ18_newCapacity_27 ?_
  refine v_iadd C.1 dJ18_newCapacity_28 ?_
  refine v_callSH C [.int v5, .int v8, .int (v5 + ((2 : Int32) <<< ((hI u p0 1) &&& 31)))] [] (ctJ13_newLength t G l hl0 v5 v8 (v5 + ((2 : Int32) <<< ((hI u p0 1) &&& 31))) u) (fun _ _ => cwJ13_newLength C q1242 (by decide)) rfl rfl (by exact Nat.le_of_ble_eq_true rfl) dJ18_newCapacity_29 (fun r11 u10 => ?_)
  refine v_istore C.1 [(5, .int r11), (4, .int v8), (3, .int v7), (2, .int v5), (0, .ref p0), (1, .int p1)] (by decide) rfl dJ18_newCapacity_32 ?_
  refine v_iload C.1 0 rfl dJ18_newCapacity_34 ?_
  refine v_ldc C.1 q1243 dJ18_newCapacity_36 ?_
  refine v_icmp_ne C.1 51 (by decide) dJ18_newCapacity_38 (fun _ => ?_) (fun _ => ?_)
  · exact v_none
  · refine v_iload C.1 0 rfl dJ18_newCapacity_51 ?_
    refine v_aload_n C.1 4 rfl rfl dJ18_newCapacity_53 ?_
    refine v_chk (fun h12 => ?_)
    refine v_hget C (v := .int (hI u10 p0 1)) 12 1 (eq_of_beq h12) (by decide) rfl in_J19 (by decide) (Or.inl q1200) (fun _ h => h) (hF_i (ci := 12) (eq_of_beq h12) (by decide)) dJ18_newCapacity_54 ?_
    refine v_ishr C.1 dJ18_newCapacity_57 ?_
    exact v_hiret C dJ18_newCapacity_58
theorem cwJ18_newCapacityU {t : TT} {G : GH} {l : Launch} {p : Program} {s : State} {m : MethodId} {args : Array Value} {meth : Method} {c : Code} {y0 : MethodName} {cc0 : ByteArray} {nL0 : Nat} {ret0 : Option FieldType} (C : CxH t G l p s m args meth c y0 cc0 nL0 ret0) {index lv mc ms K1 K2 : Nat} (hq : Cond.methodLink y0.cls index yJ18_newCapacity ∈ lw_all) (hR : 3 + 1 ≤ lv) : va_CU (rmH lv K1 K2) s args y0.cls RJ19 RJ18 index yJ18_newCapacity yJ18_newCapacity cJ18_newCapacity 6 (some .int) (ws_ yJ18_newCapacity cJ18_newCapacity 6 (some .int)) (rmH 3 mc ms) mc ms 1 :=
  cwUP 1 C.1.2.2.2.2.1 hq q2354 (sel_priv (C.1.2.2.2.2.1 _ q1257) rfl (C.1.2.2.2.2.1 _ q1240) (tbl_at C q1239 rfl)) q1240 q151 q1241 rfl rfl rfl rfl (by decide +kernel) ⟨hR, by show 8 + (6 + 11) + 100 * 3 ≤ 100 * lv; omega⟩
def hJ14_copyOf_3 (p0 : Nat) (p1 : Int32) (u : HS) : Option (OH Nat) :=
  mchk (hC u p0 == 23) <|
  if p1 = (Int32.ofNat (hN u p0)) then
    none
  else
    mchk (!(decide (p1 < 0)) && decide (p1.toNatClampNeg ≤ 60000000)) <|
    mlet (hZ u) fun a2 =>
    addc 1 (p1.toNatClampNeg) <|
    mlet (nA u 3 (p1.toNatClampNeg)) fun u4 =>
    mchk (hC u4 p0 == 23) <|
    mchk (cpB u4 p0 0 a2 0 (iMin (Int32.ofNat (hN u4 p0)) p1)) <|
    mlet (uAr u4 a2 (va_cpy (hA u4 p0) (hA u4 a2) (0 : Int32).toNatClampNeg (0 : Int32).toNatClampNeg (iMin (Int32.ofNat (hN u4 p0)) p1).toNatClampNeg)) fun u7 =>
    hret a2 u7
theorem ctJ14_copyOf_3 (t : TT) (G : GH) (l : Launch) (hl0 : l.stackTraces = false) (p0 : Nat) (p1 : Int32) (u : HS) : CtH mkA t G l yJ14_copyOf_3 cJ14_copyOf_3 3 (some (.array .byte)) 2 [.ref p0, .int p1] u (hJ14_copyOf_3 p0 p1 u) := by
  refine ctH_of [(0, .ref p0), (1, .int p1)] hl0 rfl (Nat.le_of_ble_eq_true rfl) rfl (fun K1 K2 p e s m args below meth c C => ?_)
  unfold hJ14_copyOf_3
  refine v_iload_n C.1 1 rfl rfl dJ14_copyOf_3_0 ?_
  refine v_aload_n C.1 0 rfl rfl dJ14_copyOf_3_1 ?_
  refine v_chk (fun h1 => ?_)
  refine v_halen C 3 (by decide) (eq_of_beq h1) dJ14_copyOf_3_2 ?_
  refine v_icmp_ne C.1 14 (by decide) dJ14_copyOf_3_3 (fun _ => ?_) (fun _ => ?_)
  · refine v_aload_n C.1 0 rfl rfl dJ14_copyOf_3_6 ?_
    exact v_none
  · refine v_iload_n C.1 1 rfl rfl dJ14_copyOf_3_14 ?_
    refine v_chk (fun h5 => ?_)
    refine v_letE (fun a2 e3 => ?_)
    refine v_hnewa C 3 e3 (by decide) rfl q353 (nb_0 h5) rfl (nb_1 h5) dJ14_copyOf_3_15 (fun u4 => ?_)
    refine v_astore_n C.1 [(2, .ref a2), (0, .ref p0), (1, .int p1)] rfl (by decide) rfl dJ14_copyOf_3_17 ?_
    refine v_aload_n C.1 1 rfl rfl dJ14_copyOf_3_18 ?_
    refine v_iconst C.1 0 (by decide) dJ14_copyOf_3_19 ?_
    refine v_aload_n C.1 0 rfl rfl dJ14_copyOf_3_20 ?_
    refine v_iconst C.1 0 (by decide) dJ14_copyOf_3_21 ?_
    refine v_aload_n C.1 1 rfl rfl dJ14_copyOf_3_22 ?_
    refine v_chk (fun h6 => ?_)
    refine v_halen C 3 (by decide) (eq_of_beq h6) dJ14_copyOf_3_23 ?_
    refine v_iload_n C.1 2 rfl rfl dJ14_copyOf_3_24 ?_
    refine v_mmin C q444 q445 q133 q446 (by exact Nat.le_of_ble_eq_true rfl) (by exact Nat.le_of_ble_eq_true rfl) dJ14_copyOf_3_25 ?_
    refine v_hcopyB C q447 q449 q448 q142 (by exact Nat.le_of_ble_eq_true rfl) (by exact Nat.le_of_ble_eq_true rfl) dJ14_copyOf_3_28 (fun u7 => ?_)
    refine v_aload_n C.1 0 rfl rfl dJ14_copyOf_3_31 ?_
    exact v_haret C (Or.inr ⟨_, rfl⟩) dJ14_copyOf_3_32
theorem cwJ14_copyOf_3 {t : TT} {G : GH} {l : Launch} {p : Program} {s : State} {m : MethodId} {args : Array Value} {meth : Method} {c : Code} {y0 : MethodName} {cc0 : ByteArray} {nL0 : Nat} {ret0 : Option FieldType} (C : CxH t G l p s m args meth c y0 cc0 nL0 ret0) {index lv mc ms K1 K2 : Nat} (hq : Cond.methodLink y0.cls index yJ14_copyOf_3 ∈ lw_all) (hR : 2 + 1 ≤ lv) : CallB (rmH lv K1 K2) s args y0.cls index yJ14_copyOf_3 cJ14_copyOf_3 3 (some (.array .byte)) (ws_ yJ14_copyOf_3 cJ14_copyOf_3 3 (some (.array .byte))) (rmH 2 mc ms) mc ms 2 ∧ (Cond.static yJ14_copyOf_3).before args s = true :=
  ⟨callB_of 2 C.1.2.2.2.2.1 (lw_meth q1246) rfl rfl rfl (C.1.2.2.2.2.1 _ q141) (C.1.2.2.2.2.1 _ hq) (by decide +kernel) ⟨hR, by show 8 + (3 + 11) + 100 * 2 ≤ 100 * lv; omega⟩, C.1.2.2.2.2.1 _ q1245⟩
def hJ18_ensureCapacityInternal (p0 : Nat) (p1 : Int32) (u : HS) : Option (OH Unit) :=
  mchk (hC u p0 == 13) <|
  mderef (hR u p0 0) fun a2 =>
  mchk (hC u a2 == 23) <|
  mchk (hC u p0 == 13) <|
  mlet ((Int32.ofNat (hN u a2)) >>> ((hI u p0 1) &&& 31)) fun v6 =>
  if (p1 - v6) ≤ 0 then
    hret () u
  else
    mchk (hC u p0 == 13) <|
    mderef (hR u p0 0) fun a8 =>
    mchk (hC u p0 == 13) <|
    hb (hJ18_newCapacity p0 p1 u) fun r11 u10 =>
    mchk (hC u10 p0 == 13) <|
    hb (hJ14_copyOf_3 a8 (r11 <<< ((hI u10 p0 1) &&& 31)) u10) fun r15 u14 =>
    mchk (hC u14 p0 == 13) <|
    mlet (uR u14 p0 0 (some r15)) fun u17 =>
    hret () u17
theorem ctJ18_ensureCapacityInternal (t : TT) (G : GH) (l : Launch) (hl0 : l.stackTraces = false) (p0 : Nat) (p1 : Int32) (u : HS) : CtH mkU t G l yJ18_ensureCapacityInternal cJ18_ensureCapacityInternal 3 none 4 [.ref p0, .int p1] u (hJ18_ensureCapacityInternal p0 p1 u) := by
  refine ctH_of [(0, .ref p0), (1, .int p1)] hl0 rfl (Nat.le_of_ble_eq_true rfl) rfl (fun K1 K2 p e s m args below meth c C => ?_)
  unfold hJ18_ensureCapacityInternal
  refine v_aload_n C.1 0 rfl rfl dJ18_ensureCapacityInternal_0 ?_
  refine v_chk (fun h1 => ?_)
  refine v_hget C (v := va_rf (hR u p0 0)) 12 0 (eq_of_beq h1) (by decide) rfl in_J19 (by decide) (Or.inl q1199) (fun _ h => h) (hF_r (ci := 12) (eq_of_beq h1) (by decide)) dJ18_ensureCapacityInternal_1 ?_
  refine v_deref (fun a2 e3 => ?_)
  refine v_chk (fun h4 => ?_)
  refine v_halen C 3 (by decide) (eq_of_beq h4) dJ18_ensureCapacityInternal_4 ?_
  refine v_aload_n C.1 0 rfl rfl dJ18_ensureCapacityInternal_5 ?_
  refine v_chk (fun h5 => ?_)
  refine v_hget C (v := .int (hI u p0 1)) 12 1 (eq_of_beq h5) (by decide) rfl in_J19 (by decide) (Or.inl q1200) (fun _ h => h) (hF_i (ci := 12) (eq_of_beq h5) (by decide)) dJ18_ensureCapacityInternal_6 ?_
  refine v_ishr C.1 dJ18_ensureCapacityInternal_9 ?_
  refine v_topi (fun v6 => ?_)
  refine v_istore_n C.1 [(2, .int v6), (0, .ref p0), (1, .int p1)] rfl (by decide) rfl dJ18_ensureCapacityInternal_10 ?_
  refine v_iload_n C.1 2 rfl rfl dJ18_ensureCapacityInternal_11 ?_
  refine v_iload_n C.1 0 rfl rfl dJ18_ensureCapacityInternal_12 ?_
  refine v_isub C.1 dJ18_ensureCapacityInternal_13 ?_
  refine v_if_le C.1 38 (by decide) dJ18_ensureCapacityInternal_14 (fun _ => ?_) (fun _ => ?_)
  · exact v_hvret C dJ18_ensureCapacityInternal_38
  · refine v_aload_n C.1 1 rfl rfl dJ18_ensureCapacityInternal_17 ?_
    refine v_aload_n C.1 1 rfl rfl dJ18_ensureCapacityInternal_18 ?_
    refine v_chk (fun h7 => ?_)
    refine v_hget C (v := va_rf (hR u p0 0)) 12 0 (eq_of_beq h7) (by decide) rfl in_J19 (by decide) (Or.inl q1199) (fun _ h => h) (hF_r (ci := 12) (eq_of_beq h7) (by decide)) dJ18_ensureCapacityInternal_19 ?_
    refine v_deref (fun a8 e9 => ?_)
    refine v_aload_n C.1 1 rfl rfl dJ18_ensureCapacityInternal_22 ?_
    refine v_iload_n C.1 2 rfl rfl dJ18_ensureCapacityInternal_23 ?_
    refine v_chk (fun h12 => ?_)
    refine v_callUH C [.int p1] [.ref a8, .ref p0] (ctJ18_newCapacity t G l hl0 p0 p1 u) (fun _ _ => cwJ18_newCapacityU C q1238 (by decide)) (ci := 12) (eq_of_beq h12) (by decide) rfl rfl rfl (by exact Nat.le_of_ble_eq_true rfl) dJ18_ensureCapacityInternal_24 (fun r11 u10 => ?_)
    refine v_aload_n C.1 1 rfl rfl dJ18_ensureCapacityInternal_27 ?_
    refine v_chk (fun h13 => ?_)
    refine v_hget C (v := .int (hI u10 p0 1)) 12 1 (eq_of_beq h13) (by decide) rfl in_J19 (by decide) (Or.inl q1200) (fun _ h => h) (hF_i (ci := 12) (eq_of_beq h13) (by decide)) dJ18_ensureCapacityInternal_28 ?_
    refine v_ishl C.1 dJ18_ensureCapacityInternal_31 ?_
    refine v_callSH C [.ref a8, .int (r11 <<< ((hI u10 p0 1) &&& 31))] [.ref p0] (ctJ14_copyOf_3 t G l hl0 a8 (r11 <<< ((hI u10 p0 1) &&& 31)) u10) (fun _ _ => cwJ14_copyOf_3 C q1244 (by decide)) rfl rfl (by exact Nat.le_of_ble_eq_true rfl) dJ18_ensureCapacityInternal_32 (fun r15 u14 => ?_)
    refine v_chk (fun h16 => ?_)
    refine v_hputR C (some r15) 12 0 (eq_of_beq h16) (by decide) rfl in_J19 tyJ19 tyJ19_ok nmJ19 (by decide) (by decide) q1199 (fun _ h => h) (Or.inl rfl) rfl rfl dJ18_ensureCapacityInternal_35 (fun u17 => ?_)
    exact v_hvret C dJ18_ensureCapacityInternal_38
theorem cwJ18_ensureCapacityInternalU {t : TT} {G : GH} {l : Launch} {p : Program} {s : State} {m : MethodId} {args : Array Value} {meth : Method} {c : Code} {y0 : MethodName} {cc0 : ByteArray} {nL0 : Nat} {ret0 : Option FieldType} (C : CxH t G l p s m args meth c y0 cc0 nL0 ret0) {index lv mc ms K1 K2 : Nat} (hq : Cond.methodLink y0.cls index yJ18_ensureCapacityInternal ∈ lw_all) (hR : 4 + 1 ≤ lv) : va_CU (rmH lv K1 K2) s args y0.cls RJ19 RJ18 index yJ18_ensureCapacityInternal yJ18_ensureCapacityInternal cJ18_ensureCapacityInternal 3 none (ws_ yJ18_ensureCapacityInternal cJ18_ensureCapacityInternal 3 none) (rmH 4 mc ms) mc ms 1 :=
  cwUP 1 C.1.2.2.2.2.1 hq q2353 (sel_priv (C.1.2.2.2.2.1 _ q1257) rfl (C.1.2.2.2.2.1 _ q1236) (tbl_at C q1235 rfl)) q1236 q151 q1237 rfl rfl rfl rfl (by decide +kernel) ⟨hR, by show 8 + (3 + 11) + 100 * 4 ≤ 100 * lv; omega⟩
def hJ18_isLatin1 (p0 : Nat) (u : HS) : Option (OH Int32) :=
  if (1 : Int32) = 0 then
    hz id 0 u
  else
    mchk (hC u p0 == 13) <|
    if (hI u p0 1) = 0 then
      hz id 1 u
    else
      hz id 0 u
theorem ctJ18_isLatin1 (t : TT) (G : GH) (l : Launch) (hl0 : l.stackTraces = false) (p0 : Nat) (u : HS) : CtH mkI t G l yJ18_isLatin1 cJ18_isLatin1 1 (some .boolean) 2 [.ref p0] u (hJ18_isLatin1 p0 u) := by
  refine ctH_of [(0, .ref p0)] hl0 rfl (Nat.le_of_ble_eq_true rfl) rfl (fun K1 K2 p e s m args below meth c C => ?_)
  unfold hJ18_isLatin1
  refine v_gets C C.2.1.comp q1191 (fun _ h => h) dJ18_isLatin1_0 ?_
  refine v_if_eq C.1 17 (by decide) dJ18_isLatin1_3 (fun _ => ?_) (fun _ => ?_)
  · refine v_iconst C.1 0 (by decide) dJ18_isLatin1_17 ?_
    exact v_hzret C dJ18_isLatin1_18
  · refine v_aload_n C.1 0 rfl rfl dJ18_isLatin1_6 ?_
    refine v_chk (fun h1 => ?_)
    refine v_hget C (v := .int (hI u p0 1)) 12 1 (eq_of_beq h1) (by decide) rfl in_J19 (by decide) (Or.inl q1200) (fun _ h => h) (hF_i (ci := 12) (eq_of_beq h1) (by decide)) dJ18_isLatin1_7 ?_
    refine v_if_ne C.1 17 (by decide) dJ18_isLatin1_10 (fun _ => ?_) (fun _ => ?_)
    · refine v_iconst C.1 1 (by decide) dJ18_isLatin1_13 ?_
      refine v_goto C.1 18 (by decide) dJ18_isLatin1_14 ?_
      exact v_hzret C dJ18_isLatin1_18
    · refine v_iconst C.1 0 (by decide) dJ18_isLatin1_17 ?_
      exact v_hzret C dJ18_isLatin1_18
theorem cwJ18_isLatin1U {t : TT} {G : GH} {l : Launch} {p : Program} {s : State} {m : MethodId} {args : Array Value} {meth : Method} {c : Code} {y0 : MethodName} {cc0 : ByteArray} {nL0 : Nat} {ret0 : Option FieldType} (C : CxH t G l p s m args meth c y0 cc0 nL0 ret0) {index lv mc ms K1 K2 : Nat} (hq : Cond.methodLink y0.cls index yJ18_isLatin1 ∈ lw_all) (hR : 2 + 1 ≤ lv) : va_CU (rmH lv K1 K2) s args y0.cls RJ19 RJ18 index yJ18_isLatin1 yJ18_isLatin1 cJ18_isLatin1 1 (some .boolean) (ws_ yJ18_isLatin1 cJ18_isLatin1 1 (some .boolean)) (rmH 2 mc ms) mc ms 0 :=
  va_cwU 0 C.1.2.2.2.2.1 (lw_U hq q1256 q1257 q1255 q151 q1258) rfl rfl rfl rfl (by decide +kernel) ⟨hR, by show 8 + (1 + 11) + 100 * 2 ≤ 100 * lv; omega⟩
def hJ9_canEncode_2 (p0 : Int32) (u : HS) : Option (OH Int32) :=
  if 255 < p0 then
    hz id 0 u
  else
    hz id 1 u
theorem ctJ9_canEncode_2 (t : TT) (G : GH) (l : Launch) (hl0 : l.stackTraces = false) (p0 : Int32) (u : HS) : CtH mkI t G l yJ9_canEncode_2 cJ9_canEncode_2 1 (some .boolean) 2 [.int p0] u (hJ9_canEncode_2 p0 u) := by
  refine ctH_of [(0, .int p0)] hl0 rfl (Nat.le_of_ble_eq_true rfl) rfl (fun K1 K2 p e s m args below meth c C => ?_)
  unfold hJ9_canEncode_2
  refine v_iload_n C.1 0 rfl rfl dJ9_canEncode_2_0 ?_
  refine v_sipush C.1 255 (by decide) dJ9_canEncode_2_1 ?_
  refine v_icmp_gt C.1 11 (by decide) dJ9_canEncode_2_4 (fun _ => ?_) (fun _ => ?_)
  · refine v_iconst C.1 0 (by decide) dJ9_canEncode_2_11 ?_
    exact v_hzret C dJ9_canEncode_2_12
  · refine v_iconst C.1 1 (by decide) dJ9_canEncode_2_7 ?_
    refine v_goto C.1 12 (by decide) dJ9_canEncode_2_8 ?_
    exact v_hzret C dJ9_canEncode_2_12
theorem cwJ9_canEncode_2 {t : TT} {G : GH} {l : Launch} {p : Program} {s : State} {m : MethodId} {args : Array Value} {meth : Method} {c : Code} {y0 : MethodName} {cc0 : ByteArray} {nL0 : Nat} {ret0 : Option FieldType} (C : CxH t G l p s m args meth c y0 cc0 nL0 ret0) {index lv mc ms K1 K2 : Nat} (hq : Cond.methodLink y0.cls index yJ9_canEncode_2 ∈ lw_all) (hR : 2 + 1 ≤ lv) : CallB (rmH lv K1 K2) s args y0.cls index yJ9_canEncode_2 cJ9_canEncode_2 1 (some .boolean) (ws_ yJ9_canEncode_2 cJ9_canEncode_2 1 (some .boolean)) (rmH 2 mc ms) mc ms 1 ∧ (Cond.static yJ9_canEncode_2).before args s = true :=
  ⟨callB_of 1 C.1.2.2.2.2.1 (lw_meth q1261) rfl rfl rfl (C.1.2.2.2.2.1 _ q135) (C.1.2.2.2.2.1 _ hq) (by decide +kernel) ⟨hR, by show 8 + (1 + 11) + 100 * 2 ≤ 100 * lv; omega⟩, C.1.2.2.2.2.1 _ q1260⟩
def hJ18_append_45 (p0 : Nat) (p1 : Int32) (u : HS) : Option (OH Nat) :=
  mchk (hC u p0 == 13) <|
  hb (hJ18_isLatin1 p0 u) fun r2 u1 =>
  if r2 = 0 then
    mchk (hC u1 p0 == 13) <|
    mderef (hR u1 p0 0) fun a5 =>
    mchk (hC u1 p0 == 13) <|
    mchk (hC u1 p0 == 13) <|
    mlet (uI u1 p0 3 ((hI u1 p0 3) + 1)) fun u9 =>
    none
  else
    none
theorem whJ18_append_45 {K1 K2 : Nat} {p : Program} {e : Env} {s : State} {m : MethodId} {args : Array Value} {below : List Frame} {meth : Method} {c : Code} (hl0 : l.stackTraces = false) (C : CxH t G l p s m args meth c yJ18_append cJ18_append 2 (some (.object "java/lang/AbstractStringBuilder"))) (p0 : Nat) (p1 : Int32) (u : HS) : VH mkA t G p l e 5 K1 K2 s m args below meth c 2 45 [(0, .ref p0), (1, .int p1)] [] u (hJ18_append_45 p0 p1 u) := by
  unfold hJ18_append_45
  refine v_aload_n C.1 0 rfl rfl dJ18_append_45 ?_
  refine v_chk (fun h3 => ?_)
  refine v_callUH C [] [] (ctJ18_isLatin1 t G l hl0 p0 u) (fun _ _ => cwJ18_isLatin1U C q1254 (by decide)) (ci := 12) (eq_of_beq h3) (by decide) rfl rfl rfl (by exact Nat.le_of_ble_eq_true rfl) dJ18_append_46 (fun r2 u1 => ?_)
  refine v_if_eq C.1 56 (by decide) dJ18_append_49 (fun _ => ?_) (fun _ => ?_)
  · refine v_aload_n C.1 0 rfl rfl dJ18_append_56 ?_
    refine v_chk (fun h4 => ?_)
    refine v_hget C (v := va_rf (hR u1 p0 0)) 12 0 (eq_of_beq h4) (by decide) rfl in_J19 (by decide) (Or.inl q1199) (fun _ h => h) (hF_r (ci := 12) (eq_of_beq h4) (by decide)) dJ18_append_57 ?_
    refine v_deref (fun a5 e6 => ?_)
    refine v_aload_n C.1 0 rfl rfl dJ18_append_60 ?_
    refine v_dup C.1 rfl dJ18_append_61 ?_
    refine v_chk (fun h7 => ?_)
    refine v_hget C (v := .int (hI u1 p0 3)) 12 3 (eq_of_beq h7) (by decide) rfl in_J19 (by decide) (Or.inl q1201) (fun _ h => h) (hF_i (ci := 12) (eq_of_beq h7) (by decide)) dJ18_append_62 ?_
    refine v_dup_x1 C.1 rfl rfl dJ18_append_65 ?_
    refine v_iconst C.1 1 (by decide) dJ18_append_66 ?_
    refine v_iadd C.1 dJ18_append_67 ?_
    refine v_chk (fun h8 => ?_)
    refine v_hputI C 12 3 (eq_of_beq h8) (by decide) rfl in_J19 tyJ19 tyJ19_ok nmJ19 (by decide) (by decide) q1201 (fun _ h => h) (Or.inl rfl) ⟨rfl, rfl⟩ dJ18_append_68 (fun u9 => ?_)
    refine v_iload_n C.1 1 rfl rfl dJ18_append_71 ?_
    exact v_none
  · refine v_aload_n C.1 0 rfl rfl dJ18_append_52 ?_
    exact v_none
def hJ18_append (p0 : Nat) (p1 : Int32) (u : HS) : Option (OH Nat) :=
  mchk (hC u p0 == 13) <|
  mchk (hC u p0 == 13) <|
  hb (hJ18_ensureCapacityInternal p0 ((hI u p0 3) + 1) u) fun _ u2 =>
  mchk (hC u2 p0 == 13) <|
  hb (hJ18_isLatin1 p0 u2) fun r5 u4 =>
  if r5 = 0 then
    hJ18_append_45 p0 p1 u4
  else
    hb (hJ9_canEncode_2 p1 u4) fun r8 u7 =>
    if r8 = 0 then
      hJ18_append_45 p0 p1 u7
    else
      mchk (hC u7 p0 == 13) <|
      mderef (hR u7 p0 0) fun a10 =>
      mchk (hC u7 p0 == 13) <|
      mchk (hC u7 p0 == 13) <|
      mlet (uI u7 p0 3 ((hI u7 p0 3) + 1)) fun u14 =>
      mchk (inA u14 (hI u7 p0 3) a10 23) <|
      mlet (uA u14 a10 (hI u7 p0 3).toNatClampNeg (Int32.toInt8 ((Int32.toInt8 p1).toInt32)).toInt32) fun u15 =>
      hret p0 u15
theorem ctJ18_append (t : TT) (G : GH) (l : Launch) (hl0 : l.stackTraces = false) (p0 : Nat) (p1 : Int32) (u : HS) : CtH mkA t G l yJ18_append cJ18_append 2 (some (.object "java/lang/AbstractStringBuilder")) 5 [.ref p0, .int p1] u (hJ18_append p0 p1 u) := by
  refine ctH_of [(0, .ref p0), (1, .int p1)] hl0 rfl (Nat.le_of_ble_eq_true rfl) rfl (fun K1 K2 p e s m args below meth c C => ?_)
  unfold hJ18_append
  refine v_aload_n C.1 0 rfl rfl dJ18_append_0 ?_
  refine v_aload_n C.1 0 rfl rfl dJ18_append_1 ?_
  refine v_chk (fun h1 => ?_)
  refine v_hget C (v := .int (hI u p0 3)) 12 3 (eq_of_beq h1) (by decide) rfl in_J19 (by decide) (Or.inl q1201) (fun _ h => h) (hF_i (ci := 12) (eq_of_beq h1) (by decide)) dJ18_append_2 ?_
  refine v_iconst C.1 1 (by decide) dJ18_append_5 ?_
  refine v_iadd C.1 dJ18_append_6 ?_
  refine v_chk (fun h3 => ?_)
  refine v_callUH C [.int ((hI u p0 3) + 1)] [] (ctJ18_ensureCapacityInternal t G l hl0 p0 ((hI u p0 3) + 1) u) (fun _ _ => cwJ18_ensureCapacityInternalU C q1234 (by decide)) (ci := 12) (eq_of_beq h3) (by decide) rfl rfl rfl (by exact Nat.le_of_ble_eq_true rfl) dJ18_append_7 (fun _ u2 => ?_)
  refine v_aload_n C.1 0 rfl rfl dJ18_append_10 ?_
  refine v_chk (fun h6 => ?_)
  refine v_callUH C [] [] (ctJ18_isLatin1 t G l hl0 p0 u2) (fun _ _ => cwJ18_isLatin1U C q1254 (by decide)) (ci := 12) (eq_of_beq h6) (by decide) rfl rfl rfl (by exact Nat.le_of_ble_eq_true rfl) dJ18_append_11 (fun r5 u4 => ?_)
  refine v_if_eq C.1 45 (by decide) dJ18_append_14 (fun _ => ?_) (fun _ => ?_)
  · exact whJ18_append_45 hl0 C p0 p1 u4
  · refine v_iload_n C.1 1 rfl rfl dJ18_append_17 ?_
    refine v_callSH C [.int p1] [] (ctJ9_canEncode_2 t G l hl0 p1 u4) (fun _ _ => cwJ9_canEncode_2 C q1259 (by decide)) rfl rfl (by exact Nat.le_of_ble_eq_true rfl) dJ18_append_18 (fun r8 u7 => ?_)
    refine v_if_eq C.1 45 (by decide) dJ18_append_21 (fun _ => ?_) (fun _ => ?_)
    · exact whJ18_append_45 hl0 C p0 p1 u7
    · refine v_aload_n C.1 0 rfl rfl dJ18_append_24 ?_
      refine v_chk (fun h9 => ?_)
      refine v_hget C (v := va_rf (hR u7 p0 0)) 12 0 (eq_of_beq h9) (by decide) rfl in_J19 (by decide) (Or.inl q1199) (fun _ h => h) (hF_r (ci := 12) (eq_of_beq h9) (by decide)) dJ18_append_25 ?_
      refine v_deref (fun a10 e11 => ?_)
      refine v_aload_n C.1 0 rfl rfl dJ18_append_28 ?_
      refine v_dup C.1 rfl dJ18_append_29 ?_
      refine v_chk (fun h12 => ?_)
      refine v_hget C (v := .int (hI u7 p0 3)) 12 3 (eq_of_beq h12) (by decide) rfl in_J19 (by decide) (Or.inl q1201) (fun _ h => h) (hF_i (ci := 12) (eq_of_beq h12) (by decide)) dJ18_append_30 ?_
      refine v_dup_x1 C.1 rfl rfl dJ18_append_33 ?_
      refine v_iconst C.1 1 (by decide) dJ18_append_34 ?_
      refine v_iadd C.1 dJ18_append_35 ?_
      refine v_chk (fun h13 => ?_)
      refine v_hputI C 12 3 (eq_of_beq h13) (by decide) rfl in_J19 tyJ19 tyJ19_ok nmJ19 (by decide) (by decide) q1201 (fun _ h => h) (Or.inl rfl) ⟨rfl, rfl⟩ dJ18_append_36 (fun u14 => ?_)
      refine v_iload_n C.1 1 rfl rfl dJ18_append_39 ?_
      refine v_i2b C.1 dJ18_append_40 ?_
      refine v_chk (fun h16 => ?_)
      refine v_habast C h16 dJ18_append_41 (fun u15 => ?_)
      refine v_goto C.1 75 (by decide) dJ18_append_42 ?_
      refine v_aload_n C.1 0 rfl rfl dJ18_append_75 ?_
      exact v_haret C (Or.inl ⟨_, rfl⟩) dJ18_append_76
theorem cwJ18_appendSU {t : TT} {G : GH} {l : Launch} {p : Program} {s : State} {m : MethodId} {args : Array Value} {meth : Method} {c : Code} {y0 : MethodName} {cc0 : ByteArray} {nL0 : Nat} {ret0 : Option FieldType} (C : CxH t G l p s m args meth c y0 cc0 nL0 ret0) {index lv mc ms K1 K2 : Nat} (hy0 : y0.cls = RJ19) (hq : Cond.methodLink y0.cls index yJ18_append ∈ lw_all) (hR : 5 + 1 ≤ lv) : va_CS (rmH lv K1 K2) s args y0.cls index yJ18_append cJ18_append 2 (some (.object "java/lang/AbstractStringBuilder")) (ws_ yJ18_append cJ18_append 2 (some (.object "java/lang/AbstractStringBuilder"))) (rmH 5 mc ms) mc ms 1 :=
  va_cwSU 1 C.1.2.2.2.2.1 (lw_SU hq q2352 (by rw [hy0]; exact q582) q1232 q151 q1233) rfl rfl rfl (by decide +kernel) ⟨hR, by show 8 + (2 + 11) + 100 * 5 ≤ 100 * lv; omega⟩
def hJ19_append (p0 : Nat) (p1 : Int32) (u : HS) : Option (OH Nat) :=
  mchk (hC u p0 == 13) <|
  hb (hJ18_append p0 p1 u) fun r2 u1 =>
  hret p0 u1
theorem ctJ19_append (t : TT) (G : GH) (l : Launch) (hl0 : l.stackTraces = false) (p0 : Nat) (p1 : Int32) (u : HS) : CtH mkA t G l yJ19_append cJ19_append 2 (some (.object "java/lang/StringBuilder")) 6 [.ref p0, .int p1] u (hJ19_append p0 p1 u) := by
  refine ctH_of [(0, .ref p0), (1, .int p1)] hl0 rfl (Nat.le_of_ble_eq_true rfl) rfl (fun K1 K2 p e s m args below meth c C => ?_)
  unfold hJ19_append
  refine v_aload_n C.1 0 rfl rfl dJ19_append_0 ?_
  refine v_iload_n C.1 1 rfl rfl dJ19_append_1 ?_
  refine v_chk (fun h3 => ?_)
  refine v_callSUH C [.int p1] [] (ctJ18_append t G l hl0 p0 p1 u) (fun _ _ => cwJ18_appendSU C rfl q1231 (by decide)) (ci := 12) (eq_of_beq h3) (by decide) rfl rfl rfl (by exact Nat.le_of_ble_eq_true rfl) dJ19_append_2 (fun r2 u1 => ?_)
  refine v_pop C.1 rfl dJ19_append_5 ?_
  refine v_aload_n C.1 0 rfl rfl dJ19_append_6 ?_
  exact v_haret C (Or.inl ⟨_, rfl⟩) dJ19_append_7
theorem cwJ19_append {t : TT} {G : GH} {l : Launch} {p : Program} {s : State} {m : MethodId} {args : Array Value} {meth : Method} {c : Code} {y0 : MethodName} {cc0 : ByteArray} {nL0 : Nat} {ret0 : Option FieldType} (C : CxH t G l p s m args meth c y0 cc0 nL0 ret0) {index lv mc ms K1 K2 : Nat} (hq : Cond.methodLink y0.cls index yJ19_append ∈ lw_all) (hR : 6 + 1 ≤ lv) : CallW (rmH lv K1 K2) s args y0.cls RJ19 index yJ19_append cJ19_append 2 (some (.object "java/lang/StringBuilder")) (ws_ yJ19_append cJ19_append 2 (some (.object "java/lang/StringBuilder"))) (rmH 6 mc ms) mc ms 1 :=
  cwV 1 C.1.2.2.2.2.1 (lw_V hq q1228 q1229 q152 q1230) rfl rfl rfl (by decide +kernel) ⟨hR, by show 8 + (2 + 11) + 100 * 6 ≤ 100 * lv; omega⟩
def hX8_add (p0 : Nat) (p1 : Int32) (p2 : Nat) (u : HS) : Option (OH Unit) :=
  mchk (hC u p0 == 8) <|
  mderef (hR u p0 1) fun a2 =>
  mchk (hC u a2 == 13) <|
  hb (hJ19_append a2 p1 u) fun r5 u4 =>
  mchk (hC u4 p0 == 8) <|
  mderef (hR u4 p0 0) fun a8 =>
  mchk (hC u4 a8 == 12) <|
  hb (hJ2_add a8 p2 u4) fun r11 u10 =>
  hret () u10
theorem ctX8_add (t : TT) (G : GH) (l : Launch) (hl0 : l.stackTraces = false) (p0 : Nat) (p1 : Int32) (p2 : Nat) (u : HS) : CtH mkU t G l yX8_add cX8_add 3 none 8 [.ref p0, .int p1, .ref p2] u (hX8_add p0 p1 p2 u) := by
  refine ctH_of [(0, .ref p0), (1, .int p1), (2, .ref p2)] hl0 rfl (Nat.le_of_ble_eq_true rfl) rfl (fun K1 K2 p e s m args below meth c C => ?_)
  unfold hX8_add
  refine v_aload_n C.1 0 rfl rfl dX8_add_0 ?_
  refine v_chk (fun h1 => ?_)
  refine v_hget C (v := va_rf (hR u p0 1)) 7 1 (eq_of_beq h1) (by decide) rfl in_X8 (by decide) (Or.inl q1213) (fun _ h => h) (hF_r (ci := 7) (eq_of_beq h1) (by decide)) dX8_add_1 ?_
  refine v_deref (fun a2 e3 => ?_)
  refine v_iload_n C.1 1 rfl rfl dX8_add_4 ?_
  refine v_chk (fun h6 => ?_)
  refine v_callVH C [.int p1] [] (ctJ19_append t G l hl0 a2 p1 u) (fun _ _ => cwJ19_append C q1227 (by decide)) (recO C (ci := 12) (eq_of_beq h6) (by decide) rfl) rfl rfl (by exact Nat.le_of_ble_eq_true rfl) dX8_add_5 (fun r5 u4 => ?_)
  refine v_pop C.1 rfl dX8_add_8 ?_
  refine v_aload_n C.1 0 rfl rfl dX8_add_9 ?_
  refine v_chk (fun h7 => ?_)
  refine v_hget C (v := va_rf (hR u4 p0 0)) 7 0 (eq_of_beq h7) (by decide) rfl in_X8 (by decide) (Or.inl q1212) (fun _ h => h) (hF_r (ci := 7) (eq_of_beq h7) (by decide)) dX8_add_10 ?_
  refine v_deref (fun a8 e9 => ?_)
  refine v_aload_n C.1 2 rfl rfl dX8_add_13 ?_
  refine v_chk (fun h12 => ?_)
  refine v_callFH C [.ref p2] [] (ctJ2_add t G l hl0 a8 p2 u4) (fun _ _ => cwJ2_addF C q1211 (by decide)) (eq_of_beq h12) (by decide) rfl rfl rfl (by exact Nat.le_of_ble_eq_true rfl) dX8_add_14 (fun r11 u10 => ?_)
  refine v_pop C.1 rfl dX8_add_19 ?_
  exact v_hvret C dX8_add_20
theorem cwX8_add {t : TT} {G : GH} {l : Launch} {p : Program} {s : State} {m : MethodId} {args : Array Value} {meth : Method} {c : Code} {y0 : MethodName} {cc0 : ByteArray} {nL0 : Nat} {ret0 : Option FieldType} (C : CxH t G l p s m args meth c y0 cc0 nL0 ret0) {index lv mc ms K1 K2 : Nat} (hq : Cond.methodLink y0.cls index yX8_add ∈ lw_all) (hR : 8 + 1 ≤ lv) : CallW (rmH lv K1 K2) s args y0.cls RX8 index yX8_add cX8_add 3 none (ws_ yX8_add cX8_add 3 none) (rmH 8 mc ms) mc ms 2 :=
  cwV 2 C.1.2.2.2.2.1 (lw_V hq q1224 q1225 q148 q1226) rfl rfl rfl (by decide +kernel) ⟨hR, by show 8 + (3 + 11) + 100 * 8 ≤ 100 * lv; omega⟩
def hX8_plain (p0 : Nat) (u : HS) : Option (OH Nat) :=
  mchk (hC u p0 == 8) <|
  mderef (hR u p0 0) fun a2 =>
  mchk (hC u a2 == 12) <|
  hb (hJ2_size a2 u) fun r5 u4 =>
  if r5 = 1 then
    mchk (hC u4 p0 == 8) <|
    mderef (hR u4 p0 0) fun a8 =>
    mchk (hC u4 a8 == 12) <|
    hb (hJ2_get a8 0 u4) fun r11 u10 =>
    mchk (isForm (hC u10 r11)) <|
    hret r11 u10
  else
    hret p0 u4
theorem ctX8_plain (t : TT) (G : GH) (l : Launch) (hl0 : l.stackTraces = false) (p0 : Nat) (u : HS) : CtH mkA t G l yX8_plain cX8_plain 1 (some (.object "WhiteBoard$Form")) 5 [.ref p0] u (hX8_plain p0 u) := by
  refine ctH_of [(0, .ref p0)] hl0 rfl (Nat.le_of_ble_eq_true rfl) rfl (fun K1 K2 p e s m args below meth c C => ?_)
  unfold hX8_plain
  refine v_aload_n C.1 0 rfl rfl dX8_plain_0 ?_
  refine v_chk (fun h1 => ?_)
  refine v_hget C (v := va_rf (hR u p0 0)) 7 0 (eq_of_beq h1) (by decide) rfl in_X8 (by decide) (Or.inl q1212) (fun _ h => h) (hF_r (ci := 7) (eq_of_beq h1) (by decide)) dX8_plain_1 ?_
  refine v_deref (fun a2 e3 => ?_)
  refine v_chk (fun h6 => ?_)
  refine v_callFH C [] [] (ctJ2_size t G l hl0 a2 u) (fun _ _ => cwJ2_sizeF C q576 (by decide)) (eq_of_beq h6) (by decide) rfl rfl rfl (by exact Nat.le_of_ble_eq_true rfl) dX8_plain_4 (fun r5 u4 => ?_)
  refine v_iconst C.1 1 (by decide) dX8_plain_9 ?_
  refine v_icmp_ne C.1 29 (by decide) dX8_plain_10 (fun _ => ?_) (fun _ => ?_)
  · refine v_aload_n C.1 0 rfl rfl dX8_plain_13 ?_
    refine v_chk (fun h7 => ?_)
    refine v_hget C (v := va_rf (hR u4 p0 0)) 7 0 (eq_of_beq h7) (by decide) rfl in_X8 (by decide) (Or.inl q1212) (fun _ h => h) (hF_r (ci := 7) (eq_of_beq h7) (by decide)) dX8_plain_14 ?_
    refine v_deref (fun a8 e9 => ?_)
    refine v_iconst C.1 0 (by decide) dX8_plain_17 ?_
    refine v_chk (fun h12 => ?_)
    refine v_callFH C [.int 0] [] (ctJ2_get t G l hl0 a8 0 u4) (fun _ _ => cwJ2_getF C q551 (by decide)) (eq_of_beq h12) (by decide) rfl rfl rfl (by exact Nat.le_of_ble_eq_true rfl) dX8_plain_18 (fun r11 u10 => ?_)
    refine v_chk (fun h13 => ?_)
    refine v_hcastF C h13 q552 dX8_plain_23 ?_
    refine v_goto C.1 30 (by decide) dX8_plain_26 ?_
    exact v_haret C (Or.inl ⟨_, rfl⟩) dX8_plain_30
  · refine v_aload_n C.1 0 rfl rfl dX8_plain_29 ?_
    exact v_haret C (Or.inl ⟨_, rfl⟩) dX8_plain_30
theorem cwX8_plain {t : TT} {G : GH} {l : Launch} {p : Program} {s : State} {m : MethodId} {args : Array Value} {meth : Method} {c : Code} {y0 : MethodName} {cc0 : ByteArray} {nL0 : Nat} {ret0 : Option FieldType} (C : CxH t G l p s m args meth c y0 cc0 nL0 ret0) {index lv mc ms K1 K2 : Nat} (hq : Cond.methodLink y0.cls index yX8_plain ∈ lw_all) (hR : 5 + 1 ≤ lv) : CallW (rmH lv K1 K2) s args y0.cls RX8 index yX8_plain cX8_plain 1 (some (.object "WhiteBoard$Form")) (ws_ yX8_plain cX8_plain 1 (some (.object "WhiteBoard$Form"))) (rmH 5 mc ms) mc ms 0 :=
  cwV 0 C.1.2.2.2.2.1 (lw_V hq q1288 q1289 q148 q1290) rfl rfl rfl (by decide +kernel) ⟨hR, by show 8 + (1 + 11) + 100 * 5 ≤ 100 * lv; omega⟩
def hX5_product_31 (fe : Nat → Int32 → HS → Option (OH (PX Nat))) (p0 : Nat) (p1 : Int32) (k13 : Nat → HS → Option (OH (PX Nat))) (x2 : Nat) (u : HS) : Option (OH (PX Nat)) :=
  mchk (hC u p0 == 5) <|
  hb (hX5_sign p0 u) fun r2 u1 =>
  mchk (hC u1 p0 == 5) <|
  hx (hX5_part fe p0 p1 u1) fun r5 u4 =>
  mchk (hC u4 x2 == 8) <|
  hb (hX8_add x2 r2 r5 u4) fun _ u7 =>
  k13 x2 u7
theorem whX5_product_31 {K1 K2 ld : Nat} {p : Program} {e : Env} {s : State} {m : MethodId} {args : Array Value} {below : List Frame} {meth : Method} {c : Code} (hl0 : l.stackTraces = false) (C : CxX t G l p s m args meth c yX5_product cX5_product 4 (some (.object "WhiteBoard$Form"))) (fe : Nat → Int32 → HS → Option (OH (PX Nat))) (hrec : ExprC fe t G l ld) (p0 : Nat) (p1 : Int32) (k13 : Nat → HS → Option (OH (PX Nat))) (hk13 : ∀ (x2 : Nat) (u : HS), VX mkA t G p l e (ld + 2) K1 K2 s m args below meth c 4 13 [(0, .ref p0), (1, .int p1), (2, .ref x2)] [] u (k13 x2 u)) (x2 : Nat) (u : HS) : VX mkA t G p l e (ld + 2) K1 K2 s m args below meth c 4 31 [(0, .ref p0), (1, .int p1), (2, .ref x2)] [] u (hX5_product_31 fe p0 p1 k13 x2 u) := by
  unfold hX5_product_31
  refine v_aload_n C.1.1 0 rfl rfl dX5_product_31 ?_
  refine v_chk (fun h3 => ?_)
  refine v_callVH C.1 [] [] (ctX5_sign t G l hl0 p0 u) (fun _ _ => cwX5_sign C.1 q1219 (by have h9 := hrec.1; omega)) (recO C.1 (ci := 4) (eq_of_beq h3) (by decide) rfl) rfl rfl (by exact Nat.le_of_ble_eq_true rfl) dX5_product_32 (fun r2 u1 => ?_)
  refine v_istore_n C.1.1 [(3, .int r2), (0, .ref p0), (1, .int p1), (2, .ref x2)] rfl (by decide) rfl dX5_product_35 ?_
  refine v_aload_n C.1.1 3 rfl rfl dX5_product_36 ?_
  refine v_iload_n C.1.1 0 rfl rfl dX5_product_37 ?_
  refine v_aload_n C.1.1 1 rfl rfl dX5_product_38 ?_
  refine v_iload_n C.1.1 2 rfl rfl dX5_product_39 ?_
  refine v_chk (fun h6 => ?_)
  refine v_callVX C [.int p1] [.int r2, .ref x2] (ctX5_part t G l hl0 fe hrec p0 p1 u1) (fun _ _ => cwX5_part C.1 q1148 (by have h9 := hrec.1; omega)) (recO C.1 (ci := 4) (eq_of_beq h6) (by decide) rfl) rfl rfl (by exact Nat.le_of_ble_eq_true rfl) dX5_product_40 (fun r5 u4 => ?_)
  refine v_chk (fun h8 => ?_)
  refine v_callVH C.1 [.int r2, .ref r5] [] (ctX8_add t G l hl0 x2 r2 r5 u4) (fun _ _ => cwX8_add C.1 q1223 (by have h9 := hrec.1; omega)) (recO C.1 (ci := 7) (eq_of_beq h8) (by decide) rfl) rfl rfl (by exact Nat.le_of_ble_eq_true rfl) dX5_product_43 (fun _ u7 => ?_)
  refine v_goto C.1.1 13 (by decide) dX5_product_46 ?_
  refine v_sub [1, 2, 3] rfl ?_
  exact hk13 x2 u7
def hX5_product_13 (fe : Nat → Int32 → HS → Option (OH (PX Nat))) (p0 : Nat) (p1 : Int32) (k : Nat → HS → Option (OH (PX Nat))) (x2 : Nat) (u : HS) : Option (OH (PX Nat)) :=
  mchk (hC u p0 == 5) <|
  hb (hX5_isSign p0 42 u) fun r2 u1 =>
  if r2 = 0 then
    mchk (hC u1 p0 == 5) <|
    hb (hX5_isSign p0 47 u1) fun r5 u4 =>
    if r5 = 0 then
      mchk (hC u4 x2 == 8) <|
      hb (hX8_plain x2 u4) fun r8 u7 =>
      hret (.inl r8) u7
    else
      hX5_product_31 fe p0 p1 k x2 u4
  else
    hX5_product_31 fe p0 p1 k x2 u1
theorem whX5_product_13 {K1 K2 ld : Nat} {p : Program} {e : Env} {s : State} {m : MethodId} {args : Array Value} {below : List Frame} {meth : Method} {c : Code} (hl0 : l.stackTraces = false) (C : CxX t G l p s m args meth c yX5_product cX5_product 4 (some (.object "WhiteBoard$Form"))) (fe : Nat → Int32 → HS → Option (OH (PX Nat))) (hrec : ExprC fe t G l ld) (p0 : Nat) (p1 : Int32) (n : Nat) (x2 : Nat) (u : HS) : VX mkA t G p l e (ld + 2) K1 K2 s m args below meth c 4 13 [(0, .ref p0), (1, .int p1), (2, .ref x2)] [] u (ml1 (hX5_product_13 fe p0 p1) n x2 u) := by
  refine vl1 (L := fun x2 => [(0, .ref p0), (1, .int p1), (2, .ref x2)]) (fun k hk x2 u => ?_) n x2 u
  unfold hX5_product_13
  refine v_aload_n C.1.1 0 rfl rfl dX5_product_13 ?_
  refine v_bipush C.1.1 42 (by decide) dX5_product_14 ?_
  refine v_chk (fun h3 => ?_)
  refine v_callVH C.1 [.int 42] [] (ctX5_isSign t G l hl0 p0 42 u) (fun _ _ => cwX5_isSign C.1 q1125 (by have h9 := hrec.1; omega)) (recO C.1 (ci := 4) (eq_of_beq h3) (by decide) rfl) rfl rfl (by exact Nat.le_of_ble_eq_true rfl) dX5_product_16 (fun r2 u1 => ?_)
  refine v_if_ne C.1.1 31 (by decide) dX5_product_19 (fun _ => ?_) (fun _ => ?_)
  · refine v_aload_n C.1.1 0 rfl rfl dX5_product_22 ?_
    refine v_bipush C.1.1 47 (by decide) dX5_product_23 ?_
    refine v_chk (fun h6 => ?_)
    refine v_callVH C.1 [.int 47] [] (ctX5_isSign t G l hl0 p0 47 u1) (fun _ _ => cwX5_isSign C.1 q1125 (by have h9 := hrec.1; omega)) (recO C.1 (ci := 4) (eq_of_beq h6) (by decide) rfl) rfl rfl (by exact Nat.le_of_ble_eq_true rfl) dX5_product_25 (fun r5 u4 => ?_)
    refine v_if_eq C.1.1 49 (by decide) dX5_product_28 (fun _ => ?_) (fun _ => ?_)
    · refine v_aload_n C.1.1 2 rfl rfl dX5_product_49 ?_
      refine v_chk (fun h9 => ?_)
      refine v_callVH C.1 [] [] (ctX8_plain t G l hl0 x2 u4) (fun _ _ => cwX8_plain C.1 q1287 (by have h9 := hrec.1; omega)) (recO C.1 (ci := 7) (eq_of_beq h9) (by decide) rfl) rfl rfl (by exact Nat.le_of_ble_eq_true rfl) dX5_product_50 (fun r8 u7 => ?_)
      exact v_xaret C.1 (Or.inl ⟨_, rfl⟩) dX5_product_53
    · exact whX5_product_31 hl0 C fe hrec p0 p1 k hk x2 u4
  · exact whX5_product_31 hl0 C fe hrec p0 p1 k hk x2 u1
def hX5_product (fe : Nat → Int32 → HS → Option (OH (PX Nat))) (p0 : Nat) (p1 : Int32) (u : HS) : Option (OH (PX Nat)) :=
  mlet (hZ u) fun a1 =>
  addc 1 (cN 7) <|
  mlet (nO u 7) fun u3 =>
  mchk (hC u3 p0 == 5) <|
  hx (hX5_part fe p0 p1 u3) fun r5 u4 =>
  hb (hX8_init a1 r5 u4) fun _ u7 =>
  ml1 (hX5_product_13 fe p0 p1) FUEL a1 u7
theorem ctX5_product (t : TT) (G : GH) (l : Launch) (hl0 : l.stackTraces = false) {ld : Nat} (fe : Nat → Int32 → HS → Option (OH (PX Nat))) (hrec : ExprC fe t G l ld) (p0 : Nat) (p1 : Int32) (u : HS) : CtX mkA t G l yX5_product cX5_product 4 (some (.object "WhiteBoard$Form")) (ld + 2) [.ref p0, .int p1] u (hX5_product fe p0 p1 u) := by
  refine ctX_of [(0, .ref p0), (1, .int p1)] hl0 rfl (Nat.le_of_ble_eq_true rfl) rfl (fun K1 K2 p e s m args below meth c C => ?_)
  unfold hX5_product
  refine v_letE (fun a1 e2 => ?_)
  refine v_hnew C.1 7 e2 (by decide) rfl in_X8 tyX8 tyX8_ok df_X8 q1129 q1130 q148 dX5_product_0 (fun u3 => ?_)
  refine v_dup C.1.1 rfl dX5_product_3 ?_
  refine v_aload_n C.1.1 0 rfl rfl dX5_product_4 ?_
  refine v_iload_n C.1.1 1 rfl rfl dX5_product_5 ?_
  refine v_chk (fun h6 => ?_)
  refine v_callVX C [.int p1] [.ref a1, .ref a1] (ctX5_part t G l hl0 fe hrec p0 p1 u3) (fun _ _ => cwX5_part C.1 q1148 (by have h9 := hrec.1; omega)) (recO C.1 (ci := 4) (eq_of_beq h6) (by decide) rfl) rfl rfl (by exact Nat.le_of_ble_eq_true rfl) dX5_product_6 (fun r5 u4 => ?_)
  refine v_callIH C.1 [.ref r5] [.ref a1] (ctX8_init t G l hl0 a1 r5 u4) (fun _ _ => cwX8_init C.1 q1176 (by have h9 := hrec.1; omega)) rfl rfl (by exact Nat.le_of_ble_eq_true rfl) dX5_product_9 (fun _ u7 => ?_)
  refine v_astore_n C.1.1 [(2, .ref a1), (0, .ref p0), (1, .int p1)] rfl (by decide) rfl dX5_product_12 ?_
  refine v_sub [1, 2, 0] rfl ?_
  exact whX5_product_13 hl0 C fe hrec p0 p1 FUEL a1 u7
theorem cwX5_product {t : TT} {G : GH} {l : Launch} {p : Program} {s : State} {m : MethodId} {args : Array Value} {meth : Method} {c : Code} {y0 : MethodName} {cc0 : ByteArray} {nL0 : Nat} {ret0 : Option FieldType} (C : CxH t G l p s m args meth c y0 cc0 nL0 ret0) {index lv mc ms K1 K2 lx : Nat} (hq : Cond.methodLink y0.cls index yX5_product ∈ lw_all) (hR : lx + 1 ≤ lv) : CallW (rmH lv K1 K2) s args y0.cls RX5 index yX5_product cX5_product 4 (some (.object "WhiteBoard$Form")) (ws_ yX5_product cX5_product 4 (some (.object "WhiteBoard$Form"))) (rmH lx mc ms) mc ms 1 :=
  cwV 1 C.1.2.2.2.2.1 (lw_V hq q1146 qs34 q132 q1147) rfl rfl rfl (by decide +kernel) ⟨hR, by show 8 + (4 + 11) + 100 * lx ≤ 100 * lv; omega⟩
def hX5_sum_31 (fe : Nat → Int32 → HS → Option (OH (PX Nat))) (p0 : Nat) (p1 : Int32) (k13 : Nat → HS → Option (OH (PX Nat))) (x2 : Nat) (u : HS) : Option (OH (PX Nat)) :=
  mchk (hC u p0 == 5) <|
  hb (hX5_sign p0 u) fun r2 u1 =>
  mchk (hC u1 p0 == 5) <|
  hx (hX5_product fe p0 p1 u1) fun r5 u4 =>
  mchk (hC u4 x2 == 8) <|
  hb (hX8_add x2 r2 r5 u4) fun _ u7 =>
  k13 x2 u7
theorem whX5_sum_31 {K1 K2 ld : Nat} {p : Program} {e : Env} {s : State} {m : MethodId} {args : Array Value} {below : List Frame} {meth : Method} {c : Code} (hl0 : l.stackTraces = false) (C : CxX t G l p s m args meth c yX5_sum cX5_sum 4 (some (.object "WhiteBoard$Form"))) (fe : Nat → Int32 → HS → Option (OH (PX Nat))) (hrec : ExprC fe t G l ld) (p0 : Nat) (p1 : Int32) (k13 : Nat → HS → Option (OH (PX Nat))) (hk13 : ∀ (x2 : Nat) (u : HS), VX mkA t G p l e (ld + 3) K1 K2 s m args below meth c 4 13 [(0, .ref p0), (1, .int p1), (2, .ref x2)] [] u (k13 x2 u)) (x2 : Nat) (u : HS) : VX mkA t G p l e (ld + 3) K1 K2 s m args below meth c 4 31 [(0, .ref p0), (1, .int p1), (2, .ref x2)] [] u (hX5_sum_31 fe p0 p1 k13 x2 u) := by
  unfold hX5_sum_31
  refine v_aload_n C.1.1 0 rfl rfl dX5_sum_31 ?_
  refine v_chk (fun h3 => ?_)
  refine v_callVH C.1 [] [] (ctX5_sign t G l hl0 p0 u) (fun _ _ => cwX5_sign C.1 q1219 (by have h9 := hrec.1; omega)) (recO C.1 (ci := 4) (eq_of_beq h3) (by decide) rfl) rfl rfl (by exact Nat.le_of_ble_eq_true rfl) dX5_sum_32 (fun r2 u1 => ?_)
  refine v_istore_n C.1.1 [(3, .int r2), (0, .ref p0), (1, .int p1), (2, .ref x2)] rfl (by decide) rfl dX5_sum_35 ?_
  refine v_aload_n C.1.1 3 rfl rfl dX5_sum_36 ?_
  refine v_iload_n C.1.1 0 rfl rfl dX5_sum_37 ?_
  refine v_aload_n C.1.1 1 rfl rfl dX5_sum_38 ?_
  refine v_iload_n C.1.1 2 rfl rfl dX5_sum_39 ?_
  refine v_chk (fun h6 => ?_)
  refine v_callVX C [.int p1] [.int r2, .ref x2] (ctX5_product t G l hl0 fe hrec p0 p1 u1) (fun _ _ => cwX5_product C.1 q1144 (by have h9 := hrec.1; omega)) (recO C.1 (ci := 4) (eq_of_beq h6) (by decide) rfl) rfl rfl (by exact Nat.le_of_ble_eq_true rfl) dX5_sum_40 (fun r5 u4 => ?_)
  refine v_chk (fun h8 => ?_)
  refine v_callVH C.1 [.int r2, .ref r5] [] (ctX8_add t G l hl0 x2 r2 r5 u4) (fun _ _ => cwX8_add C.1 q1223 (by have h9 := hrec.1; omega)) (recO C.1 (ci := 7) (eq_of_beq h8) (by decide) rfl) rfl rfl (by exact Nat.le_of_ble_eq_true rfl) dX5_sum_43 (fun _ u7 => ?_)
  refine v_goto C.1.1 13 (by decide) dX5_sum_46 ?_
  refine v_sub [1, 2, 3] rfl ?_
  exact hk13 x2 u7
def hX5_sum_13 (fe : Nat → Int32 → HS → Option (OH (PX Nat))) (p0 : Nat) (p1 : Int32) (k : Nat → HS → Option (OH (PX Nat))) (x2 : Nat) (u : HS) : Option (OH (PX Nat)) :=
  mchk (hC u p0 == 5) <|
  hb (hX5_isSign p0 43 u) fun r2 u1 =>
  if r2 = 0 then
    mchk (hC u1 p0 == 5) <|
    hb (hX5_isSign p0 45 u1) fun r5 u4 =>
    if r5 = 0 then
      mchk (hC u4 x2 == 8) <|
      hb (hX8_plain x2 u4) fun r8 u7 =>
      hret (.inl r8) u7
    else
      hX5_sum_31 fe p0 p1 k x2 u4
  else
    hX5_sum_31 fe p0 p1 k x2 u1
theorem whX5_sum_13 {K1 K2 ld : Nat} {p : Program} {e : Env} {s : State} {m : MethodId} {args : Array Value} {below : List Frame} {meth : Method} {c : Code} (hl0 : l.stackTraces = false) (C : CxX t G l p s m args meth c yX5_sum cX5_sum 4 (some (.object "WhiteBoard$Form"))) (fe : Nat → Int32 → HS → Option (OH (PX Nat))) (hrec : ExprC fe t G l ld) (p0 : Nat) (p1 : Int32) (n : Nat) (x2 : Nat) (u : HS) : VX mkA t G p l e (ld + 3) K1 K2 s m args below meth c 4 13 [(0, .ref p0), (1, .int p1), (2, .ref x2)] [] u (ml1 (hX5_sum_13 fe p0 p1) n x2 u) := by
  refine vl1 (L := fun x2 => [(0, .ref p0), (1, .int p1), (2, .ref x2)]) (fun k hk x2 u => ?_) n x2 u
  unfold hX5_sum_13
  refine v_aload_n C.1.1 0 rfl rfl dX5_sum_13 ?_
  refine v_bipush C.1.1 43 (by decide) dX5_sum_14 ?_
  refine v_chk (fun h3 => ?_)
  refine v_callVH C.1 [.int 43] [] (ctX5_isSign t G l hl0 p0 43 u) (fun _ _ => cwX5_isSign C.1 q1125 (by have h9 := hrec.1; omega)) (recO C.1 (ci := 4) (eq_of_beq h3) (by decide) rfl) rfl rfl (by exact Nat.le_of_ble_eq_true rfl) dX5_sum_16 (fun r2 u1 => ?_)
  refine v_if_ne C.1.1 31 (by decide) dX5_sum_19 (fun _ => ?_) (fun _ => ?_)
  · refine v_aload_n C.1.1 0 rfl rfl dX5_sum_22 ?_
    refine v_bipush C.1.1 45 (by decide) dX5_sum_23 ?_
    refine v_chk (fun h6 => ?_)
    refine v_callVH C.1 [.int 45] [] (ctX5_isSign t G l hl0 p0 45 u1) (fun _ _ => cwX5_isSign C.1 q1125 (by have h9 := hrec.1; omega)) (recO C.1 (ci := 4) (eq_of_beq h6) (by decide) rfl) rfl rfl (by exact Nat.le_of_ble_eq_true rfl) dX5_sum_25 (fun r5 u4 => ?_)
    refine v_if_eq C.1.1 49 (by decide) dX5_sum_28 (fun _ => ?_) (fun _ => ?_)
    · refine v_aload_n C.1.1 2 rfl rfl dX5_sum_49 ?_
      refine v_chk (fun h9 => ?_)
      refine v_callVH C.1 [] [] (ctX8_plain t G l hl0 x2 u4) (fun _ _ => cwX8_plain C.1 q1287 (by have h9 := hrec.1; omega)) (recO C.1 (ci := 7) (eq_of_beq h9) (by decide) rfl) rfl rfl (by exact Nat.le_of_ble_eq_true rfl) dX5_sum_50 (fun r8 u7 => ?_)
      exact v_xaret C.1 (Or.inl ⟨_, rfl⟩) dX5_sum_53
    · exact whX5_sum_31 hl0 C fe hrec p0 p1 k hk x2 u4
  · exact whX5_sum_31 hl0 C fe hrec p0 p1 k hk x2 u1
def hX5_sum (fe : Nat → Int32 → HS → Option (OH (PX Nat))) (p0 : Nat) (p1 : Int32) (u : HS) : Option (OH (PX Nat)) :=
  mlet (hZ u) fun a1 =>
  addc 1 (cN 7) <|
  mlet (nO u 7) fun u3 =>
  mchk (hC u3 p0 == 5) <|
  hx (hX5_product fe p0 p1 u3) fun r5 u4 =>
  hb (hX8_init a1 r5 u4) fun _ u7 =>
  ml1 (hX5_sum_13 fe p0 p1) FUEL a1 u7
theorem ctX5_sum (t : TT) (G : GH) (l : Launch) (hl0 : l.stackTraces = false) {ld : Nat} (fe : Nat → Int32 → HS → Option (OH (PX Nat))) (hrec : ExprC fe t G l ld) (p0 : Nat) (p1 : Int32) (u : HS) : CtX mkA t G l yX5_sum cX5_sum 4 (some (.object "WhiteBoard$Form")) (ld + 3) [.ref p0, .int p1] u (hX5_sum fe p0 p1 u) := by
  refine ctX_of [(0, .ref p0), (1, .int p1)] hl0 rfl (Nat.le_of_ble_eq_true rfl) rfl (fun K1 K2 p e s m args below meth c C => ?_)
  unfold hX5_sum
  refine v_letE (fun a1 e2 => ?_)
  refine v_hnew C.1 7 e2 (by decide) rfl in_X8 tyX8 tyX8_ok df_X8 q1129 q1130 q148 dX5_sum_0 (fun u3 => ?_)
  refine v_dup C.1.1 rfl dX5_sum_3 ?_
  refine v_aload_n C.1.1 0 rfl rfl dX5_sum_4 ?_
  refine v_iload_n C.1.1 1 rfl rfl dX5_sum_5 ?_
  refine v_chk (fun h6 => ?_)
  refine v_callVX C [.int p1] [.ref a1, .ref a1] (ctX5_product t G l hl0 fe hrec p0 p1 u3) (fun _ _ => cwX5_product C.1 q1144 (by have h9 := hrec.1; omega)) (recO C.1 (ci := 4) (eq_of_beq h6) (by decide) rfl) rfl rfl (by exact Nat.le_of_ble_eq_true rfl) dX5_sum_6 (fun r5 u4 => ?_)
  refine v_callIH C.1 [.ref r5] [.ref a1] (ctX8_init t G l hl0 a1 r5 u4) (fun _ _ => cwX8_init C.1 q1176 (by have h9 := hrec.1; omega)) rfl rfl (by exact Nat.le_of_ble_eq_true rfl) dX5_sum_9 (fun _ u7 => ?_)
  refine v_astore_n C.1.1 [(2, .ref a1), (0, .ref p0), (1, .int p1)] rfl (by decide) rfl dX5_sum_12 ?_
  refine v_sub [1, 2, 0] rfl ?_
  exact whX5_sum_13 hl0 C fe hrec p0 p1 FUEL a1 u7
theorem cwX5_sum {t : TT} {G : GH} {l : Launch} {p : Program} {s : State} {m : MethodId} {args : Array Value} {meth : Method} {c : Code} {y0 : MethodName} {cc0 : ByteArray} {nL0 : Nat} {ret0 : Option FieldType} (C : CxH t G l p s m args meth c y0 cc0 nL0 ret0) {index lv mc ms K1 K2 lx : Nat} (hq : Cond.methodLink y0.cls index yX5_sum ∈ lw_all) (hR : lx + 1 ≤ lv) : CallW (rmH lv K1 K2) s args y0.cls RX5 index yX5_sum cX5_sum 4 (some (.object "WhiteBoard$Form")) (ws_ yX5_sum cX5_sum 4 (some (.object "WhiteBoard$Form"))) (rmH lx mc ms) mc ms 1 :=
  cwV 1 C.1.2.2.2.2.1 (lw_V hq q1142 qs33 q132 q1143) rfl rfl rfl (by decide +kernel) ⟨hR, by show 8 + (4 + 11) + 100 * lx ≤ 100 * lv; omega⟩
def hX11_init (p0 : Nat) (p1 : Nat) (u : HS) : Option (OH Unit) :=
  mchk (hC u p0 == 11) <|
  mlet (uR u p0 0 (some p1)) fun u2 =>
  hret () u2
theorem ctX11_init (t : TT) (G : GH) (l : Launch) (hl0 : l.stackTraces = false) (p0 : Nat) (p1 : Nat) (u : HS) : CtH mkU t G l yX11_init cX11_init 2 none 2 [.ref p0, .ref p1] u (hX11_init p0 p1 u) := by
  refine ctH_of [(0, .ref p0), (1, .ref p1)] hl0 rfl (Nat.le_of_ble_eq_true rfl) rfl (fun K1 K2 p e s m args below meth c C => ?_)
  unfold hX11_init
  refine v_aload_n C.1 0 rfl rfl dX11_init_0 ?_
  refine v_objInit C q1296 q161 q162 (by exact Nat.le_of_ble_eq_true rfl) (by exact Nat.le_of_ble_eq_true rfl) dX11_init_1 ?_
  refine v_aload_n C.1 0 rfl rfl dX11_init_4 ?_
  refine v_aload_n C.1 1 rfl rfl dX11_init_5 ?_
  refine v_chk (fun h1 => ?_)
  refine v_hputR C (some p1) 10 0 (eq_of_beq h1) (by decide) rfl in_X11 tyX11 tyX11_ok nmX11 (by decide) (by decide) q1297 (fun _ h => h) (Or.inr ⟨rfl, rfl, rfl⟩) rfl rfl dX11_init_6 (fun u2 => ?_)
  exact v_hvret C dX11_init_9
theorem cwX11_init {t : TT} {G : GH} {l : Launch} {p : Program} {s : State} {m : MethodId} {args : Array Value} {meth : Method} {c : Code} {y0 : MethodName} {cc0 : ByteArray} {nL0 : Nat} {ret0 : Option FieldType} (C : CxH t G l p s m args meth c y0 cc0 nL0 ret0) {index lv mc ms K1 K2 : Nat} (hq : Cond.methodLink y0.cls index yX11_init ∈ lw_all) (hR : 2 + 1 ≤ lv) : CallB (rmH lv K1 K2) s args y0.cls index yX11_init cX11_init 2 none (ws_ yX11_init cX11_init 2 none) (rmH 2 mc ms) mc ms 1 ∧ yX11_init.name = "<init>" ∧ (Cond.instanceMethod yX11_init).before args s = true :=
  cwI 1 C.1.2.2.2.2.1 (lw_meth q1295) rfl rfl rfl (C.1.2.2.2.2.1 _ q153) (C.1.2.2.2.2.1 _ hq) (C.1.2.2.2.2.1 _ q1294) rfl (by decide +kernel) ⟨hR, by show 8 + (2 + 11) + 100 * 2 ≤ 100 * lv; omega⟩
def hX5_not_94 (fe : Nat → Int32 → HS → Option (OH (PX Nat))) (p0 : Nat) (p1 : Int32) (k : Int32 → Nat → Int32 → HS → Option (OH (PX Nat))) (x2 : Int32) (x4 : Nat) (x5 : Int32) (u : HS) : Option (OH (PX Nat)) :=
  if x2 ≤ x5 then
    hret (.inl x4) u
  else
    mlet (hZ u) fun a1 =>
    addc 1 (cN 10) <|
    mlet (nO u 10) fun u3 =>
    hb (hX11_init a1 x4 u3) fun _ u4 =>
    k x2 a1 (x5 + 1) u4
theorem whX5_not_94 {K1 K2 ld : Nat} {p : Program} {e : Env} {s : State} {m : MethodId} {args : Array Value} {below : List Frame} {meth : Method} {c : Code} (hl0 : l.stackTraces = false) (C : CxX t G l p s m args meth c yX5_not cX5_not 6 (some (.object "WhiteBoard$Form"))) (fe : Nat → Int32 → HS → Option (OH (PX Nat))) (hrec : ExprC fe t G l ld) (p0 : Nat) (p1 : Int32) (n : Nat) (x2 : Int32) (x4 : Nat) (x5 : Int32) (u : HS) : VX mkA t G p l e (ld + 4) K1 K2 s m args below meth c 6 94 [(2, .int x2), (4, .ref x4), (5, .int x5)] [] u (ml3 (hX5_not_94 fe p0 p1) n x2 x4 x5 u) := by
  refine vl3 (L := fun x2 x4 x5 => [(2, .int x2), (4, .ref x4), (5, .int x5)]) (fun k hk x2 x4 x5 u => ?_) n x2 x4 x5 u
  unfold hX5_not_94
  refine v_iload C.1.1 2 rfl dX5_not_94 ?_
  refine v_iload_n C.1.1 0 rfl rfl dX5_not_96 ?_
  refine v_icmp_ge C.1.1 117 (by decide) dX5_not_97 (fun _ => ?_) (fun _ => ?_)
  · refine v_aload C.1.1 1 rfl dX5_not_117 ?_
    exact v_xaret C.1 (Or.inl ⟨_, rfl⟩) dX5_not_119
  · refine v_letE (fun a1 e2 => ?_)
    refine v_hnew C.1 10 e2 (by decide) rfl in_X11 tyX11 tyX11_ok df_X11 q1291 q1292 q153 dX5_not_100 (fun u3 => ?_)
    refine v_dup C.1.1 rfl dX5_not_103 ?_
    refine v_aload C.1.1 1 rfl dX5_not_104 ?_
    refine v_callIH C.1 [.ref x4] [.ref a1] (ctX11_init t G l hl0 a1 x4 u3) (fun _ _ => cwX11_init C.1 q1293 (by have h9 := hrec.1; omega)) rfl rfl (by exact Nat.le_of_ble_eq_true rfl) dX5_not_106 (fun _ u4 => ?_)
    refine v_astore C.1.1 [(4, .ref a1), (2, .int x2), (5, .int x5)] (by decide) rfl dX5_not_109 ?_
    refine v_iinc C.1.1 1 [(5, .int (x5 + 1)), (4, .ref a1), (2, .int x2)] 2 rfl (by decide) (by decide) rfl dX5_not_111 ?_
    refine v_goto C.1.1 94 (by decide) dX5_not_114 ?_
    refine v_sub [2, 1, 0] rfl ?_
    exact hk x2 a1 (x5 + 1) u4
def hX5_not_85 (fe : Nat → Int32 → HS → Option (OH (PX Nat))) (p0 : Nat) (p1 : Int32) (x2 : Int32) (x3 : Nat) (u : HS) : Option (OH (PX Nat)) :=
  mchk (hC u x3 == 8) <|
  hb (hX8_plain x3 u) fun r2 u1 =>
  ml3 (hX5_not_94 fe p0 p1) FUEL x2 r2 0 u1
theorem whX5_not_85 {K1 K2 ld : Nat} {p : Program} {e : Env} {s : State} {m : MethodId} {args : Array Value} {below : List Frame} {meth : Method} {c : Code} (hl0 : l.stackTraces = false) (C : CxX t G l p s m args meth c yX5_not cX5_not 6 (some (.object "WhiteBoard$Form"))) (fe : Nat → Int32 → HS → Option (OH (PX Nat))) (hrec : ExprC fe t G l ld) (p0 : Nat) (p1 : Int32) (x2 : Int32) (x3 : Nat) (u : HS) : VX mkA t G p l e (ld + 4) K1 K2 s m args below meth c 6 85 [(2, .int x2), (3, .ref x3)] [] u (hX5_not_85 fe p0 p1 x2 x3 u) := by
  unfold hX5_not_85
  refine v_aload_n C.1.1 1 rfl rfl dX5_not_85 ?_
  refine v_chk (fun h3 => ?_)
  refine v_callVH C.1 [] [] (ctX8_plain t G l hl0 x3 u) (fun _ _ => cwX8_plain C.1 q1287 (by have h9 := hrec.1; omega)) (recO C.1 (ci := 7) (eq_of_beq h3) (by decide) rfl) rfl rfl (by exact Nat.le_of_ble_eq_true rfl) dX5_not_86 (fun r2 u1 => ?_)
  refine v_astore C.1.1 [(4, .ref r2), (2, .int x2), (3, .ref x3)] (by decide) rfl dX5_not_89 ?_
  refine v_iconst C.1.1 0 (by decide) dX5_not_91 ?_
  refine v_istore C.1.1 [(5, .int 0), (4, .ref r2), (2, .int x2), (3, .ref x3)] (by decide) rfl dX5_not_92 ?_
  refine v_sub [2, 1, 0] rfl ?_
  exact whX5_not_94 hl0 C fe hrec p0 p1 FUEL x2 r2 0 u1
def hX5_not_68 (fe : Nat → Int32 → HS → Option (OH (PX Nat))) (p0 : Nat) (p1 : Int32) (x2 : Int32) (x3 : Nat) (u : HS) : Option (OH (PX Nat)) :=
  mchk (hC u p0 == 5) <|
  hb (hX5_sign p0 u) fun r2 u1 =>
  mchk (hC u1 p0 == 5) <|
  hx (hX5_sum fe p0 p1 u1) fun r5 u4 =>
  mchk (hC u4 x3 == 8) <|
  hb (hX8_add x3 r2 r5 u4) fun _ u7 =>
  hX5_not_85 fe p0 p1 x2 x3 u7
theorem whX5_not_68 {K1 K2 ld : Nat} {p : Program} {e : Env} {s : State} {m : MethodId} {args : Array Value} {below : List Frame} {meth : Method} {c : Code} (hl0 : l.stackTraces = false) (C : CxX t G l p s m args meth c yX5_not cX5_not 6 (some (.object "WhiteBoard$Form"))) (fe : Nat → Int32 → HS → Option (OH (PX Nat))) (hrec : ExprC fe t G l ld) (p0 : Nat) (p1 : Int32) (x2 : Int32) (x3 : Nat) (u : HS) : VX mkA t G p l e (ld + 4) K1 K2 s m args below meth c 6 68 [(0, .ref p0), (1, .int p1), (2, .int x2), (3, .ref x3)] [] u (hX5_not_68 fe p0 p1 x2 x3 u) := by
  unfold hX5_not_68
  refine v_aload_n C.1.1 0 rfl rfl dX5_not_68 ?_
  refine v_chk (fun h3 => ?_)
  refine v_callVH C.1 [] [] (ctX5_sign t G l hl0 p0 u) (fun _ _ => cwX5_sign C.1 q1219 (by have h9 := hrec.1; omega)) (recO C.1 (ci := 4) (eq_of_beq h3) (by decide) rfl) rfl rfl (by exact Nat.le_of_ble_eq_true rfl) dX5_not_69 (fun r2 u1 => ?_)
  refine v_istore C.1.1 [(4, .int r2), (0, .ref p0), (1, .int p1), (2, .int x2), (3, .ref x3)] (by decide) rfl dX5_not_72 ?_
  refine v_aload_n C.1.1 4 rfl rfl dX5_not_74 ?_
  refine v_iload C.1.1 0 rfl dX5_not_75 ?_
  refine v_aload_n C.1.1 1 rfl rfl dX5_not_77 ?_
  refine v_iload_n C.1.1 2 rfl rfl dX5_not_78 ?_
  refine v_chk (fun h6 => ?_)
  refine v_callVX C [.int p1] [.int r2, .ref x3] (ctX5_sum t G l hl0 fe hrec p0 p1 u1) (fun _ _ => cwX5_sum C.1 q1140 (by have h9 := hrec.1; omega)) (recO C.1 (ci := 4) (eq_of_beq h6) (by decide) rfl) rfl rfl (by exact Nat.le_of_ble_eq_true rfl) dX5_not_79 (fun r5 u4 => ?_)
  refine v_chk (fun h8 => ?_)
  refine v_callVH C.1 [.int r2, .ref r5] [] (ctX8_add t G l hl0 x3 r2 r5 u4) (fun _ _ => cwX8_add C.1 q1223 (by have h9 := hrec.1; omega)) (recO C.1 (ci := 7) (eq_of_beq h8) (by decide) rfl) rfl rfl (by exact Nat.le_of_ble_eq_true rfl) dX5_not_82 (fun _ u7 => ?_)
  refine v_sub [3, 4] rfl ?_
  exact whX5_not_85 hl0 C fe hrec p0 p1 x2 x3 u7
def hX5_not_23 (fe : Nat → Int32 → HS → Option (OH (PX Nat))) (p0 : Nat) (p1 : Int32) (k2 : Int32 → HS → Option (OH (PX Nat))) (x2 : Int32) (s0 : Nat) (s1 : Int32) (u : HS) : Option (OH (PX Nat)) :=
  mchk (hC u s0 == 5) <|
  hx (hX5_want s0 s1 2 u) fun _ u1 =>
  mchk (hC u1 p0 == 5) <|
  hb (hX5_next p0 u1) fun _ u3 =>
  k2 (x2 + 1) u3
theorem whX5_not_23 {K1 K2 ld : Nat} {p : Program} {e : Env} {s : State} {m : MethodId} {args : Array Value} {below : List Frame} {meth : Method} {c : Code} (hl0 : l.stackTraces = false) (C : CxX t G l p s m args meth c yX5_not cX5_not 6 (some (.object "WhiteBoard$Form"))) (fe : Nat → Int32 → HS → Option (OH (PX Nat))) (hrec : ExprC fe t G l ld) (p0 : Nat) (p1 : Int32) (k2 : Int32 → HS → Option (OH (PX Nat))) (hk2 : ∀ (x2 : Int32) (u : HS), VX mkA t G p l e (ld + 4) K1 K2 s m args below meth c 6 2 [(0, .ref p0), (1, .int p1), (2, .int x2)] [] u (k2 x2 u)) (x2 : Int32) (s0 : Nat) (s1 : Int32) (u : HS) : VX mkA t G p l e (ld + 4) K1 K2 s m args below meth c 6 23 [(0, .ref p0), (1, .int p1), (2, .int x2)] [.int s1, .ref s0] u (hX5_not_23 fe p0 p1 k2 x2 s0 s1 u) := by
  unfold hX5_not_23
  refine v_iconst C.1.1 2 (by decide) dX5_not_23 ?_
  refine v_chk (fun h2 => ?_)
  refine v_callVX C [.int s1, .int 2] [] (ctX5_want t G l hl0 s0 s1 2 u) (fun _ _ => cwX5_want C.1 q1008 (by have h9 := hrec.1; omega)) (recO C.1 (ci := 4) (eq_of_beq h2) (by decide) rfl) rfl rfl (by exact Nat.le_of_ble_eq_true rfl) dX5_not_24 (fun _ u1 => ?_)
  refine v_iinc C.1.1 1 [(2, .int (x2 + 1)), (0, .ref p0), (1, .int p1)] 2 rfl (by decide) (by decide) rfl dX5_not_27 ?_
  refine v_aload_n C.1.1 1 rfl rfl dX5_not_30 ?_
  refine v_chk (fun h4 => ?_)
  refine v_callVH C.1 [] [] (ctX5_next t G l hl0 p0 u1) (fun _ _ => cwX5_next C.1 q890 (by have h9 := hrec.1; omega)) (recO C.1 (ci := 4) (eq_of_beq h4) (by decide) rfl) rfl rfl (by exact Nat.le_of_ble_eq_true rfl) dX5_not_31 (fun _ u3 => ?_)
  refine v_goto C.1.1 2 (by decide) dX5_not_34 ?_
  refine v_sub [1, 2, 0] rfl ?_
  exact hk2 (x2 + 1) u3
def hX5_not_2 (fe : Nat → Int32 → HS → Option (OH (PX Nat))) (p0 : Nat) (p1 : Int32) (k : Int32 → HS → Option (OH (PX Nat))) (x2 : Int32) (u : HS) : Option (OH (PX Nat)) :=
  mlet (hK u 19) fun a1 =>
  mchk (hC u p0 == 5) <|
  hb (hX5_is p0 a1 u) fun r5 u4 =>
  if r5 = 0 then
    mlet (hZ u4) fun a7 =>
    addc 1 (cN 7) <|
    mlet (nO u4 7) fun u9 =>
    mchk (hC u9 p0 == 5) <|
    hx (hX5_sum fe p0 p1 u9) fun r11 u10 =>
    hb (hX8_init a7 r11 u10) fun _ u13 =>
    mchk (hC u13 p0 == 5) <|
    hb (hX5_isSign p0 60 u13) fun r15 u14 =>
    if r15 = 0 then
      mchk (hC u14 p0 == 5) <|
      hb (hX5_isSign p0 61 u14) fun r18 u17 =>
      if r18 = 0 then
        hX5_not_85 fe p0 p1 x2 a7 u17
      else
        hX5_not_68 fe p0 p1 x2 a7 u17
    else
      hX5_not_68 fe p0 p1 x2 a7 u14
  else
    if 6 ≤ x2 then
      hX5_not_23 fe p0 p1 k x2 p0 0 u4
    else
      hX5_not_23 fe p0 p1 k x2 p0 1 u4
theorem whX5_not_2 {K1 K2 ld : Nat} {p : Program} {e : Env} {s : State} {m : MethodId} {args : Array Value} {below : List Frame} {meth : Method} {c : Code} (hl0 : l.stackTraces = false) (C : CxX t G l p s m args meth c yX5_not cX5_not 6 (some (.object "WhiteBoard$Form"))) (fe : Nat → Int32 → HS → Option (OH (PX Nat))) (hrec : ExprC fe t G l ld) (p0 : Nat) (p1 : Int32) (n : Nat) (x2 : Int32) (u : HS) : VX mkA t G p l e (ld + 4) K1 K2 s m args below meth c 6 2 [(0, .ref p0), (1, .int p1), (2, .int x2)] [] u (ml1 (hX5_not_2 fe p0 p1) n x2 u) := by
  refine vl1 (L := fun x2 => [(0, .ref p0), (1, .int p1), (2, .int x2)]) (fun k hk x2 u => ?_) n x2 u
  unfold hX5_not_2
  refine v_aload_n C.1.1 0 rfl rfl dX5_not_2 ?_
  refine v_K (fun ek3 _ => ?_)
  refine v_letE (fun a1 e2 => ?_)
  refine v_hldc (q := a1) C.1 rfl 9 (by decide) rfl (by rw [e2, ek3]) dX5_not_3 ?_
  refine v_chk (fun h6 => ?_)
  refine v_callVH C.1 [.ref a1] [] (ctX5_is t G l hl0 p0 a1 u) (fun _ _ => cwX5_is C.1 q984 (by have h9 := hrec.1; omega)) (recO C.1 (ci := 4) (eq_of_beq h6) (by decide) rfl) rfl rfl (by exact Nat.le_of_ble_eq_true rfl) dX5_not_5 (fun r5 u4 => ?_)
  refine v_if_eq C.1.1 37 (by decide) dX5_not_8 (fun _ => ?_) (fun _ => ?_)
  · refine v_letE (fun a7 e8 => ?_)
    refine v_hnew C.1 7 e8 (by decide) rfl in_X8 tyX8 tyX8_ok df_X8 q1129 q1130 q148 dX5_not_37 (fun u9 => ?_)
    refine v_dup C.1.1 rfl dX5_not_40 ?_
    refine v_aload_n C.1.1 0 rfl rfl dX5_not_41 ?_
    refine v_iload_n C.1.1 1 rfl rfl dX5_not_42 ?_
    refine v_chk (fun h12 => ?_)
    refine v_callVX C [.int p1] [.ref a7, .ref a7] (ctX5_sum t G l hl0 fe hrec p0 p1 u9) (fun _ _ => cwX5_sum C.1 q1140 (by have h9 := hrec.1; omega)) (recO C.1 (ci := 4) (eq_of_beq h12) (by decide) rfl) rfl rfl (by exact Nat.le_of_ble_eq_true rfl) dX5_not_43 (fun r11 u10 => ?_)
    refine v_callIH C.1 [.ref r11] [.ref a7] (ctX8_init t G l hl0 a7 r11 u10) (fun _ _ => cwX8_init C.1 q1176 (by have h9 := hrec.1; omega)) rfl rfl (by exact Nat.le_of_ble_eq_true rfl) dX5_not_46 (fun _ u13 => ?_)
    refine v_astore_n C.1.1 [(3, .ref a7), (0, .ref p0), (1, .int p1), (2, .int x2)] rfl (by decide) rfl dX5_not_49 ?_
    refine v_aload_n C.1.1 1 rfl rfl dX5_not_50 ?_
    refine v_bipush C.1.1 60 (by decide) dX5_not_51 ?_
    refine v_chk (fun h16 => ?_)
    refine v_callVH C.1 [.int 60] [] (ctX5_isSign t G l hl0 p0 60 u13) (fun _ _ => cwX5_isSign C.1 q1125 (by have h9 := hrec.1; omega)) (recO C.1 (ci := 4) (eq_of_beq h16) (by decide) rfl) rfl rfl (by exact Nat.le_of_ble_eq_true rfl) dX5_not_53 (fun r15 u14 => ?_)
    refine v_if_ne C.1.1 68 (by decide) dX5_not_56 (fun _ => ?_) (fun _ => ?_)
    · refine v_aload_n C.1.1 1 rfl rfl dX5_not_59 ?_
      refine v_bipush C.1.1 61 (by decide) dX5_not_60 ?_
      refine v_chk (fun h19 => ?_)
      refine v_callVH C.1 [.int 61] [] (ctX5_isSign t G l hl0 p0 61 u14) (fun _ _ => cwX5_isSign C.1 q1125 (by have h9 := hrec.1; omega)) (recO C.1 (ci := 4) (eq_of_beq h19) (by decide) rfl) rfl rfl (by exact Nat.le_of_ble_eq_true rfl) dX5_not_62 (fun r18 u17 => ?_)
      refine v_if_eq C.1.1 85 (by decide) dX5_not_65 (fun _ => ?_) (fun _ => ?_)
      · refine v_sub [3, 0] rfl ?_
        exact whX5_not_85 hl0 C fe hrec p0 p1 x2 a7 u17
      · refine v_sub [1, 2, 3, 0] rfl ?_
        exact whX5_not_68 hl0 C fe hrec p0 p1 x2 a7 u17
    · refine v_sub [1, 2, 3, 0] rfl ?_
      exact whX5_not_68 hl0 C fe hrec p0 p1 x2 a7 u14
  · refine v_aload_n C.1.1 0 rfl rfl dX5_not_11 ?_
    refine v_iload_n C.1.1 2 rfl rfl dX5_not_12 ?_
    refine v_bipush C.1.1 6 (by decide) dX5_not_13 ?_
    refine v_icmp_ge C.1.1 22 (by decide) dX5_not_15 (fun _ => ?_) (fun _ => ?_)
    · refine v_iconst C.1.1 0 (by decide) dX5_not_22 ?_
      exact whX5_not_23 hl0 C fe hrec p0 p1 k hk x2 p0 0 u4
    · refine v_iconst C.1.1 1 (by decide) dX5_not_18 ?_
      refine v_goto C.1.1 23 (by decide) dX5_not_19 ?_
      exact whX5_not_23 hl0 C fe hrec p0 p1 k hk x2 p0 1 u4
def hX5_not (fe : Nat → Int32 → HS → Option (OH (PX Nat))) (p0 : Nat) (p1 : Int32) (u : HS) : Option (OH (PX Nat)) :=
  ml1 (hX5_not_2 fe p0 p1) FUEL 0 u
theorem ctX5_not (t : TT) (G : GH) (l : Launch) (hl0 : l.stackTraces = false) {ld : Nat} (fe : Nat → Int32 → HS → Option (OH (PX Nat))) (hrec : ExprC fe t G l ld) (p0 : Nat) (p1 : Int32) (u : HS) : CtX mkA t G l yX5_not cX5_not 6 (some (.object "WhiteBoard$Form")) (ld + 4) [.ref p0, .int p1] u (hX5_not fe p0 p1 u) := by
  refine ctX_of [(0, .ref p0), (1, .int p1)] hl0 rfl (Nat.le_of_ble_eq_true rfl) rfl (fun K1 K2 p e s m args below meth c C => ?_)
  unfold hX5_not
  refine v_iconst C.1.1 0 (by decide) dX5_not_0 ?_
  refine v_istore_n C.1.1 [(2, .int 0), (0, .ref p0), (1, .int p1)] rfl (by decide) rfl dX5_not_1 ?_
  refine v_sub [1, 2, 0] rfl ?_
  exact whX5_not_2 hl0 C fe hrec p0 p1 FUEL 0 u
theorem cwX5_not {t : TT} {G : GH} {l : Launch} {p : Program} {s : State} {m : MethodId} {args : Array Value} {meth : Method} {c : Code} {y0 : MethodName} {cc0 : ByteArray} {nL0 : Nat} {ret0 : Option FieldType} (C : CxH t G l p s m args meth c y0 cc0 nL0 ret0) {index lv mc ms K1 K2 lx : Nat} (hq : Cond.methodLink y0.cls index yX5_not ∈ lw_all) (hR : lx + 1 ≤ lv) : CallW (rmH lv K1 K2) s args y0.cls RX5 index yX5_not cX5_not 6 (some (.object "WhiteBoard$Form")) (ws_ yX5_not cX5_not 6 (some (.object "WhiteBoard$Form"))) (rmH lx mc ms) mc ms 1 :=
  cwV 1 C.1.2.2.2.2.1 (lw_V hq q1137 qs32 q132 q1138) rfl rfl rfl (by decide +kernel) ⟨hR, by show 8 + (6 + 11) + 100 * lx ≤ 100 * lv; omega⟩
def hX5_passes (p0 : Nat) (p1 : Nat) (u : HS) : Option (OH Int32) :=
  mchk (hC u p0 == 5) <|
  hb (hX5_is p0 p1 u) fun r2 u1 =>
  if r2 = 0 then
    hz id r2 u1
  else
    mchk (hC u1 p0 == 5) <|
    hb (hX5_next p0 u1) fun _ u4 =>
    hz id r2 u4
theorem ctX5_passes (t : TT) (G : GH) (l : Launch) (hl0 : l.stackTraces = false) (p0 : Nat) (p1 : Nat) (u : HS) : CtH mkI t G l yX5_passes cX5_passes 3 (some .boolean) 7 [.ref p0, .ref p1] u (hX5_passes p0 p1 u) := by
  refine ctH_of [(0, .ref p0), (1, .ref p1)] hl0 rfl (Nat.le_of_ble_eq_true rfl) rfl (fun K1 K2 p e s m args below meth c C => ?_)
  unfold hX5_passes
  refine v_aload_n C.1 0 rfl rfl dX5_passes_0 ?_
  refine v_aload_n C.1 1 rfl rfl dX5_passes_1 ?_
  refine v_chk (fun h3 => ?_)
  refine v_callVH C [.ref p1] [] (ctX5_is t G l hl0 p0 p1 u) (fun _ _ => cwX5_is C q984 (by decide)) (recO C (ci := 4) (eq_of_beq h3) (by decide) rfl) rfl rfl (by exact Nat.le_of_ble_eq_true rfl) dX5_passes_2 (fun r2 u1 => ?_)
  refine v_istore_n C.1 [(2, .int r2), (0, .ref p0), (1, .ref p1)] rfl (by decide) rfl dX5_passes_5 ?_
  refine v_iload_n C.1 0 rfl rfl dX5_passes_6 ?_
  refine v_if_eq C.1 14 (by decide) dX5_passes_7 (fun _ => ?_) (fun _ => ?_)
  · refine v_iload_n C.1 0 rfl rfl dX5_passes_14 ?_
    exact v_hzret C dX5_passes_15
  · refine v_aload_n C.1 1 rfl rfl dX5_passes_10 ?_
    refine v_chk (fun h5 => ?_)
    refine v_callVH C [] [] (ctX5_next t G l hl0 p0 u1) (fun _ _ => cwX5_next C q890 (by decide)) (recO C (ci := 4) (eq_of_beq h5) (by decide) rfl) rfl rfl (by exact Nat.le_of_ble_eq_true rfl) dX5_passes_11 (fun _ u4 => ?_)
    refine v_iload_n C.1 0 rfl rfl dX5_passes_14 ?_
    exact v_hzret C dX5_passes_15
theorem cwX5_passes {t : TT} {G : GH} {l : Launch} {p : Program} {s : State} {m : MethodId} {args : Array Value} {meth : Method} {c : Code} {y0 : MethodName} {cc0 : ByteArray} {nL0 : Nat} {ret0 : Option FieldType} (C : CxH t G l p s m args meth c y0 cc0 nL0 ret0) {index lv mc ms K1 K2 : Nat} (hq : Cond.methodLink y0.cls index yX5_passes ∈ lw_all) (hR : 7 + 1 ≤ lv) : CallW (rmH lv K1 K2) s args y0.cls RX5 index yX5_passes cX5_passes 3 (some .boolean) (ws_ yX5_passes cX5_passes 3 (some .boolean)) (rmH 7 mc ms) mc ms 1 :=
  cwV 1 C.1.2.2.2.2.1 (lw_V hq q1304 qs38 q132 q1305) rfl rfl rfl (by decide +kernel) ⟨hR, by show 8 + (3 + 11) + 100 * 7 ≤ 100 * lv; omega⟩
def hX5_and_13 (fe : Nat → Int32 → HS → Option (OH (PX Nat))) (p0 : Nat) (p1 : Int32) (k : Nat → HS → Option (OH (PX Nat))) (x2 : Nat) (u : HS) : Option (OH (PX Nat)) :=
  mlet (hK u 20) fun a1 =>
  mchk (hC u p0 == 5) <|
  hb (hX5_passes p0 a1 u) fun r5 u4 =>
  if r5 = 0 then
    mchk (hC u4 x2 == 8) <|
    hb (hX8_plain x2 u4) fun r8 u7 =>
    hret (.inl r8) u7
  else
    mchk (hC u4 p0 == 5) <|
    hx (hX5_not fe p0 p1 u4) fun r8 u7 =>
    mchk (hC u7 x2 == 8) <|
    hb (hX8_add x2 38 r8 u7) fun _ u10 =>
    k x2 u10
theorem whX5_and_13 {K1 K2 ld : Nat} {p : Program} {e : Env} {s : State} {m : MethodId} {args : Array Value} {below : List Frame} {meth : Method} {c : Code} (hl0 : l.stackTraces = false) (C : CxX t G l p s m args meth c yX5_and cX5_and 3 (some (.object "WhiteBoard$Form"))) (fe : Nat → Int32 → HS → Option (OH (PX Nat))) (hrec : ExprC fe t G l ld) (p0 : Nat) (p1 : Int32) (n : Nat) (x2 : Nat) (u : HS) : VX mkA t G p l e (ld + 5) K1 K2 s m args below meth c 3 13 [(0, .ref p0), (1, .int p1), (2, .ref x2)] [] u (ml1 (hX5_and_13 fe p0 p1) n x2 u) := by
  refine vl1 (L := fun x2 => [(0, .ref p0), (1, .int p1), (2, .ref x2)]) (fun k hk x2 u => ?_) n x2 u
  unfold hX5_and_13
  refine v_aload_n C.1.1 0 rfl rfl dX5_and_13 ?_
  refine v_K (fun ek3 _ => ?_)
  refine v_letE (fun a1 e2 => ?_)
  refine v_hldc (q := a1) C.1 rfl 10 (by decide) rfl (by rw [e2, ek3]) dX5_and_14 ?_
  refine v_chk (fun h6 => ?_)
  refine v_callVH C.1 [.ref a1] [] (ctX5_passes t G l hl0 p0 a1 u) (fun _ _ => cwX5_passes C.1 q1302 (by have h9 := hrec.1; omega)) (recO C.1 (ci := 4) (eq_of_beq h6) (by decide) rfl) rfl rfl (by exact Nat.le_of_ble_eq_true rfl) dX5_and_16 (fun r5 u4 => ?_)
  refine v_if_eq C.1.1 36 (by decide) dX5_and_19 (fun _ => ?_) (fun _ => ?_)
  · refine v_aload_n C.1.1 2 rfl rfl dX5_and_36 ?_
    refine v_chk (fun h9 => ?_)
    refine v_callVH C.1 [] [] (ctX8_plain t G l hl0 x2 u4) (fun _ _ => cwX8_plain C.1 q1287 (by have h9 := hrec.1; omega)) (recO C.1 (ci := 7) (eq_of_beq h9) (by decide) rfl) rfl rfl (by exact Nat.le_of_ble_eq_true rfl) dX5_and_37 (fun r8 u7 => ?_)
    exact v_xaret C.1 (Or.inl ⟨_, rfl⟩) dX5_and_40
  · refine v_aload_n C.1.1 2 rfl rfl dX5_and_22 ?_
    refine v_bipush C.1.1 38 (by decide) dX5_and_23 ?_
    refine v_aload_n C.1.1 0 rfl rfl dX5_and_25 ?_
    refine v_iload_n C.1.1 1 rfl rfl dX5_and_26 ?_
    refine v_chk (fun h9 => ?_)
    refine v_callVX C [.int p1] [.int 38, .ref x2] (ctX5_not t G l hl0 fe hrec p0 p1 u4) (fun _ _ => cwX5_not C.1 q1135 (by have h9 := hrec.1; omega)) (recO C.1 (ci := 4) (eq_of_beq h9) (by decide) rfl) rfl rfl (by exact Nat.le_of_ble_eq_true rfl) dX5_and_27 (fun r8 u7 => ?_)
    refine v_chk (fun h11 => ?_)
    refine v_callVH C.1 [.int 38, .ref r8] [] (ctX8_add t G l hl0 x2 38 r8 u7) (fun _ _ => cwX8_add C.1 q1223 (by have h9 := hrec.1; omega)) (recO C.1 (ci := 7) (eq_of_beq h11) (by decide) rfl) rfl rfl (by exact Nat.le_of_ble_eq_true rfl) dX5_and_30 (fun _ u10 => ?_)
    refine v_goto C.1.1 13 (by decide) dX5_and_33 ?_
    exact hk x2 u10
def hX5_and (fe : Nat → Int32 → HS → Option (OH (PX Nat))) (p0 : Nat) (p1 : Int32) (u : HS) : Option (OH (PX Nat)) :=
  mlet (hZ u) fun a1 =>
  addc 1 (cN 7) <|
  mlet (nO u 7) fun u3 =>
  mchk (hC u3 p0 == 5) <|
  hx (hX5_not fe p0 p1 u3) fun r5 u4 =>
  hb (hX8_init a1 r5 u4) fun _ u7 =>
  ml1 (hX5_and_13 fe p0 p1) FUEL a1 u7
theorem ctX5_and (t : TT) (G : GH) (l : Launch) (hl0 : l.stackTraces = false) {ld : Nat} (fe : Nat → Int32 → HS → Option (OH (PX Nat))) (hrec : ExprC fe t G l ld) (p0 : Nat) (p1 : Int32) (u : HS) : CtX mkA t G l yX5_and cX5_and 3 (some (.object "WhiteBoard$Form")) (ld + 5) [.ref p0, .int p1] u (hX5_and fe p0 p1 u) := by
  refine ctX_of [(0, .ref p0), (1, .int p1)] hl0 rfl (Nat.le_of_ble_eq_true rfl) rfl (fun K1 K2 p e s m args below meth c C => ?_)
  unfold hX5_and
  refine v_letE (fun a1 e2 => ?_)
  refine v_hnew C.1 7 e2 (by decide) rfl in_X8 tyX8 tyX8_ok df_X8 q1129 q1130 q148 dX5_and_0 (fun u3 => ?_)
  refine v_dup C.1.1 rfl dX5_and_3 ?_
  refine v_aload_n C.1.1 0 rfl rfl dX5_and_4 ?_
  refine v_iload_n C.1.1 1 rfl rfl dX5_and_5 ?_
  refine v_chk (fun h6 => ?_)
  refine v_callVX C [.int p1] [.ref a1, .ref a1] (ctX5_not t G l hl0 fe hrec p0 p1 u3) (fun _ _ => cwX5_not C.1 q1135 (by have h9 := hrec.1; omega)) (recO C.1 (ci := 4) (eq_of_beq h6) (by decide) rfl) rfl rfl (by exact Nat.le_of_ble_eq_true rfl) dX5_and_6 (fun r5 u4 => ?_)
  refine v_callIH C.1 [.ref r5] [.ref a1] (ctX8_init t G l hl0 a1 r5 u4) (fun _ _ => cwX8_init C.1 q1176 (by have h9 := hrec.1; omega)) rfl rfl (by exact Nat.le_of_ble_eq_true rfl) dX5_and_9 (fun _ u7 => ?_)
  refine v_astore_n C.1.1 [(2, .ref a1), (0, .ref p0), (1, .int p1)] rfl (by decide) rfl dX5_and_12 ?_
  refine v_sub [1, 2, 0] rfl ?_
  exact whX5_and_13 hl0 C fe hrec p0 p1 FUEL a1 u7
theorem cwX5_and {t : TT} {G : GH} {l : Launch} {p : Program} {s : State} {m : MethodId} {args : Array Value} {meth : Method} {c : Code} {y0 : MethodName} {cc0 : ByteArray} {nL0 : Nat} {ret0 : Option FieldType} (C : CxH t G l p s m args meth c y0 cc0 nL0 ret0) {index lv mc ms K1 K2 lx : Nat} (hq : Cond.methodLink y0.cls index yX5_and ∈ lw_all) (hR : lx + 1 ≤ lv) : CallW (rmH lv K1 K2) s args y0.cls RX5 index yX5_and cX5_and 3 (some (.object "WhiteBoard$Form")) (ws_ yX5_and cX5_and 3 (some (.object "WhiteBoard$Form"))) (rmH lx mc ms) mc ms 1 :=
  cwV 1 C.1.2.2.2.2.1 (lw_V hq q1133 qs31 q132 q1134) rfl rfl rfl (by decide +kernel) ⟨hR, by show 8 + (3 + 11) + 100 * lx ≤ 100 * lv; omega⟩
def hX5_expression_64 (fe : Nat → Int32 → HS → Option (OH (PX Nat))) (p0 : Nat) (p1 : Int32) (k : Nat → HS → Option (OH (PX Nat))) (x2 : Nat) (u : HS) : Option (OH (PX Nat)) :=
  mlet (hK u 21) fun a1 =>
  mchk (hC u p0 == 5) <|
  hb (hX5_passes p0 a1 u) fun r5 u4 =>
  if r5 = 0 then
    mchk (hC u4 x2 == 8) <|
    hb (hX8_plain x2 u4) fun r8 u7 =>
    hret (.inl r8) u7
  else
    mchk (hC u4 p0 == 5) <|
    hx (hX5_and fe p0 p1 u4) fun r8 u7 =>
    mchk (hC u7 x2 == 8) <|
    hb (hX8_add x2 124 r8 u7) fun _ u10 =>
    k x2 u10
theorem whX5_expression_64 {K1 K2 ld : Nat} {p : Program} {e : Env} {s : State} {m : MethodId} {args : Array Value} {below : List Frame} {meth : Method} {c : Code} (hl0 : l.stackTraces = false) (C : CxX t G l p s m args meth c yX5_expression cX5_expression 3 (some (.object "WhiteBoard$Form"))) (fe : Nat → Int32 → HS → Option (OH (PX Nat))) (hrec : ExprC fe t G l ld) (p0 : Nat) (p1 : Int32) (n : Nat) (x2 : Nat) (u : HS) : VX mkA t G p l e (ld + 6) K1 K2 s m args below meth c 3 64 [(0, .ref p0), (1, .int p1), (2, .ref x2)] [] u (ml1 (hX5_expression_64 fe p0 p1) n x2 u) := by
  refine vl1 (L := fun x2 => [(0, .ref p0), (1, .int p1), (2, .ref x2)]) (fun k hk x2 u => ?_) n x2 u
  unfold hX5_expression_64
  refine v_aload_n C.1.1 0 rfl rfl dX5_expression_64 ?_
  refine v_K (fun ek3 _ => ?_)
  refine v_letE (fun a1 e2 => ?_)
  refine v_hldc (q := a1) C.1 rfl 11 (by decide) rfl (by rw [e2, ek3]) dX5_expression_65 ?_
  refine v_chk (fun h6 => ?_)
  refine v_callVH C.1 [.ref a1] [] (ctX5_passes t G l hl0 p0 a1 u) (fun _ _ => cwX5_passes C.1 q1302 (by have h9 := hrec.1; omega)) (recO C.1 (ci := 4) (eq_of_beq h6) (by decide) rfl) rfl rfl (by exact Nat.le_of_ble_eq_true rfl) dX5_expression_67 (fun r5 u4 => ?_)
  refine v_if_eq C.1.1 87 (by decide) dX5_expression_70 (fun _ => ?_) (fun _ => ?_)
  · refine v_aload_n C.1.1 2 rfl rfl dX5_expression_87 ?_
    refine v_chk (fun h9 => ?_)
    refine v_callVH C.1 [] [] (ctX8_plain t G l hl0 x2 u4) (fun _ _ => cwX8_plain C.1 q1287 (by have h9 := hrec.1; omega)) (recO C.1 (ci := 7) (eq_of_beq h9) (by decide) rfl) rfl rfl (by exact Nat.le_of_ble_eq_true rfl) dX5_expression_88 (fun r8 u7 => ?_)
    exact v_xaret C.1 (Or.inl ⟨_, rfl⟩) dX5_expression_91
  · refine v_aload_n C.1.1 2 rfl rfl dX5_expression_73 ?_
    refine v_bipush C.1.1 124 (by decide) dX5_expression_74 ?_
    refine v_aload_n C.1.1 0 rfl rfl dX5_expression_76 ?_
    refine v_iload_n C.1.1 1 rfl rfl dX5_expression_77 ?_
    refine v_chk (fun h9 => ?_)
    refine v_callVX C [.int p1] [.int 124, .ref x2] (ctX5_and t G l hl0 fe hrec p0 p1 u4) (fun _ _ => cwX5_and C.1 q1131 (by have h9 := hrec.1; omega)) (recO C.1 (ci := 4) (eq_of_beq h9) (by decide) rfl) rfl rfl (by exact Nat.le_of_ble_eq_true rfl) dX5_expression_78 (fun r8 u7 => ?_)
    refine v_chk (fun h11 => ?_)
    refine v_callVH C.1 [.int 124, .ref r8] [] (ctX8_add t G l hl0 x2 124 r8 u7) (fun _ _ => cwX8_add C.1 q1223 (by have h9 := hrec.1; omega)) (recO C.1 (ci := 7) (eq_of_beq h11) (by decide) rfl) rfl rfl (by exact Nat.le_of_ble_eq_true rfl) dX5_expression_81 (fun _ u10 => ?_)
    refine v_goto C.1.1 64 (by decide) dX5_expression_84 ?_
    exact hk x2 u10
def hX5_expression_47 (fe : Nat → Int32 → HS → Option (OH (PX Nat))) (p0 : Nat) (p1 : Int32) (s0 : Nat) (s1 : Int32) (u : HS) : Option (OH (PX Nat)) :=
  mchk (hC u s0 == 5) <|
  hx (hX5_want s0 s1 2 u) fun _ u1 =>
  mlet (hZ u1) fun a3 =>
  addc 1 (cN 7) <|
  mlet (nO u1 7) fun u5 =>
  mchk (hC u5 p0 == 5) <|
  hx (hX5_and fe p0 p1 u5) fun r7 u6 =>
  hb (hX8_init a3 r7 u6) fun _ u9 =>
  ml1 (hX5_expression_64 fe p0 p1) FUEL a3 u9
theorem whX5_expression_47 {K1 K2 ld : Nat} {p : Program} {e : Env} {s : State} {m : MethodId} {args : Array Value} {below : List Frame} {meth : Method} {c : Code} (hl0 : l.stackTraces = false) (C : CxX t G l p s m args meth c yX5_expression cX5_expression 3 (some (.object "WhiteBoard$Form"))) (fe : Nat → Int32 → HS → Option (OH (PX Nat))) (hrec : ExprC fe t G l ld) (p0 : Nat) (p1 : Int32) (s0 : Nat) (s1 : Int32) (u : HS) : VX mkA t G p l e (ld + 6) K1 K2 s m args below meth c 3 47 [(0, .ref p0), (1, .int p1)] [.int s1, .ref s0] u (hX5_expression_47 fe p0 p1 s0 s1 u) := by
  unfold hX5_expression_47
  refine v_iconst C.1.1 2 (by decide) dX5_expression_47 ?_
  refine v_chk (fun h2 => ?_)
  refine v_callVX C [.int s1, .int 2] [] (ctX5_want t G l hl0 s0 s1 2 u) (fun _ _ => cwX5_want C.1 q1008 (by have h9 := hrec.1; omega)) (recO C.1 (ci := 4) (eq_of_beq h2) (by decide) rfl) rfl rfl (by exact Nat.le_of_ble_eq_true rfl) dX5_expression_48 (fun _ u1 => ?_)
  refine v_letE (fun a3 e4 => ?_)
  refine v_hnew C.1 7 e4 (by decide) rfl in_X8 tyX8 tyX8_ok df_X8 q1129 q1130 q148 dX5_expression_51 (fun u5 => ?_)
  refine v_dup C.1.1 rfl dX5_expression_54 ?_
  refine v_aload_n C.1.1 0 rfl rfl dX5_expression_55 ?_
  refine v_iload_n C.1.1 1 rfl rfl dX5_expression_56 ?_
  refine v_chk (fun h8 => ?_)
  refine v_callVX C [.int p1] [.ref a3, .ref a3] (ctX5_and t G l hl0 fe hrec p0 p1 u5) (fun _ _ => cwX5_and C.1 q1131 (by have h9 := hrec.1; omega)) (recO C.1 (ci := 4) (eq_of_beq h8) (by decide) rfl) rfl rfl (by exact Nat.le_of_ble_eq_true rfl) dX5_expression_57 (fun r7 u6 => ?_)
  refine v_callIH C.1 [.ref r7] [.ref a3] (ctX8_init t G l hl0 a3 r7 u6) (fun _ _ => cwX8_init C.1 q1176 (by have h9 := hrec.1; omega)) rfl rfl (by exact Nat.le_of_ble_eq_true rfl) dX5_expression_60 (fun _ u9 => ?_)
  refine v_astore_n C.1.1 [(2, .ref a3), (0, .ref p0), (1, .int p1)] rfl (by decide) rfl dX5_expression_63 ?_
  refine v_sub [1, 2, 0] rfl ?_
  exact whX5_expression_64 hl0 C fe hrec p0 p1 FUEL a3 u9
def hX5_expression_31 (fe : Nat → Int32 → HS → Option (OH (PX Nat))) (p0 : Nat) (p1 : Int32) (s0 : Nat) (s1 : Int32) (u : HS) : Option (OH (PX Nat)) :=
  mchk (hC u s0 == 5) <|
  hx (hX5_want s0 s1 1 u) fun _ u1 =>
  if 6 ≤ p1 then
    hX5_expression_47 fe p0 p1 p0 0 u1
  else
    hX5_expression_47 fe p0 p1 p0 1 u1
theorem whX5_expression_31 {K1 K2 ld : Nat} {p : Program} {e : Env} {s : State} {m : MethodId} {args : Array Value} {below : List Frame} {meth : Method} {c : Code} (hl0 : l.stackTraces = false) (C : CxX t G l p s m args meth c yX5_expression cX5_expression 3 (some (.object "WhiteBoard$Form"))) (fe : Nat → Int32 → HS → Option (OH (PX Nat))) (hrec : ExprC fe t G l ld) (p0 : Nat) (p1 : Int32) (s0 : Nat) (s1 : Int32) (u : HS) : VX mkA t G p l e (ld + 6) K1 K2 s m args below meth c 3 31 [(0, .ref p0), (1, .int p1)] [.int s1, .ref s0] u (hX5_expression_31 fe p0 p1 s0 s1 u) := by
  unfold hX5_expression_31
  refine v_iconst C.1.1 1 (by decide) dX5_expression_31 ?_
  refine v_chk (fun h2 => ?_)
  refine v_callVX C [.int s1, .int 1] [] (ctX5_want t G l hl0 s0 s1 1 u) (fun _ _ => cwX5_want C.1 q1008 (by have h9 := hrec.1; omega)) (recO C.1 (ci := 4) (eq_of_beq h2) (by decide) rfl) rfl rfl (by exact Nat.le_of_ble_eq_true rfl) dX5_expression_32 (fun _ u1 => ?_)
  refine v_aload_n C.1.1 0 rfl rfl dX5_expression_35 ?_
  refine v_iload_n C.1.1 1 rfl rfl dX5_expression_36 ?_
  refine v_bipush C.1.1 6 (by decide) dX5_expression_37 ?_
  refine v_icmp_ge C.1.1 46 (by decide) dX5_expression_39 (fun _ => ?_) (fun _ => ?_)
  · refine v_iconst C.1.1 0 (by decide) dX5_expression_46 ?_
    exact whX5_expression_47 hl0 C fe hrec p0 p1 p0 0 u1
  · refine v_iconst C.1.1 1 (by decide) dX5_expression_42 ?_
    refine v_goto C.1.1 47 (by decide) dX5_expression_43 ?_
    exact whX5_expression_47 hl0 C fe hrec p0 p1 p0 1 u1
def hX5_expression (fe : Nat → Int32 → HS → Option (OH (PX Nat))) (p0 : Nat) (p1 : Int32) (u : HS) : Option (OH (PX Nat)) :=
  mchk (hC u p0 == 5) <|
  if (hI u p0 5) = 2 then
    hX5_expression_31 fe p0 p1 p0 1 u
  else
    mchk (hC u p0 == 5) <|
    if (hI u p0 5) = 1 then
      hX5_expression_31 fe p0 p1 p0 1 u
    else
      mchk (hC u p0 == 5) <|
      hb (hX5_isSign p0 40 u) fun r4 u3 =>
      if r4 = 0 then
        hX5_expression_31 fe p0 p1 p0 0 u3
      else
        hX5_expression_31 fe p0 p1 p0 1 u3
theorem ctX5_expression (t : TT) (G : GH) (l : Launch) (hl0 : l.stackTraces = false) {ld : Nat} (fe : Nat → Int32 → HS → Option (OH (PX Nat))) (hrec : ExprC fe t G l ld) (p0 : Nat) (p1 : Int32) (u : HS) : CtX mkA t G l yX5_expression cX5_expression 3 (some (.object "WhiteBoard$Form")) (ld + 6) [.ref p0, .int p1] u (hX5_expression fe p0 p1 u) := by
  refine ctX_of [(0, .ref p0), (1, .int p1)] hl0 rfl (Nat.le_of_ble_eq_true rfl) rfl (fun K1 K2 p e s m args below meth c C => ?_)
  unfold hX5_expression
  refine v_aload_n C.1.1 0 rfl rfl dX5_expression_0 ?_
  refine v_aload_n C.1.1 0 rfl rfl dX5_expression_1 ?_
  refine v_chk (fun h1 => ?_)
  refine v_hget C.1 (v := .int (hI u p0 5)) 4 5 (eq_of_beq h1) (by decide) rfl in_X5 (by decide) (Or.inl q853) (fun _ h => h) (hF_i (ci := 4) (eq_of_beq h1) (by decide)) dX5_expression_2 ?_
  refine v_iconst C.1.1 2 (by decide) dX5_expression_5 ?_
  refine v_icmp_eq C.1.1 26 (by decide) dX5_expression_6 (fun _ => ?_) (fun _ => ?_)
  · refine v_iconst C.1.1 1 (by decide) dX5_expression_26 ?_
    refine v_goto C.1.1 31 (by decide) dX5_expression_27 ?_
    exact whX5_expression_31 hl0 C fe hrec p0 p1 p0 1 u
  · refine v_aload_n C.1.1 0 rfl rfl dX5_expression_9 ?_
    refine v_chk (fun h2 => ?_)
    refine v_hget C.1 (v := .int (hI u p0 5)) 4 5 (eq_of_beq h2) (by decide) rfl in_X5 (by decide) (Or.inl q853) (fun _ h => h) (hF_i (ci := 4) (eq_of_beq h2) (by decide)) dX5_expression_10 ?_
    refine v_iconst C.1.1 1 (by decide) dX5_expression_13 ?_
    refine v_icmp_eq C.1.1 26 (by decide) dX5_expression_14 (fun _ => ?_) (fun _ => ?_)
    · refine v_iconst C.1.1 1 (by decide) dX5_expression_26 ?_
      refine v_goto C.1.1 31 (by decide) dX5_expression_27 ?_
      exact whX5_expression_31 hl0 C fe hrec p0 p1 p0 1 u
    · refine v_aload_n C.1.1 0 rfl rfl dX5_expression_17 ?_
      refine v_bipush C.1.1 40 (by decide) dX5_expression_18 ?_
      refine v_chk (fun h5 => ?_)
      refine v_callVH C.1 [.int 40] [.ref p0] (ctX5_isSign t G l hl0 p0 40 u) (fun _ _ => cwX5_isSign C.1 q1125 (by have h9 := hrec.1; omega)) (recO C.1 (ci := 4) (eq_of_beq h5) (by decide) rfl) rfl rfl (by exact Nat.le_of_ble_eq_true rfl) dX5_expression_20 (fun r4 u3 => ?_)
      refine v_if_eq C.1.1 30 (by decide) dX5_expression_23 (fun _ => ?_) (fun _ => ?_)
      · refine v_iconst C.1.1 0 (by decide) dX5_expression_30 ?_
        exact whX5_expression_31 hl0 C fe hrec p0 p1 p0 0 u3
      · refine v_iconst C.1.1 1 (by decide) dX5_expression_26 ?_
        refine v_goto C.1.1 31 (by decide) dX5_expression_27 ?_
        exact whX5_expression_31 hl0 C fe hrec p0 p1 p0 1 u3
/-- an expression, by its depth -/
def hX5_expr : Nat → Nat → Int32 → HS → Option (OH (PX Nat))
  | 0, _, _, _ => none
  | d + 1, b, x, u => hX5_expression (hX5_expr d) b x u
theorem exprC (t : TT) (G : GH) (l : Launch) (hl0 : l.stackTraces = false) : ∀ d, ExprC (hX5_expr d) t G l (30 + 6 * d)
  | 0 => ⟨Nat.le_refl _, fun b x u w hw => (by unfold hX5_expr at hw; cases hw)⟩
  | d + 1 => ⟨by omega, fun b x u => by unfold hX5_expr; exact ctX5_expression t G l hl0 (hX5_expr d) (exprC t G l hl0 d) b x u⟩
def hX5_line_180 (p0 : Nat) (u : HS) : Option (OH (PX Unit)) :=
  mchk (hC u p0 == 5) <|
  hb (hX5_isSign p0 59 u) fun r2 u1 =>
  mchk (hC u1 p0 == 5) <|
  hx (hX5_want p0 r2 1 u1) fun _ u4 =>
  mchk (hC u4 p0 == 5) <|
  hb (hX5_next p0 u4) fun _ u6 =>
  hret (.inl ()) u6
theorem whX5_line_180 {K1 K2 : Nat} {p : Program} {e : Env} {s : State} {m : MethodId} {args : Array Value} {below : List Frame} {meth : Method} {c : Code} (hl0 : l.stackTraces = false) (C : CxX t G l p s m args meth c yX5_line cX5_line 1 none) (p0 : Nat) (u : HS) : VX mkU t G p l e 200 K1 K2 s m args below meth c 1 180 [(0, .ref p0)] [] u (hX5_line_180 p0 u) := by
  unfold hX5_line_180
  refine v_aload_n C.1.1 0 rfl rfl dX5_line_180 ?_
  refine v_aload_n C.1.1 0 rfl rfl dX5_line_181 ?_
  refine v_bipush C.1.1 59 (by decide) dX5_line_182 ?_
  refine v_chk (fun h3 => ?_)
  refine v_callVH C.1 [.int 59] [.ref p0] (ctX5_isSign t G l hl0 p0 59 u) (fun _ _ => cwX5_isSign C.1 q1125 (by decide)) (recO C.1 (ci := 4) (eq_of_beq h3) (by decide) rfl) rfl rfl (by exact Nat.le_of_ble_eq_true rfl) dX5_line_184 (fun r2 u1 => ?_)
  refine v_iconst C.1.1 1 (by decide) dX5_line_187 ?_
  refine v_chk (fun h5 => ?_)
  refine v_callVX C [.int r2, .int 1] [] (ctX5_want t G l hl0 p0 r2 1 u1) (fun _ _ => cwX5_want C.1 q1008 (by decide)) (recO C.1 (ci := 4) (eq_of_beq h5) (by decide) rfl) rfl rfl (by exact Nat.le_of_ble_eq_true rfl) dX5_line_188 (fun _ u4 => ?_)
  refine v_aload_n C.1.1 0 rfl rfl dX5_line_191 ?_
  refine v_chk (fun h7 => ?_)
  refine v_callVH C.1 [] [] (ctX5_next t G l hl0 p0 u4) (fun _ _ => cwX5_next C.1 q890 (by decide)) (recO C.1 (ci := 4) (eq_of_beq h7) (by decide) rfl) rfl rfl (by exact Nat.le_of_ble_eq_true rfl) dX5_line_192 (fun _ u6 => ?_)
  exact v_xvret C.1 dX5_line_195
def hX5_line_160 (p0 : Nat) (s0 : Nat) (s1 : Int32) (u : HS) : Option (OH (PX Unit)) :=
  mchk (hC u s0 == 5) <|
  hx (hX5_want s0 s1 5 u) fun _ u1 =>
  mchk (hC u1 p0 == 5) <|
  hb (hX5_next p0 u1) fun _ u3 =>
  mchk (hC u3 p0 == 5) <|
  mderef (hR u3 p0 1) fun a6 =>
  mchk (hC u3 p0 == 5) <|
  hx (hX5_expr 8 p0 0 u3) fun r9 u8 =>
  mchk (hC u8 a6 == 2) <|
  mlet (uR u8 a6 8 (some r9)) fun u12 =>
  hX5_line_180 p0 u12
theorem whX5_line_160 {K1 K2 : Nat} {p : Program} {e : Env} {s : State} {m : MethodId} {args : Array Value} {below : List Frame} {meth : Method} {c : Code} (hl0 : l.stackTraces = false) (C : CxX t G l p s m args meth c yX5_line cX5_line 1 none) (p0 : Nat) (s0 : Nat) (s1 : Int32) (u : HS) : VX mkU t G p l e 200 K1 K2 s m args below meth c 1 160 [(0, .ref p0)] [.int s1, .ref s0] u (hX5_line_160 p0 s0 s1 u) := by
  unfold hX5_line_160
  refine v_iconst C.1.1 5 (by decide) dX5_line_160 ?_
  refine v_chk (fun h2 => ?_)
  refine v_callVX C [.int s1, .int 5] [] (ctX5_want t G l hl0 s0 s1 5 u) (fun _ _ => cwX5_want C.1 q1008 (by decide)) (recO C.1 (ci := 4) (eq_of_beq h2) (by decide) rfl) rfl rfl (by exact Nat.le_of_ble_eq_true rfl) dX5_line_161 (fun _ u1 => ?_)
  refine v_aload_n C.1.1 0 rfl rfl dX5_line_164 ?_
  refine v_chk (fun h4 => ?_)
  refine v_callVH C.1 [] [] (ctX5_next t G l hl0 p0 u1) (fun _ _ => cwX5_next C.1 q890 (by decide)) (recO C.1 (ci := 4) (eq_of_beq h4) (by decide) rfl) rfl rfl (by exact Nat.le_of_ble_eq_true rfl) dX5_line_165 (fun _ u3 => ?_)
  refine v_aload_n C.1.1 0 rfl rfl dX5_line_168 ?_
  refine v_chk (fun h5 => ?_)
  refine v_hget C.1 (v := va_rf (hR u3 p0 1)) 4 1 (eq_of_beq h5) (by decide) rfl in_X5 (by decide) (Or.inl q848) (fun _ h => h) (hF_r (ci := 4) (eq_of_beq h5) (by decide)) dX5_line_169 ?_
  refine v_deref (fun a6 e7 => ?_)
  refine v_aload_n C.1.1 0 rfl rfl dX5_line_172 ?_
  refine v_iconst C.1.1 0 (by decide) dX5_line_173 ?_
  refine v_chk (fun h10 => ?_)
  refine v_callVX C [.int 0] [.ref a6] ((exprC t G l hl0 8).2 p0 0 u3) (fun _ _ => cwX5_expression C.1 q1121 (by exact Nat.le_of_ble_eq_true rfl)) (recO C.1 (ci := 4) (eq_of_beq h10) (by decide) rfl) rfl rfl (by exact Nat.le_of_ble_eq_true rfl) dX5_line_174 (fun r9 u8 => ?_)
  refine v_chk (fun h11 => ?_)
  refine v_hputRN C.1 (some r9) 1 8 (eq_of_beq h11) (by decide) rfl in_X2 tyX2 tyX2_ok nmX2 (by decide) (by decide) q226 (fun _ h => h) (Or.inl rfl) rfl rfl rfl dX5_line_177 (fun u12 => ?_)
  exact whX5_line_180 hl0 C p0 u12
def hX5_line_119 (p0 : Nat) (u : HS) : Option (OH (PX Unit)) :=
  mlet (hK u 13) fun a1 =>
  mchk (hC u p0 == 5) <|
  hb (hX5_is p0 a1 u) fun r5 u4 =>
  mchk (hC u4 p0 == 5) <|
  hx (hX5_bond p0 r5 u4) fun _ u7 =>
  hX5_line_180 p0 u7
theorem whX5_line_119 {K1 K2 : Nat} {p : Program} {e : Env} {s : State} {m : MethodId} {args : Array Value} {below : List Frame} {meth : Method} {c : Code} (hl0 : l.stackTraces = false) (C : CxX t G l p s m args meth c yX5_line cX5_line 1 none) (p0 : Nat) (u : HS) : VX mkU t G p l e 200 K1 K2 s m args below meth c 1 119 [(0, .ref p0)] [] u (hX5_line_119 p0 u) := by
  unfold hX5_line_119
  refine v_aload_n C.1.1 0 rfl rfl dX5_line_119 ?_
  refine v_aload_n C.1.1 0 rfl rfl dX5_line_120 ?_
  refine v_K (fun ek3 _ => ?_)
  refine v_letE (fun a1 e2 => ?_)
  refine v_hldc (q := a1) C.1 rfl 3 (by decide) rfl (by rw [e2, ek3]) dX5_line_121 ?_
  refine v_chk (fun h6 => ?_)
  refine v_callVH C.1 [.ref a1] [.ref p0] (ctX5_is t G l hl0 p0 a1 u) (fun _ _ => cwX5_is C.1 q984 (by decide)) (recO C.1 (ci := 4) (eq_of_beq h6) (by decide) rfl) rfl rfl (by exact Nat.le_of_ble_eq_true rfl) dX5_line_123 (fun r5 u4 => ?_)
  refine v_chk (fun h8 => ?_)
  refine v_callVX C [.int r5] [] (ctX5_bond t G l hl0 p0 r5 u4) (fun _ _ => cwX5_bond C.1 q1113 (by decide)) (recO C.1 (ci := 4) (eq_of_beq h8) (by decide) rfl) rfl rfl (by exact Nat.le_of_ble_eq_true rfl) dX5_line_126 (fun _ u7 => ?_)
  refine v_goto C.1.1 180 (by decide) dX5_line_129 ?_
  exact whX5_line_180 hl0 C p0 u7
def hX5_line_37 (p0 : Nat) (u : HS) : Option (OH (PX Unit)) :=
  mlet (hK u 24) fun a1 =>
  mchk (hC u p0 == 5) <|
  hb (hX5_is p0 a1 u) fun r5 u4 =>
  mchk (hC u4 p0 == 5) <|
  hx (hX5_place p0 r5 u4) fun _ u7 =>
  hX5_line_180 p0 u7
theorem whX5_line_37 {K1 K2 : Nat} {p : Program} {e : Env} {s : State} {m : MethodId} {args : Array Value} {below : List Frame} {meth : Method} {c : Code} (hl0 : l.stackTraces = false) (C : CxX t G l p s m args meth c yX5_line cX5_line 1 none) (p0 : Nat) (u : HS) : VX mkU t G p l e 200 K1 K2 s m args below meth c 1 37 [(0, .ref p0)] [] u (hX5_line_37 p0 u) := by
  unfold hX5_line_37
  refine v_aload_n C.1.1 0 rfl rfl dX5_line_37 ?_
  refine v_aload_n C.1.1 0 rfl rfl dX5_line_38 ?_
  refine v_K (fun ek3 _ => ?_)
  refine v_letE (fun a1 e2 => ?_)
  refine v_hldcw (q := a1) C.1 rfl 14 (by decide) rfl (by rw [e2, ek3]) dX5_line_39 ?_
  refine v_chk (fun h6 => ?_)
  refine v_callVH C.1 [.ref a1] [.ref p0] (ctX5_is t G l hl0 p0 a1 u) (fun _ _ => cwX5_is C.1 q984 (by decide)) (recO C.1 (ci := 4) (eq_of_beq h6) (by decide) rfl) rfl rfl (by exact Nat.le_of_ble_eq_true rfl) dX5_line_42 (fun r5 u4 => ?_)
  refine v_chk (fun h8 => ?_)
  refine v_callVX C [.int r5] [] (ctX5_place t G l hl0 p0 r5 u4) (fun _ _ => cwX5_place C.1 q1050 (by decide)) (recO C.1 (ci := 4) (eq_of_beq h8) (by decide) rfl) rfl rfl (by exact Nat.le_of_ble_eq_true rfl) dX5_line_45 (fun _ u7 => ?_)
  refine v_goto C.1.1 180 (by decide) dX5_line_48 ?_
  exact whX5_line_180 hl0 C p0 u7
def hX5_line (p0 : Nat) (u : HS) : Option (OH (PX Unit)) :=
  mlet (hK u 22) fun a1 =>
  mchk (hC u p0 == 5) <|
  hb (hX5_is p0 a1 u) fun r5 u4 =>
  if r5 = 0 then
    mlet (hK u4 23) fun a7 =>
    mchk (hC u4 p0 == 5) <|
    hb (hX5_is p0 a7 u4) fun r11 u10 =>
    if r11 = 0 then
      mlet (hK u10 24) fun a13 =>
      mchk (hC u10 p0 == 5) <|
      hb (hX5_is p0 a13 u10) fun r17 u16 =>
      if r17 = 0 then
        mlet (hK u16 25) fun a19 =>
        mchk (hC u16 p0 == 5) <|
        hb (hX5_is p0 a19 u16) fun r23 u22 =>
        if r23 = 0 then
          mlet (hK u22 26) fun a25 =>
          mchk (hC u22 p0 == 5) <|
          hb (hX5_is p0 a25 u22) fun r29 u28 =>
          if r29 = 0 then
            mlet (hK u28 14) fun a31 =>
            mchk (hC u28 p0 == 5) <|
            hb (hX5_is p0 a31 u28) fun r35 u34 =>
            if r35 = 0 then
              mlet (hK u34 13) fun a37 =>
              mchk (hC u34 p0 == 5) <|
              hb (hX5_is p0 a37 u34) fun r41 u40 =>
              if r41 = 0 then
                mlet (hK u40 12) fun a43 =>
                mchk (hC u40 p0 == 5) <|
                hb (hX5_is p0 a43 u40) fun r47 u46 =>
                if r47 = 0 then
                  mlet (hK u46 27) fun a49 =>
                  mchk (hC u46 p0 == 5) <|
                  hb (hX5_is p0 a49 u46) fun r53 u52 =>
                  mchk (hC u52 p0 == 5) <|
                  hx (hX5_want p0 r53 1 u52) fun _ u55 =>
                  mchk (hC u55 p0 == 5) <|
                  mderef (hR u55 p0 1) fun a58 =>
                  mchk (hC u55 a58 == 2) <|
                  mnull (hR u55 a58 8) (
                      hX5_line_160 p0 p0 1 u55
                    ) fun a61 =>
                    hX5_line_160 p0 p0 0 u55
                else
                  hX5_line_119 p0 u46
              else
                hX5_line_119 p0 u40
            else
              mchk (hC u34 p0 == 5) <|
              hx (hX5_kin p0 u34) fun _ u37 =>
              hX5_line_180 p0 u37
          else
            mchk (hC u28 p0 == 5) <|
            hx (hX5_person p0 u28) fun _ u31 =>
            hX5_line_180 p0 u31
        else
          mchk (hC u22 p0 == 5) <|
          hx (hX5_way p0 u22) fun _ u25 =>
          hX5_line_180 p0 u25
      else
        hX5_line_37 p0 u16
    else
      hX5_line_37 p0 u10
  else
    mchk (hC u4 p0 == 5) <|
    hx (hX5_master p0 u4) fun _ u7 =>
    hX5_line_180 p0 u7
theorem ctX5_line (t : TT) (G : GH) (l : Launch) (hl0 : l.stackTraces = false) (p0 : Nat) (u : HS) : CtX mkU t G l yX5_line cX5_line 1 none 200 [.ref p0] u (hX5_line p0 u) := by
  refine ctX_of [(0, .ref p0)] hl0 rfl (Nat.le_of_ble_eq_true rfl) rfl (fun K1 K2 p e s m args below meth c C => ?_)
  unfold hX5_line
  refine v_aload_n C.1.1 0 rfl rfl dX5_line_0 ?_
  refine v_K (fun ek3 _ => ?_)
  refine v_letE (fun a1 e2 => ?_)
  refine v_hldcw (q := a1) C.1 rfl 12 (by decide) rfl (by rw [e2, ek3]) dX5_line_1 ?_
  refine v_chk (fun h6 => ?_)
  refine v_callVH C.1 [.ref a1] [] (ctX5_is t G l hl0 p0 a1 u) (fun _ _ => cwX5_is C.1 q984 (by decide)) (recO C.1 (ci := 4) (eq_of_beq h6) (by decide) rfl) rfl rfl (by exact Nat.le_of_ble_eq_true rfl) dX5_line_4 (fun r5 u4 => ?_)
  refine v_if_eq C.1.1 17 (by decide) dX5_line_7 (fun _ => ?_) (fun _ => ?_)
  · refine v_aload_n C.1.1 0 rfl rfl dX5_line_17 ?_
    refine v_K (fun ek9 _ => ?_)
    refine v_letE (fun a7 e8 => ?_)
    refine v_hldcw (q := a7) C.1 rfl 13 (by decide) rfl (by rw [e8, ek9]) dX5_line_18 ?_
    refine v_chk (fun h12 => ?_)
    refine v_callVH C.1 [.ref a7] [] (ctX5_is t G l hl0 p0 a7 u4) (fun _ _ => cwX5_is C.1 q984 (by decide)) (recO C.1 (ci := 4) (eq_of_beq h12) (by decide) rfl) rfl rfl (by exact Nat.le_of_ble_eq_true rfl) dX5_line_21 (fun r11 u10 => ?_)
    refine v_if_ne C.1.1 37 (by decide) dX5_line_24 (fun _ => ?_) (fun _ => ?_)
    · refine v_aload_n C.1.1 0 rfl rfl dX5_line_27 ?_
      refine v_K (fun ek15 _ => ?_)
      refine v_letE (fun a13 e14 => ?_)
      refine v_hldcw (q := a13) C.1 rfl 14 (by decide) rfl (by rw [e14, ek15]) dX5_line_28 ?_
      refine v_chk (fun h18 => ?_)
      refine v_callVH C.1 [.ref a13] [] (ctX5_is t G l hl0 p0 a13 u10) (fun _ _ => cwX5_is C.1 q984 (by decide)) (recO C.1 (ci := 4) (eq_of_beq h18) (by decide) rfl) rfl rfl (by exact Nat.le_of_ble_eq_true rfl) dX5_line_31 (fun r17 u16 => ?_)
      refine v_if_eq C.1.1 51 (by decide) dX5_line_34 (fun _ => ?_) (fun _ => ?_)
      · refine v_aload_n C.1.1 0 rfl rfl dX5_line_51 ?_
        refine v_K (fun ek21 _ => ?_)
        refine v_letE (fun a19 e20 => ?_)
        refine v_hldcw (q := a19) C.1 rfl 15 (by decide) rfl (by rw [e20, ek21]) dX5_line_52 ?_
        refine v_chk (fun h24 => ?_)
        refine v_callVH C.1 [.ref a19] [] (ctX5_is t G l hl0 p0 a19 u16) (fun _ _ => cwX5_is C.1 q984 (by decide)) (recO C.1 (ci := 4) (eq_of_beq h24) (by decide) rfl) rfl rfl (by exact Nat.le_of_ble_eq_true rfl) dX5_line_55 (fun r23 u22 => ?_)
        refine v_if_eq C.1.1 68 (by decide) dX5_line_58 (fun _ => ?_) (fun _ => ?_)
        · refine v_aload_n C.1.1 0 rfl rfl dX5_line_68 ?_
          refine v_K (fun ek27 _ => ?_)
          refine v_letE (fun a25 e26 => ?_)
          refine v_hldcw (q := a25) C.1 rfl 16 (by decide) rfl (by rw [e26, ek27]) dX5_line_69 ?_
          refine v_chk (fun h30 => ?_)
          refine v_callVH C.1 [.ref a25] [] (ctX5_is t G l hl0 p0 a25 u22) (fun _ _ => cwX5_is C.1 q984 (by decide)) (recO C.1 (ci := 4) (eq_of_beq h30) (by decide) rfl) rfl rfl (by exact Nat.le_of_ble_eq_true rfl) dX5_line_72 (fun r29 u28 => ?_)
          refine v_if_eq C.1.1 85 (by decide) dX5_line_75 (fun _ => ?_) (fun _ => ?_)
          · refine v_aload_n C.1.1 0 rfl rfl dX5_line_85 ?_
            refine v_K (fun ek33 _ => ?_)
            refine v_letE (fun a31 e32 => ?_)
            refine v_hldc (q := a31) C.1 rfl 4 (by decide) rfl (by rw [e32, ek33]) dX5_line_86 ?_
            refine v_chk (fun h36 => ?_)
            refine v_callVH C.1 [.ref a31] [] (ctX5_is t G l hl0 p0 a31 u28) (fun _ _ => cwX5_is C.1 q984 (by decide)) (recO C.1 (ci := 4) (eq_of_beq h36) (by decide) rfl) rfl rfl (by exact Nat.le_of_ble_eq_true rfl) dX5_line_88 (fun r35 u34 => ?_)
            refine v_if_eq C.1.1 101 (by decide) dX5_line_91 (fun _ => ?_) (fun _ => ?_)
            · refine v_aload_n C.1.1 0 rfl rfl dX5_line_101 ?_
              refine v_K (fun ek39 _ => ?_)
              refine v_letE (fun a37 e38 => ?_)
              refine v_hldc (q := a37) C.1 rfl 3 (by decide) rfl (by rw [e38, ek39]) dX5_line_102 ?_
              refine v_chk (fun h42 => ?_)
              refine v_callVH C.1 [.ref a37] [] (ctX5_is t G l hl0 p0 a37 u34) (fun _ _ => cwX5_is C.1 q984 (by decide)) (recO C.1 (ci := 4) (eq_of_beq h42) (by decide) rfl) rfl rfl (by exact Nat.le_of_ble_eq_true rfl) dX5_line_104 (fun r41 u40 => ?_)
              refine v_if_ne C.1.1 119 (by decide) dX5_line_107 (fun _ => ?_) (fun _ => ?_)
              · refine v_aload_n C.1.1 0 rfl rfl dX5_line_110 ?_
                refine v_K (fun ek45 _ => ?_)
                refine v_letE (fun a43 e44 => ?_)
                refine v_hldc (q := a43) C.1 rfl 2 (by decide) rfl (by rw [e44, ek45]) dX5_line_111 ?_
                refine v_chk (fun h48 => ?_)
                refine v_callVH C.1 [.ref a43] [] (ctX5_is t G l hl0 p0 a43 u40) (fun _ _ => cwX5_is C.1 q984 (by decide)) (recO C.1 (ci := 4) (eq_of_beq h48) (by decide) rfl) rfl rfl (by exact Nat.le_of_ble_eq_true rfl) dX5_line_113 (fun r47 u46 => ?_)
                refine v_if_eq C.1.1 132 (by decide) dX5_line_116 (fun _ => ?_) (fun _ => ?_)
                · refine v_aload_n C.1.1 0 rfl rfl dX5_line_132 ?_
                  refine v_aload_n C.1.1 0 rfl rfl dX5_line_133 ?_
                  refine v_K (fun ek51 _ => ?_)
                  refine v_letE (fun a49 e50 => ?_)
                  refine v_hldcw (q := a49) C.1 rfl 17 (by decide) rfl (by rw [e50, ek51]) dX5_line_134 ?_
                  refine v_chk (fun h54 => ?_)
                  refine v_callVH C.1 [.ref a49] [.ref p0] (ctX5_is t G l hl0 p0 a49 u46) (fun _ _ => cwX5_is C.1 q984 (by decide)) (recO C.1 (ci := 4) (eq_of_beq h54) (by decide) rfl) rfl rfl (by exact Nat.le_of_ble_eq_true rfl) dX5_line_137 (fun r53 u52 => ?_)
                  refine v_iconst C.1.1 1 (by decide) dX5_line_140 ?_
                  refine v_chk (fun h56 => ?_)
                  refine v_callVX C [.int r53, .int 1] [] (ctX5_want t G l hl0 p0 r53 1 u52) (fun _ _ => cwX5_want C.1 q1008 (by decide)) (recO C.1 (ci := 4) (eq_of_beq h56) (by decide) rfl) rfl rfl (by exact Nat.le_of_ble_eq_true rfl) dX5_line_141 (fun _ u55 => ?_)
                  refine v_aload_n C.1.1 0 rfl rfl dX5_line_144 ?_
                  refine v_aload_n C.1.1 0 rfl rfl dX5_line_145 ?_
                  refine v_chk (fun h57 => ?_)
                  refine v_hget C.1 (v := va_rf (hR u55 p0 1)) 4 1 (eq_of_beq h57) (by decide) rfl in_X5 (by decide) (Or.inl q848) (fun _ h => h) (hF_r (ci := 4) (eq_of_beq h57) (by decide)) dX5_line_146 ?_
                  refine v_deref (fun a58 e59 => ?_)
                  refine v_chk (fun h60 => ?_)
                  refine v_hget C.1 (v := va_rf (hR u55 a58 8)) 1 8 (eq_of_beq h60) (by decide) rfl in_X2 (by decide) (Or.inr ⟨_, q226⟩) (fun _ h => h) (hF_r (ci := 1) (eq_of_beq h60) (by decide)) dX5_line_149 ?_
                  refine v_ifnonnull C.1 159 (by decide) dX5_line_152 (fun e62 => ?_) (fun a61 e62 => ?_)
                  · refine v_iconst C.1.1 1 (by decide) dX5_line_155 ?_
                    refine v_goto C.1.1 160 (by decide) dX5_line_156 ?_
                    exact whX5_line_160 hl0 C p0 p0 1 u55
                  · refine v_iconst C.1.1 0 (by decide) dX5_line_159 ?_
                    exact whX5_line_160 hl0 C p0 p0 0 u55
                · exact whX5_line_119 hl0 C p0 u46
              · exact whX5_line_119 hl0 C p0 u40
            · refine v_aload_n C.1.1 0 rfl rfl dX5_line_94 ?_
              refine v_chk (fun h38 => ?_)
              refine v_callVX C [] [] (ctX5_kin t G l hl0 p0 u34) (fun _ _ => cwX5_kin C.1 q1108 (by decide)) (recO C.1 (ci := 4) (eq_of_beq h38) (by decide) rfl) rfl rfl (by exact Nat.le_of_ble_eq_true rfl) dX5_line_95 (fun _ u37 => ?_)
              refine v_goto C.1.1 180 (by decide) dX5_line_98 ?_
              exact whX5_line_180 hl0 C p0 u37
          · refine v_aload_n C.1.1 0 rfl rfl dX5_line_78 ?_
            refine v_chk (fun h32 => ?_)
            refine v_callVX C [] [] (ctX5_person t G l hl0 p0 u28) (fun _ _ => cwX5_person C.1 q1103 (by decide)) (recO C.1 (ci := 4) (eq_of_beq h32) (by decide) rfl) rfl rfl (by exact Nat.le_of_ble_eq_true rfl) dX5_line_79 (fun _ u31 => ?_)
            refine v_goto C.1.1 180 (by decide) dX5_line_82 ?_
            exact whX5_line_180 hl0 C p0 u31
        · refine v_aload_n C.1.1 0 rfl rfl dX5_line_61 ?_
          refine v_chk (fun h26 => ?_)
          refine v_callVX C [] [] (ctX5_way t G l hl0 p0 u22) (fun _ _ => cwX5_way C.1 q1058 (by decide)) (recO C.1 (ci := 4) (eq_of_beq h26) (by decide) rfl) rfl rfl (by exact Nat.le_of_ble_eq_true rfl) dX5_line_62 (fun _ u25 => ?_)
          refine v_goto C.1.1 180 (by decide) dX5_line_65 ?_
          exact whX5_line_180 hl0 C p0 u25
      · exact whX5_line_37 hl0 C p0 u16
    · exact whX5_line_37 hl0 C p0 u10
  · refine v_aload_n C.1.1 0 rfl rfl dX5_line_10 ?_
    refine v_chk (fun h8 => ?_)
    refine v_callVX C [] [] (ctX5_master t G l hl0 p0 u4) (fun _ _ => cwX5_master C.1 q1004 (by decide)) (recO C.1 (ci := 4) (eq_of_beq h8) (by decide) rfl) rfl rfl (by exact Nat.le_of_ble_eq_true rfl) dX5_line_11 (fun _ u7 => ?_)
    refine v_goto C.1.1 180 (by decide) dX5_line_14 ?_
    exact whX5_line_180 hl0 C p0 u7
theorem cwX5_line {t : TT} {G : GH} {l : Launch} {p : Program} {s : State} {m : MethodId} {args : Array Value} {meth : Method} {c : Code} {y0 : MethodName} {cc0 : ByteArray} {nL0 : Nat} {ret0 : Option FieldType} (C : CxH t G l p s m args meth c y0 cc0 nL0 ret0) {index lv mc ms K1 K2 : Nat} (hq : Cond.methodLink y0.cls index yX5_line ∈ lw_all) (hR : 200 + 1 ≤ lv) : CallW (rmH lv K1 K2) s args y0.cls RX5 index yX5_line cX5_line 1 none (ws_ yX5_line cX5_line 1 none) (rmH 200 mc ms) mc ms 0 :=
  cwV 0 C.1.2.2.2.2.1 (lw_V hq q981 qs16 q132 q982) rfl rfl rfl (by decide +kernel) ⟨hR, by show 8 + (1 + 11) + 100 * 200 ≤ 100 * lv; omega⟩
end
