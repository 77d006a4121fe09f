/-! walks in mode H, printed by tools/genh.py -/
set_option maxRecDepth 100000
section
variable {t : TT} {G : GH} {l : Launch}
theorem xw_IAE : ∀ w ∈ vx_at0 RX1 9 "java/lang/IllegalArgumentException" exChain, w ∈ lw_tbl ∧ (goodWord w || nestWord w) = true := by decide +kernel
theorem xw_NSE : ∀ w ∈ vx_at0 RX1 3 "java/util/NoSuchElementException" exChain, w ∈ lw_tbl ∧ (goodWord w || nestWord w) = true := by decide +kernel
def hJ0_init (p0 : Nat) (u : HS) : Option (OH Unit) :=
  hret () u
theorem ctJ0_init (t : TT) (G : GH) (l : Launch) (hl0 : l.stackTraces = false) (p0 : Nat) (u : HS) : CtH mkU t G l yJ0_init cJ0_init 1 none 2 [.ref p0] u (hJ0_init p0 u) := by
  refine ctH_of [(0, .ref p0)] hl0 rfl (Nat.le_of_ble_eq_true rfl) rfl (fun K1 K2 p e s m args below meth c C => ?_)
  unfold hJ0_init
  refine v_aload_n C.1 0 rfl rfl dJ0_init_0 ?_
  refine v_objInit C q180 q161 q162 (by exact Nat.le_of_ble_eq_true rfl) (by exact Nat.le_of_ble_eq_true rfl) dJ0_init_1 ?_
  exact v_hvret C dJ0_init_4
theorem cwJ0_init {t : TT} {G : GH} {l : Launch} {p : Program} {s : State} {m : MethodId} {args : Array Value} {meth : Method} {c : Code} {y0 : MethodName} {cc0 : ByteArray} {nL0 : Nat} {ret0 : Option FieldType} (C : CxH t G l p s m args meth c y0 cc0 nL0 ret0) {index lv mc ms K1 K2 : Nat} (hq : Cond.methodLink y0.cls index yJ0_init ∈ lw_all) (hR : 2 + 1 ≤ lv) : CallB (rmH lv K1 K2) s args y0.cls index yJ0_init cJ0_init 1 none (ws_ yJ0_init cJ0_init 1 none) (rmH 2 mc ms) mc ms 0 ∧ yJ0_init.name = "<init>" ∧ (Cond.instanceMethod yJ0_init).before args s = true :=
  cwI 0 C.1.2.2.2.2.1 (lw_meth q179) rfl rfl rfl (C.1.2.2.2.2.1 _ q123) (C.1.2.2.2.2.1 _ hq) (C.1.2.2.2.2.1 _ q178) rfl (by decide +kernel) ⟨hR, by show 8 + (1 + 11) + 100 * 2 ≤ 100 * lv; omega⟩
def hJ1_init (p0 : Nat) (u : HS) : Option (OH Unit) :=
  hb (hJ0_init p0 u) fun _ u1 =>
  mchk (hC u1 p0 == 12) <|
  mlet (uI u1 p0 0 0) fun u3 =>
  hret () u3
theorem ctJ1_init (t : TT) (G : GH) (l : Launch) (hl0 : l.stackTraces = false) (p0 : Nat) (u : HS) : CtH mkU t G l yJ1_init cJ1_init 1 none 3 [.ref p0] u (hJ1_init p0 u) := by
  refine ctH_of [(0, .ref p0)] hl0 rfl (Nat.le_of_ble_eq_true rfl) rfl (fun K1 K2 p e s m args below meth c C => ?_)
  unfold hJ1_init
  refine v_aload_n C.1 0 rfl rfl dJ1_init_0 ?_
  refine v_callIH C [] [] (ctJ0_init t G l hl0 p0 u) (fun _ _ => cwJ0_init C q177 (by decide)) rfl rfl (by exact Nat.le_of_ble_eq_true rfl) dJ1_init_1 (fun _ u1 => ?_)
  refine v_aload_n C.1 0 rfl rfl dJ1_init_4 ?_
  refine v_iconst C.1 0 (by decide) dJ1_init_5 ?_
  refine v_chk (fun h2 => ?_)
  refine v_hputI C 11 0 (eq_of_beq h2) (by decide) rfl in_J2 tyJ2 tyJ2_ok nmJ2 (by decide) (by decide) q185 (fun _ h => h) (Or.inl rfl) ⟨rfl, rfl⟩ dJ1_init_6 (fun u3 => ?_)
  exact v_hvret C dJ1_init_9
theorem cwJ1_init {t : TT} {G : GH} {l : Launch} {p : Program} {s : State} {m : MethodId} {args : Array Value} {meth : Method} {c : Code} {y0 : MethodName} {cc0 : ByteArray} {nL0 : Nat} {ret0 : Option FieldType} (C : CxH t G l p s m args meth c y0 cc0 nL0 ret0) {index lv mc ms K1 K2 : Nat} (hq : Cond.methodLink y0.cls index yJ1_init ∈ lw_all) (hR : 3 + 1 ≤ lv) : CallB (rmH lv K1 K2) s args y0.cls index yJ1_init cJ1_init 1 none (ws_ yJ1_init cJ1_init 1 none) (rmH 3 mc ms) mc ms 0 ∧ yJ1_init.name = "<init>" ∧ (Cond.instanceMethod yJ1_init).before args s = true :=
  cwI 0 C.1.2.2.2.2.1 (lw_meth q176) rfl rfl rfl (C.1.2.2.2.2.1 _ q124) (C.1.2.2.2.2.1 _ hq) (C.1.2.2.2.2.1 _ q175) rfl (by decide +kernel) ⟨hR, by show 8 + (1 + 11) + 100 * 3 ≤ 100 * lv; omega⟩
def hJ2_init (p0 : Nat) (u : HS) : Option (OH Unit) :=
  hb (hJ1_init p0 u) fun _ u1 =>
  mlet (hK u1 0) fun a2 =>
  mchk (hC u1 p0 == 12) <|
  mlet (uR u1 p0 1 (some a2)) fun u6 =>
  hret () u6
theorem ctJ2_init (t : TT) (G : GH) (l : Launch) (hl0 : l.stackTraces = false) (p0 : Nat) (u : HS) : CtH mkU t G l yJ2_init cJ2_init 1 none 4 [.ref p0] u (hJ2_init p0 u) := by
  refine ctH_of [(0, .ref p0)] hl0 rfl (Nat.le_of_ble_eq_true rfl) rfl (fun K1 K2 p e s m args below meth c C => ?_)
  unfold hJ2_init
  refine v_aload_n C.1 0 rfl rfl dJ2_init_0 ?_
  refine v_callIH C [] [] (ctJ1_init t G l hl0 p0 u) (fun _ _ => cwJ1_init C q174 (by decide)) rfl rfl (by exact Nat.le_of_ble_eq_true rfl) dJ2_init_1 (fun _ u1 => ?_)
  refine v_aload_n C.1 0 rfl rfl dJ2_init_4 ?_
  refine v_K (fun ek4 _ => ?_)
  refine v_letE (fun a2 e3 => ?_)
  refine v_gets C (v := .ref a2) (by rw [e3, ek4]; exact C.2.1.dflt) q181 (fun _ h => h) dJ2_init_5 ?_
  refine v_chk (fun h5 => ?_)
  refine v_hputR C (some a2) 11 1 (eq_of_beq h5) (by decide) rfl in_J2 tyJ2 tyJ2_ok nmJ2 (by decide) (by decide) q183 (fun _ h => h) (Or.inl rfl) rfl rfl dJ2_init_8 (fun u6 => ?_)
  exact v_hvret C dJ2_init_11
theorem cwJ2_init {t : TT} {G : GH} {l : Launch} {p : Program} {s : State} {m : MethodId} {args : Array Value} {meth : Method} {c : Code} {y0 : MethodName} {cc0 : ByteArray} {nL0 : Nat} {ret0 : Option FieldType} (C : CxH t G l p s m args meth c y0 cc0 nL0 ret0) {index lv mc ms K1 K2 : Nat} (hq : Cond.methodLink y0.cls index yJ2_init ∈ lw_all) (hR : 4 + 1 ≤ lv) : CallB (rmH lv K1 K2) s args y0.cls index yJ2_init cJ2_init 1 none (ws_ yJ2_init cJ2_init 1 none) (rmH 4 mc ms) mc ms 0 ∧ yJ2_init.name = "<init>" ∧ (Cond.instanceMethod yJ2_init).before args s = true :=
  cwI 0 C.1.2.2.2.2.1 (lw_meth q173) rfl rfl rfl (C.1.2.2.2.2.1 _ q125) (C.1.2.2.2.2.1 _ hq) (C.1.2.2.2.2.1 _ q172) rfl (by decide +kernel) ⟨hR, by show 8 + (1 + 11) + 100 * 4 ≤ 100 * lv; omega⟩
def hX2_init (p0 : Nat) (u : HS) : Option (OH Unit) :=
  mlet (hZ u) fun a1 =>
  addc 1 (cN 11) <|
  mlet (nO u 11) fun u3 =>
  hb (hJ2_init a1 u3) fun _ u4 =>
  mchk (hC u4 p0 == 2) <|
  mlet (uR u4 p0 0 (some a1)) fun u6 =>
  mlet (hZ u6) fun a7 =>
  addc 1 (cN 11) <|
  mlet (nO u6 11) fun u9 =>
  hb (hJ2_init a7 u9) fun _ u10 =>
  mchk (hC u10 p0 == 2) <|
  mlet (uR u10 p0 1 (some a7)) fun u12 =>
  mlet (hZ u12) fun a13 =>
  addc 1 (cN 11) <|
  mlet (nO u12 11) fun u15 =>
  hb (hJ2_init a13 u15) fun _ u16 =>
  mchk (hC u16 p0 == 2) <|
  mlet (uR u16 p0 2 (some a13)) fun u18 =>
  mlet (hZ u18) fun a19 =>
  addc 1 (9) <|
  mlet (nA u18 1 (9)) fun u21 =>
  mchk (hC u21 p0 == 2) <|
  mlet (uR u21 p0 3 (some a19)) fun u23 =>
  mlet (hZ u23) fun a24 =>
  addc 1 (3) <|
  mlet (nA u23 1 (3)) fun u26 =>
  mchk (hC u26 p0 == 2) <|
  mlet (uR u26 p0 4 (some a24)) fun u28 =>
  mlet (hZ u28) fun a29 =>
  addc 1 (3) <|
  mlet (nA u28 1 (3)) fun u31 =>
  mchk (hC u31 p0 == 2) <|
  mlet (uR u31 p0 5 (some a29)) fun u33 =>
  mlet (hZ u33) fun a34 =>
  addc 1 (cN 11) <|
  mlet (nO u33 11) fun u36 =>
  hb (hJ2_init a34 u36) fun _ u37 =>
  mchk (hC u37 p0 == 2) <|
  mlet (uR u37 p0 6 (some a34)) fun u39 =>
  hret () u39
theorem ctX2_init (t : TT) (G : GH) (l : Launch) (hl0 : l.stackTraces = false) (p0 : Nat) (u : HS) : CtH mkU t G l yX2_init cX2_init 1 none 5 [.ref p0] u (hX2_init p0 u) := by
  refine ctH_of [(0, .ref p0)] hl0 rfl (Nat.le_of_ble_eq_true rfl) rfl (fun K1 K2 p e s m args below meth c C => ?_)
  unfold hX2_init
  refine v_aload_n C.1 0 rfl rfl dX2_init_0 ?_
  refine v_objInit C q168 q161 q162 (by exact Nat.le_of_ble_eq_true rfl) (by exact Nat.le_of_ble_eq_true rfl) dX2_init_1 ?_
  refine v_aload_n C.1 0 rfl rfl dX2_init_4 ?_
  refine v_letE (fun a1 e2 => ?_)
  refine v_hnew C 11 e2 (by decide) (by decide) rfl in_J2 tyJ2 tyJ2_ok df_J2 q169 q170 q125 dX2_init_5 (fun u3 => ?_)
  refine v_dup C.1 rfl dX2_init_8 ?_
  refine v_callIH C [] [.ref a1, .ref p0] (ctJ2_init t G l hl0 a1 u3) (fun _ _ => cwJ2_init C q171 (by decide)) rfl rfl (by exact Nat.le_of_ble_eq_true rfl) dX2_init_9 (fun _ u4 => ?_)
  refine v_chk (fun h5 => ?_)
  refine v_hputR C (some a1) 1 0 (eq_of_beq h5) (by decide) rfl in_X2 tyX2 tyX2_ok nmX2 (by decide) (by decide) q196 (fun _ h => h) (Or.inr ⟨rfl, rfl, rfl⟩) rfl rfl dX2_init_12 (fun u6 => ?_)
  refine v_aload_n C.1 0 rfl rfl dX2_init_15 ?_
  refine v_letE (fun a7 e8 => ?_)
  refine v_hnew C 11 e8 (by decide) (by decide) rfl in_J2 tyJ2 tyJ2_ok df_J2 q169 q170 q125 dX2_init_16 (fun u9 => ?_)
  refine v_dup C.1 rfl dX2_init_19 ?_
  refine v_callIH C [] [.ref a7, .ref p0] (ctJ2_init t G l hl0 a7 u9) (fun _ _ => cwJ2_init C q171 (by decide)) rfl rfl (by exact Nat.le_of_ble_eq_true rfl) dX2_init_20 (fun _ u10 => ?_)
  refine v_chk (fun h11 => ?_)
  refine v_hputR C (some a7) 1 1 (eq_of_beq h11) (by decide) rfl in_X2 tyX2 tyX2_ok nmX2 (by decide) (by decide) q200 (fun _ h => h) (Or.inr ⟨rfl, rfl, rfl⟩) rfl rfl dX2_init_23 (fun u12 => ?_)
  refine v_aload_n C.1 0 rfl rfl dX2_init_26 ?_
  refine v_letE (fun a13 e14 => ?_)
  refine v_hnew C 11 e14 (by decide) (by decide) rfl in_J2 tyJ2 tyJ2_ok df_J2 q169 q170 q125 dX2_init_27 (fun u15 => ?_)
  refine v_dup C.1 rfl dX2_init_30 ?_
  refine v_callIH C [] [.ref a13, .ref p0] (ctJ2_init t G l hl0 a13 u15) (fun _ _ => cwJ2_init C q171 (by decide)) rfl rfl (by exact Nat.le_of_ble_eq_true rfl) dX2_init_31 (fun _ u16 => ?_)
  refine v_chk (fun h17 => ?_)
  refine v_hputR C (some a13) 1 2 (eq_of_beq h17) (by decide) rfl in_X2 tyX2 tyX2_ok nmX2 (by decide) (by decide) q204 (fun _ h => h) (Or.inr ⟨rfl, rfl, rfl⟩) rfl rfl dX2_init_34 (fun u18 => ?_)
  refine v_aload_n C.1 0 rfl rfl dX2_init_37 ?_
  refine v_bipush C.1 9 (by decide) dX2_init_38 ?_
  refine v_letE (fun a19 e20 => ?_)
  refine v_hnewa C 1 e20 (by decide) rfl q195 (by decide) (by decide) (by decide) dX2_init_40 (fun u21 => ?_)
  refine v_chk (fun h22 => ?_)
  refine v_hputR C (some a19) 1 3 (eq_of_beq h22) (by decide) rfl in_X2 tyX2 tyX2_ok nmX2 (by decide) (by decide) q207 (fun _ h => h) (Or.inr ⟨rfl, rfl, rfl⟩) rfl rfl dX2_init_42 (fun u23 => ?_)
  refine v_aload_n C.1 0 rfl rfl dX2_init_45 ?_
  refine v_iconst C.1 3 (by decide) dX2_init_46 ?_
  refine v_letE (fun a24 e25 => ?_)
  refine v_hnewa C 1 e25 (by decide) rfl q195 (by decide) (by decide) (by decide) dX2_init_47 (fun u26 => ?_)
  refine v_chk (fun h27 => ?_)
  refine v_hputR C (some a24) 1 4 (eq_of_beq h27) (by decide) rfl in_X2 tyX2 tyX2_ok nmX2 (by decide) (by decide) q211 (fun _ h => h) (Or.inr ⟨rfl, rfl, rfl⟩) rfl rfl dX2_init_49 (fun u28 => ?_)
  refine v_aload_n C.1 0 rfl rfl dX2_init_52 ?_
  refine v_iconst C.1 3 (by decide) dX2_init_53 ?_
  refine v_letE (fun a29 e30 => ?_)
  refine v_hnewa C 1 e30 (by decide) rfl q195 (by decide) (by decide) (by decide) dX2_init_54 (fun u31 => ?_)
  refine v_chk (fun h32 => ?_)
  refine v_hputR C (some a29) 1 5 (eq_of_beq h32) (by decide) rfl in_X2 tyX2 tyX2_ok nmX2 (by decide) (by decide) q215 (fun _ h => h) (Or.inr ⟨rfl, rfl, rfl⟩) rfl rfl dX2_init_56 (fun u33 => ?_)
  refine v_aload_n C.1 0 rfl rfl dX2_init_59 ?_
  refine v_letE (fun a34 e35 => ?_)
  refine v_hnew C 11 e35 (by decide) (by decide) rfl in_J2 tyJ2 tyJ2_ok df_J2 q169 q170 q125 dX2_init_60 (fun u36 => ?_)
  refine v_dup C.1 rfl dX2_init_63 ?_
  refine v_callIH C [] [.ref a34, .ref p0] (ctJ2_init t G l hl0 a34 u36) (fun _ _ => cwJ2_init C q171 (by decide)) rfl rfl (by exact Nat.le_of_ble_eq_true rfl) dX2_init_64 (fun _ u37 => ?_)
  refine v_chk (fun h38 => ?_)
  refine v_hputR C (some a34) 1 6 (eq_of_beq h38) (by decide) rfl in_X2 tyX2 tyX2_ok nmX2 (by decide) (by decide) q219 (fun _ h => h) (Or.inr ⟨rfl, rfl, rfl⟩) rfl rfl dX2_init_67 (fun u39 => ?_)
  exact v_hvret C dX2_init_70
theorem cwX2_initN {t : TT} {G : GH} {l : Launch} {p : Program} {s : State} {m : MethodId} {args : Array Value} {meth : Method} {c : Code} {y0 : MethodName} {cc0 : ByteArray} {nL0 : Nat} {ret0 : Option FieldType} (C : CxH t G l p s m args meth c y0 cc0 nL0 ret0) {index lv mc ms K1 K2 : Nat} {host : String} (hq : Cond.methodLinkNest y0.cls index yX2_init host ∈ lw_tbl) (hR : 5 + 1 ≤ lv) : va_CN (rmH lv K1 K2) s args y0.cls index yX2_init host cX2_init 1 none (ws_ yX2_init cX2_init 1 none) (rmH 5 mc ms) mc ms 0 ∧ yX2_init.name = "<init>" ∧ (Cond.instanceMethod yX2_init).before args s = true :=
  ⟨va_cnB 0 C.1.2.2.2.2.1 (lw_meth q167) rfl rfl rfl (C.1.2.2.2.2.2.2.2.2.2.1 _ hq rfl) (C.1.2.2.2.2.1 _ q122) (by decide +kernel) ⟨hR, by show 8 + (1 + 11) + 100 * 5 ≤ 100 * lv; omega⟩, ⟨rfl, C.1.2.2.2.2.1 _ q166⟩⟩
def hX3_init_65 (p0 : Nat) (p1 : Nat) (k : Int32 → HS → Option (OH Unit)) (x2 : Int32) (u : HS) : Option (OH Unit) :=
  if 9 ≤ x2 then
    hret () u
  else
    mchk (hC u p0 == 3) <|
    mderef (hR u p0 0) fun a2 =>
    mchk (inA u x2 a2 21) <|
    mlet (uA u a2 x2.toNatClampNeg (-1)) fun u4 =>
    mchk (hC u4 p0 == 3) <|
    mderef (hR u4 p0 1) fun a7 =>
    mchk (inA u4 x2 a7 21) <|
    mlet (uA u4 a7 x2.toNatClampNeg (-1)) fun u9 =>
    k (x2 + 1) u9
theorem whX3_init_65 {K1 K2 : Nat} {p : Program} {e : Env} {s : State} {m : MethodId} {args : Array Value} {below : List Frame} {meth : Method} {c : Code} (hl0 : l.stackTraces = false) (C : CxH t G l p s m args meth c yX3_init cX3_init 3 none) (p0 : Nat) (p1 : Nat) (n : Nat) (x2 : Int32) (u : HS) : VH mkU t G p l e 5 K1 K2 s m args below meth c 3 65 [(0, .ref p0), (2, .int x2)] [] u (ml1 (hX3_init_65 p0 p1) n x2 u) := by
  refine vl1 (L := fun x2 => [(0, .ref p0), (2, .int x2)]) (fun k hk x2 u => ?_) n x2 u
  unfold hX3_init_65
  refine v_iload_n C.1 1 rfl rfl dX3_init_65 ?_
  refine v_bipush C.1 9 (by decide) dX3_init_66 ?_
  refine v_icmp_ge C.1 91 (by decide) dX3_init_68 (fun _ => ?_) (fun _ => ?_)
  · exact v_hvret C dX3_init_91
  · refine v_aload_n C.1 0 rfl rfl dX3_init_71 ?_
    refine v_chk (fun h1 => ?_)
    refine v_hget C (v := va_rf (hR u p0 0)) 2 0 (eq_of_beq h1) (by decide) rfl in_X3 (by decide) (Or.inl q254) (fun _ h => h) (hF_r (ci := 2) (eq_of_beq h1) (by decide)) dX3_init_72 ?_
    refine v_deref (fun a2 e3 => ?_)
    refine v_iload_n C.1 1 rfl rfl dX3_init_75 ?_
    refine v_iconst C.1 (-1) (by decide) dX3_init_76 ?_
    refine v_chk (fun h5 => ?_)
    refine v_haiast C h5 dX3_init_77 (fun u4 => ?_)
    refine v_aload_n C.1 0 rfl rfl dX3_init_78 ?_
    refine v_chk (fun h6 => ?_)
    refine v_hget C (v := va_rf (hR u4 p0 1)) 2 1 (eq_of_beq h6) (by decide) rfl in_X3 (by decide) (Or.inl q256) (fun _ h => h) (hF_r (ci := 2) (eq_of_beq h6) (by decide)) dX3_init_79 ?_
    refine v_deref (fun a7 e8 => ?_)
    refine v_iload_n C.1 1 rfl rfl dX3_init_82 ?_
    refine v_iconst C.1 (-1) (by decide) dX3_init_83 ?_
    refine v_chk (fun h10 => ?_)
    refine v_haiast C h10 dX3_init_84 (fun u9 => ?_)
    refine v_iinc C.1 1 [(2, .int (x2 + 1)), (0, .ref p0)] 1 rfl (by decide) (by decide) rfl dX3_init_85 ?_
    refine v_goto C.1 65 (by decide) dX3_init_88 ?_
    refine v_sub [1, 0] rfl ?_
    exact hk (x2 + 1) u9
def hX3_init (p0 : Nat) (p1 : Nat) (u : HS) : Option (OH Unit) :=
  mchk (hC u p0 == 3) <|
  mlet (uR u p0 11 (some p1)) fun u2 =>
  mlet (hZ u2) fun a3 =>
  addc 1 (9) <|
  mlet (nA u2 1 (9)) fun u5 =>
  mchk (hC u5 p0 == 3) <|
  mlet (uR u5 p0 0 (some a3)) fun u7 =>
  mlet (hZ u7) fun a8 =>
  addc 1 (9) <|
  mlet (nA u7 1 (9)) fun u10 =>
  mchk (hC u10 p0 == 3) <|
  mlet (uR u10 p0 1 (some a8)) fun u12 =>
  mlet (hZ u12) fun a13 =>
  addc 1 (9) <|
  mlet (nA u12 1 (9)) fun u15 =>
  mchk (hC u15 p0 == 3) <|
  mlet (uR u15 p0 2 (some a13)) fun u17 =>
  mlet (hZ u17) fun a18 =>
  addc 1 (3) <|
  mlet (nA u17 1 (3)) fun u20 =>
  mchk (hC u20 p0 == 3) <|
  mlet (uR u20 p0 3 (some a18)) fun u22 =>
  mlet (hZ u22) fun a23 =>
  addc 1 (3) <|
  mlet (nA u22 1 (3)) fun u25 =>
  mchk (hC u25 p0 == 3) <|
  mlet (uR u25 p0 4 (some a23)) fun u27 =>
  mlet (hZ u27) fun a28 =>
  addc 1 (cN 11) <|
  mlet (nO u27 11) fun u30 =>
  hb (hJ2_init a28 u30) fun _ u31 =>
  mchk (hC u31 p0 == 3) <|
  mlet (uR u31 p0 5 (some a28)) fun u33 =>
  mchk (hC u33 p0 == 3) <|
  mlet (uI u33 p0 10 1) fun u35 =>
  ml1 (hX3_init_65 p0 p1) FUEL 0 u35
theorem ctX3_init (t : TT) (G : GH) (l : Launch) (hl0 : l.stackTraces = false) (p0 : Nat) (p1 : Nat) (u : HS) : CtH mkU t G l yX3_init cX3_init 3 none 5 [.ref p0, .ref p1] u (hX3_init p0 p1 u) := by
  refine ctH_of [(0, .ref p0), (1, .ref p1)] hl0 rfl (Nat.le_of_ble_eq_true rfl) rfl (fun K1 K2 p e s m args below meth c C => ?_)
  unfold hX3_init
  refine v_aload_n C.1 0 rfl rfl dX3_init_0 ?_
  refine v_aload_n C.1 1 rfl rfl dX3_init_1 ?_
  refine v_chk (fun h1 => ?_)
  refine v_hputR C (some p1) 2 11 (eq_of_beq h1) (by decide) rfl in_X3 tyX3 tyX3_ok nmX3 (by decide) (by decide) q278 (fun _ h => h) (Or.inr ⟨rfl, rfl, rfl⟩) rfl rfl dX3_init_2 (fun u2 => ?_)
  refine v_aload_n C.1 0 rfl rfl dX3_init_5 ?_
  refine v_objInit C q251 q161 q162 (by exact Nat.le_of_ble_eq_true rfl) (by exact Nat.le_of_ble_eq_true rfl) dX3_init_6 ?_
  refine v_aload_n C.1 0 rfl rfl dX3_init_9 ?_
  refine v_bipush C.1 9 (by decide) dX3_init_10 ?_
  refine v_letE (fun a3 e4 => ?_)
  refine v_hnewa C 1 e4 (by decide) rfl q195 (by decide) (by decide) (by decide) dX3_init_12 (fun u5 => ?_)
  refine v_chk (fun h6 => ?_)
  refine v_hputR C (some a3) 2 0 (eq_of_beq h6) (by decide) rfl in_X3 tyX3 tyX3_ok nmX3 (by decide) (by decide) q254 (fun _ h => h) (Or.inr ⟨rfl, rfl, rfl⟩) rfl rfl dX3_init_14 (fun u7 => ?_)
  refine v_aload_n C.1 0 rfl rfl dX3_init_17 ?_
  refine v_bipush C.1 9 (by decide) dX3_init_18 ?_
  refine v_letE (fun a8 e9 => ?_)
  refine v_hnewa C 1 e9 (by decide) rfl q195 (by decide) (by decide) (by decide) dX3_init_20 (fun u10 => ?_)
  refine v_chk (fun h11 => ?_)
  refine v_hputR C (some a8) 2 1 (eq_of_beq h11) (by decide) rfl in_X3 tyX3 tyX3_ok nmX3 (by decide) (by decide) q256 (fun _ h => h) (Or.inr ⟨rfl, rfl, rfl⟩) rfl rfl dX3_init_22 (fun u12 => ?_)
  refine v_aload_n C.1 0 rfl rfl dX3_init_25 ?_
  refine v_bipush C.1 9 (by decide) dX3_init_26 ?_
  refine v_letE (fun a13 e14 => ?_)
  refine v_hnewa C 1 e14 (by decide) rfl q195 (by decide) (by decide) (by decide) dX3_init_28 (fun u15 => ?_)
  refine v_chk (fun h16 => ?_)
  refine v_hputR C (some a13) 2 2 (eq_of_beq h16) (by decide) rfl in_X3 tyX3 tyX3_ok nmX3 (by decide) (by decide) q258 (fun _ h => h) (Or.inr ⟨rfl, rfl, rfl⟩) rfl rfl dX3_init_30 (fun u17 => ?_)
  refine v_aload_n C.1 0 rfl rfl dX3_init_33 ?_
  refine v_iconst C.1 3 (by decide) dX3_init_34 ?_
  refine v_letE (fun a18 e19 => ?_)
  refine v_hnewa C 1 e19 (by decide) rfl q195 (by decide) (by decide) (by decide) dX3_init_35 (fun u20 => ?_)
  refine v_chk (fun h21 => ?_)
  refine v_hputR C (some a18) 2 3 (eq_of_beq h21) (by decide) rfl in_X3 tyX3 tyX3_ok nmX3 (by decide) (by decide) q261 (fun _ h => h) (Or.inr ⟨rfl, rfl, rfl⟩) rfl rfl dX3_init_37 (fun u22 => ?_)
  refine v_aload_n C.1 0 rfl rfl dX3_init_40 ?_
  refine v_iconst C.1 3 (by decide) dX3_init_41 ?_
  refine v_letE (fun a23 e24 => ?_)
  refine v_hnewa C 1 e24 (by decide) rfl q195 (by decide) (by decide) (by decide) dX3_init_42 (fun u25 => ?_)
  refine v_chk (fun h26 => ?_)
  refine v_hputR C (some a23) 2 4 (eq_of_beq h26) (by decide) rfl in_X3 tyX3 tyX3_ok nmX3 (by decide) (by decide) q264 (fun _ h => h) (Or.inr ⟨rfl, rfl, rfl⟩) rfl rfl dX3_init_44 (fun u27 => ?_)
  refine v_aload_n C.1 0 rfl rfl dX3_init_47 ?_
  refine v_letE (fun a28 e29 => ?_)
  refine v_hnew C 11 e29 (by decide) (by decide) rfl in_J2 tyJ2 tyJ2_ok df_J2 q252 q170 q125 dX3_init_48 (fun u30 => ?_)
  refine v_dup C.1 rfl dX3_init_51 ?_
  refine v_callIH C [] [.ref a28, .ref p0] (ctJ2_init t G l hl0 a28 u30) (fun _ _ => cwJ2_init C q253 (by decide)) rfl rfl (by exact Nat.le_of_ble_eq_true rfl) dX3_init_52 (fun _ u31 => ?_)
  refine v_chk (fun h32 => ?_)
  refine v_hputR C (some a28) 2 5 (eq_of_beq h32) (by decide) rfl in_X3 tyX3 tyX3_ok nmX3 (by decide) (by decide) q266 (fun _ h => h) (Or.inr ⟨rfl, rfl, rfl⟩) rfl rfl dX3_init_55 (fun u33 => ?_)
  refine v_aload_n C.1 0 rfl rfl dX3_init_58 ?_
  refine v_iconst C.1 1 (by decide) dX3_init_59 ?_
  refine v_chk (fun h34 => ?_)
  refine v_hputI C 2 10 (eq_of_beq h34) (by decide) rfl in_X3 tyX3 tyX3_ok nmX3 (by decide) (by decide) q276 (fun _ h => h) (Or.inl rfl) ⟨rfl, rfl⟩ dX3_init_60 (fun u35 => ?_)
  refine v_iconst C.1 0 (by decide) dX3_init_63 ?_
  refine v_istore_n C.1 [(2, .int 0), (0, .ref p0), (1, .ref p1)] rfl (by decide) rfl dX3_init_64 ?_
  refine v_sub [1, 0] rfl ?_
  exact whX3_init_65 hl0 C p0 p1 FUEL 0 u35
theorem cwX3_init {t : TT} {G : GH} {l : Launch} {p : Program} {s : State} {m : MethodId} {args : Array Value} {meth : Method} {c : Code} {y0 : MethodName} {cc0 : ByteArray} {nL0 : Nat} {ret0 : Option FieldType} (C : CxH t G l p s m args meth c y0 cc0 nL0 ret0) {index lv mc ms K1 K2 : Nat} (hq : Cond.methodLink y0.cls index yX3_init ∈ lw_all) (hR : 5 + 1 ≤ lv) : CallB (rmH lv K1 K2) s args y0.cls index yX3_init cX3_init 3 none (ws_ yX3_init cX3_init 3 none) (rmH 5 mc ms) mc ms 1 ∧ yX3_init.name = "<init>" ∧ (Cond.instanceMethod yX3_init).before args s = true :=
  cwI 1 C.1.2.2.2.2.1 (lw_meth q250) rfl rfl rfl (C.1.2.2.2.2.1 _ q126) (C.1.2.2.2.2.1 _ hq) (C.1.2.2.2.2.1 _ q249) rfl (by decide +kernel) ⟨hR, by show 8 + (3 + 11) + 100 * 5 ≤ 100 * lv; omega⟩
def hX1_init (p0 : Nat) (u : HS) : Option (OH Unit) :=
  mlet (hZ u) fun a1 =>
  addc 1 (8) <|
  mlet (nA u 1 (8)) fun u3 =>
  mchk (hC u3 p0 == 1) <|
  mlet (uR u3 p0 0 (some a1)) fun u5 =>
  mchk (hC u5 p0 == 1) <|
  mlet (uI u5 p0 1 (-1)) fun u7 =>
  mlet (hZ u7) fun a8 =>
  addc 1 (cN 1) <|
  mlet (nO u7 1) fun u10 =>
  hb (hX2_init a8 u10) fun _ u11 =>
  mchk (hC u11 p0 == 1) <|
  mlet (uR u11 p0 2 (some a8)) fun u13 =>
  mlet (hZ u13) fun a14 =>
  addc 1 (cN 2) <|
  mlet (nO u13 2) fun u16 =>
  hb (hX3_init a14 p0 u16) fun _ u17 =>
  mchk (hC u17 p0 == 1) <|
  mlet (uR u17 p0 3 (some a14)) fun u19 =>
  mlet (hZ u19) fun a20 =>
  addc 1 (700) <|
  mlet (nA u19 3 (700)) fun u22 =>
  mchk (hC u22 p0 == 1) <|
  mlet (uR u22 p0 4 (some a20)) fun u24 =>
  mchk (hC u24 p0 == 1) <|
  mlet (uI u24 p0 6 (-1)) fun u26 =>
  mlet (hZ u26) fun a27 =>
  addc 1 (3) <|
  mlet (nA u26 1 (3)) fun u29 =>
  mchk (hC u29 p0 == 1) <|
  mlet (uR u29 p0 7 (some a27)) fun u31 =>
  mlet (hZ u31) fun a32 =>
  addc 1 (cN 11) <|
  mlet (nO u31 11) fun u34 =>
  hb (hJ2_init a32 u34) fun _ u35 =>
  mchk (hC u35 p0 == 1) <|
  mlet (uR u35 p0 8 (some a32)) fun u37 =>
  mlet (hZ u37) fun a38 =>
  addc 1 (cN 11) <|
  mlet (nO u37 11) fun u40 =>
  hb (hJ2_init a38 u40) fun _ u41 =>
  mchk (hC u41 p0 == 1) <|
  mlet (uR u41 p0 9 (some a38)) fun u43 =>
  hret () u43
theorem ctX1_init (t : TT) (G : GH) (l : Launch) (hl0 : l.stackTraces = false) (p0 : Nat) (u : HS) : CtH mkU t G l yX1_init cX1_init 1 none 6 [.ref p0] u (hX1_init p0 u) := by
  refine ctH_of [(0, .ref p0)] hl0 rfl (Nat.le_of_ble_eq_true rfl) rfl (fun K1 K2 p e s m args below meth c C => ?_)
  unfold hX1_init
  refine v_aload_n C.1 0 rfl rfl dX1_init_0 ?_
  refine v_objInit C q160 q161 q162 (by exact Nat.le_of_ble_eq_true rfl) (by exact Nat.le_of_ble_eq_true rfl) dX1_init_1 ?_
  refine v_aload_n C.1 0 rfl rfl dX1_init_4 ?_
  refine v_bipush C.1 8 (by decide) dX1_init_5 ?_
  refine v_letE (fun a1 e2 => ?_)
  refine v_hnewa C 1 e2 (by decide) rfl q195 (by decide) (by decide) (by decide) dX1_init_7 (fun u3 => ?_)
  refine v_chk (fun h4 => ?_)
  refine v_hputR C (some a1) 0 0 (eq_of_beq h4) (by decide) rfl in_X1 tyX1 tyX1_ok nmX1 (by decide) (by decide) q306 (fun _ h => h) (Or.inr ⟨rfl, rfl, rfl⟩) rfl rfl dX1_init_9 (fun u5 => ?_)
  refine v_aload_n C.1 0 rfl rfl dX1_init_12 ?_
  refine v_iconst C.1 (-1) (by decide) dX1_init_13 ?_
  refine v_chk (fun h6 => ?_)
  refine v_hputI C 0 1 (eq_of_beq h6) (by decide) rfl in_X1 tyX1 tyX1_ok nmX1 (by decide) (by decide) q308 (fun _ h => h) (Or.inl rfl) ⟨rfl, rfl⟩ dX1_init_14 (fun u7 => ?_)
  refine v_aload_n C.1 0 rfl rfl dX1_init_17 ?_
  refine v_letE (fun a8 e9 => ?_)
  refine v_hnew C 1 e9 (by decide) (by decide) rfl in_X2 tyX2 tyX2_ok df_X2 q163 q164 q122 dX1_init_18 (fun u10 => ?_)
  refine v_dup C.1 rfl dX1_init_21 ?_
  refine v_callINH C [] [.ref a8, .ref p0] (ctX2_init t G l hl0 a8 u10) (fun _ _ => cwX2_initN C q165 (by decide)) rfl rfl (by exact Nat.le_of_ble_eq_true rfl) dX1_init_22 (fun _ u11 => ?_)
  refine v_chk (fun h12 => ?_)
  refine v_hputR C (some a8) 0 2 (eq_of_beq h12) (by decide) rfl in_X1 tyX1 tyX1_ok nmX1 (by decide) (by decide) q311 (fun _ h => h) (Or.inl rfl) rfl rfl dX1_init_25 (fun u13 => ?_)
  refine v_aload_n C.1 0 rfl rfl dX1_init_28 ?_
  refine v_letE (fun a14 e15 => ?_)
  refine v_hnew C 2 e15 (by decide) (by decide) rfl in_X3 tyX3 tyX3_ok df_X3 q246 q247 q126 dX1_init_29 (fun u16 => ?_)
  refine v_dup C.1 rfl dX1_init_32 ?_
  refine v_aload_n C.1 0 rfl rfl dX1_init_33 ?_
  refine v_callIH C [.ref p0] [.ref a14, .ref p0] (ctX3_init t G l hl0 a14 p0 u16) (fun _ _ => cwX3_init C q248 (by decide)) rfl rfl (by exact Nat.le_of_ble_eq_true rfl) dX1_init_34 (fun _ u17 => ?_)
  refine v_chk (fun h18 => ?_)
  refine v_hputR C (some a14) 0 3 (eq_of_beq h18) (by decide) rfl in_X1 tyX1 tyX1_ok nmX1 (by decide) (by decide) q312 (fun _ h => h) (Or.inl rfl) rfl rfl dX1_init_37 (fun u19 => ?_)
  refine v_aload_n C.1 0 rfl rfl dX1_init_40 ?_
  refine v_sipush C.1 700 (by decide) dX1_init_41 ?_
  refine v_letE (fun a20 e21 => ?_)
  refine v_hnewa C 3 e21 (by decide) rfl q353 (by decide) (by decide) (by decide) dX1_init_44 (fun u22 => ?_)
  refine v_chk (fun h23 => ?_)
  refine v_hputR C (some a20) 0 4 (eq_of_beq h23) (by decide) rfl in_X1 tyX1 tyX1_ok nmX1 (by decide) (by decide) q314 (fun _ h => h) (Or.inr ⟨rfl, rfl, rfl⟩) rfl rfl dX1_init_46 (fun u24 => ?_)
  refine v_aload_n C.1 0 rfl rfl dX1_init_49 ?_
  refine v_iconst C.1 (-1) (by decide) dX1_init_50 ?_
  refine v_chk (fun h25 => ?_)
  refine v_hputI C 0 6 (eq_of_beq h25) (by decide) rfl in_X1 tyX1 tyX1_ok nmX1 (by decide) (by decide) q316 (fun _ h => h) (Or.inl rfl) ⟨rfl, rfl⟩ dX1_init_51 (fun u26 => ?_)
  refine v_aload_n C.1 0 rfl rfl dX1_init_54 ?_
  refine v_iconst C.1 3 (by decide) dX1_init_55 ?_
  refine v_letE (fun a27 e28 => ?_)
  refine v_hnewa C 1 e28 (by decide) rfl q195 (by decide) (by decide) (by decide) dX1_init_56 (fun u29 => ?_)
  refine v_chk (fun h30 => ?_)
  refine v_hputR C (some a27) 0 7 (eq_of_beq h30) (by decide) rfl in_X1 tyX1 tyX1_ok nmX1 (by decide) (by decide) q317 (fun _ h => h) (Or.inr ⟨rfl, rfl, rfl⟩) rfl rfl dX1_init_58 (fun u31 => ?_)
  refine v_aload_n C.1 0 rfl rfl dX1_init_61 ?_
  refine v_letE (fun a32 e33 => ?_)
  refine v_hnew C 11 e33 (by decide) (by decide) rfl in_J2 tyJ2 tyJ2_ok df_J2 q304 q170 q125 dX1_init_62 (fun u34 => ?_)
  refine v_dup C.1 rfl dX1_init_65 ?_
  refine v_callIH C [] [.ref a32, .ref p0] (ctJ2_init t G l hl0 a32 u34) (fun _ _ => cwJ2_init C q305 (by decide)) rfl rfl (by exact Nat.le_of_ble_eq_true rfl) dX1_init_66 (fun _ u35 => ?_)
  refine v_chk (fun h36 => ?_)
  refine v_hputR C (some a32) 0 8 (eq_of_beq h36) (by decide) rfl in_X1 tyX1 tyX1_ok nmX1 (by decide) (by decide) q318 (fun _ h => h) (Or.inl rfl) rfl rfl dX1_init_69 (fun u37 => ?_)
  refine v_aload_n C.1 0 rfl rfl dX1_init_72 ?_
  refine v_letE (fun a38 e39 => ?_)
  refine v_hnew C 11 e39 (by decide) (by decide) rfl in_J2 tyJ2 tyJ2_ok df_J2 q304 q170 q125 dX1_init_73 (fun u40 => ?_)
  refine v_dup C.1 rfl dX1_init_76 ?_
  refine v_callIH C [] [.ref a38, .ref p0] (ctJ2_init t G l hl0 a38 u40) (fun _ _ => cwJ2_init C q305 (by decide)) rfl rfl (by exact Nat.le_of_ble_eq_true rfl) dX1_init_77 (fun _ u41 => ?_)
  refine v_chk (fun h42 => ?_)
  refine v_hputR C (some a38) 0 9 (eq_of_beq h42) (by decide) rfl in_X1 tyX1 tyX1_ok nmX1 (by decide) (by decide) q319 (fun _ h => h) (Or.inl rfl) rfl rfl dX1_init_80 (fun u43 => ?_)
  exact v_hvret C dX1_init_83
theorem cwX1_init {t : TT} {G : GH} {l : Launch} {p : Program} {s : State} {m : MethodId} {args : Array Value} {meth : Method} {c : Code} {y0 : MethodName} {cc0 : ByteArray} {nL0 : Nat} {ret0 : Option FieldType} (C : CxH t G l p s m args meth c y0 cc0 nL0 ret0) {index lv mc ms K1 K2 : Nat} (hq : Cond.methodLink y0.cls index yX1_init ∈ lw_all) (hR : 6 + 1 ≤ lv) : CallB (rmH lv K1 K2) s args y0.cls index yX1_init cX1_init 1 none (ws_ yX1_init cX1_init 1 none) (rmH 6 mc ms) mc ms 0 ∧ yX1_init.name = "<init>" ∧ (Cond.instanceMethod yX1_init).before args s = true :=
  cwI 0 C.1.2.2.2.2.1 (lw_meth q159) rfl rfl rfl (C.1.2.2.2.2.1 _ q121) (C.1.2.2.2.2.1 _ hq) (C.1.2.2.2.2.1 _ q158) rfl (by decide +kernel) ⟨hR, by show 8 + (1 + 11) + 100 * 6 ≤ 100 * lv; omega⟩
def hX1_feed_71 (p0 : Nat) (p1 : Int32) (p2 : Int32) (p3 : Int32) (p4 : Int32) (p5 : Int32) (k18 : Int32 → HS → Option (OH Int32)) (x6 : Int32) (s0 : Int32) (u : HS) : Option (OH Int32) :=
  mchk (hC u p0 == 1) <|
  mderef (hR u p0 4) fun a2 =>
  mchk (hC u p0 == 1) <|
  mchk (inA u ((hI u p0 5) + x6) a2 23) <|
  mlet (uA u a2 ((hI u p0 5) + x6).toNatClampNeg (Int32.toInt8 ((Int32.toInt8 (s0 >>> (((24 : Int32) - ((8 : Int32) * (x6 - x6 / 4 * 4))) &&& 31))).toInt32)).toInt32) fun u5 =>
  k18 (x6 + 1) u5
theorem whX1_feed_71 {K1 K2 : Nat} {p : Program} {e : Env} {s : State} {m : MethodId} {args : Array Value} {below : List Frame} {meth : Method} {c : Code} (hl0 : l.stackTraces = false) (C : CxH t G l p s m args meth c yX1_feed cX1_feed 8 (some .int)) (p0 : Nat) (p1 : Int32) (p2 : Int32) (p3 : Int32) (p4 : Int32) (p5 : Int32) (k18 : Int32 → HS → Option (OH Int32)) (hk18 : ∀ (x6 : Int32) (u : HS), VH mkI t G p l e 2 K1 K2 s m args below meth c 8 18 [(0, .ref p0), (1, .int p1), (2, .int p2), (3, .int p3), (4, .int p4), (5, .int p5), (6, .int x6)] [] u (k18 x6 u)) (x6 : Int32) (s0 : Int32) (u : HS) : VH mkI t G p l e 2 K1 K2 s m args below meth c 8 71 [(0, .ref p0), (1, .int p1), (2, .int p2), (3, .int p3), (4, .int p4), (5, .int p5), (6, .int x6)] [.int s0] u (hX1_feed_71 p0 p1 p2 p3 p4 p5 k18 x6 s0 u) := by
  unfold hX1_feed_71
  refine v_istore C.1 [(7, .int s0), (0, .ref p0), (1, .int p1), (2, .int p2), (3, .int p3), (4, .int p4), (5, .int p5), (6, .int x6)] (by decide) rfl dX1_feed_71 ?_
  refine v_aload_n C.1 1 rfl rfl dX1_feed_73 ?_
  refine v_chk (fun h1 => ?_)
  refine v_hget C (v := va_rf (hR u p0 4)) 0 4 (eq_of_beq h1) (by decide) rfl in_X1 (by decide) (Or.inl q314) (fun _ h => h) (hF_r (ci := 0) (eq_of_beq h1) (by decide)) dX1_feed_74 ?_
  refine v_deref (fun a2 e3 => ?_)
  refine v_aload_n C.1 1 rfl rfl dX1_feed_77 ?_
  refine v_chk (fun h4 => ?_)
  refine v_hget C (v := .int (hI u p0 5)) 0 5 (eq_of_beq h4) (by decide) rfl in_X1 (by decide) (Or.inl q315) (fun _ h => h) (hF_i (ci := 0) (eq_of_beq h4) (by decide)) dX1_feed_78 ?_
  refine v_iload C.1 7 rfl dX1_feed_81 ?_
  refine v_iadd C.1 dX1_feed_83 ?_
  refine v_iload C.1 0 rfl dX1_feed_84 ?_
  refine v_bipush C.1 24 (by decide) dX1_feed_86 ?_
  refine v_bipush C.1 8 (by decide) dX1_feed_88 ?_
  refine v_iload C.1 7 rfl dX1_feed_90 ?_
  refine v_iconst C.1 4 (by decide) dX1_feed_92 ?_
  refine v_irem C.1 (by decide) dX1_feed_93 ?_
  refine v_imul C.1 dX1_feed_94 ?_
  refine v_isub C.1 dX1_feed_95 ?_
  refine v_ishr C.1 dX1_feed_96 ?_
  refine v_i2b C.1 dX1_feed_97 ?_
  refine v_chk (fun h6 => ?_)
  refine v_habast C h6 dX1_feed_98 (fun u5 => ?_)
  refine v_iinc C.1 1 [(6, .int (x6 + 1)), (7, .int s0), (0, .ref p0), (1, .int p1), (2, .int p2), (3, .int p3), (4, .int p4), (5, .int p5)] 7 rfl (by decide) (by decide) rfl dX1_feed_99 ?_
  refine v_goto C.1 18 (by decide) dX1_feed_102 ?_
  refine v_sub [2, 3, 4, 5, 6, 7, 0] rfl ?_
  exact hk18 (x6 + 1) u5
def hX1_feed_18 (p0 : Nat) (p1 : Int32) (p2 : Int32) (p3 : Int32) (p4 : Int32) (p5 : Int32) (k : Int32 → HS → Option (OH Int32)) (x6 : Int32) (u : HS) : Option (OH Int32) :=
  if 20 ≤ x6 then
    mchk (hC u p0 == 1) <|
    mchk (hC u p0 == 1) <|
    mlet (uI u p0 5 ((hI u p0 5) + 20)) fun u3 =>
    mchk (hC u3 p0 == 1) <|
    hret (hI u3 p0 5) u3
  else
    if 4 ≤ x6 then
      if 8 ≤ x6 then
        if 12 ≤ x6 then
          if 16 ≤ x6 then
            hX1_feed_71 p0 p1 p2 p3 p4 p5 k x6 p5 u
          else
            hX1_feed_71 p0 p1 p2 p3 p4 p5 k x6 p4 u
        else
          hX1_feed_71 p0 p1 p2 p3 p4 p5 k x6 p3 u
      else
        hX1_feed_71 p0 p1 p2 p3 p4 p5 k x6 p2 u
    else
      hX1_feed_71 p0 p1 p2 p3 p4 p5 k x6 p1 u
theorem whX1_feed_18 {K1 K2 : Nat} {p : Program} {e : Env} {s : State} {m : MethodId} {args : Array Value} {below : List Frame} {meth : Method} {c : Code} (hl0 : l.stackTraces = false) (C : CxH t G l p s m args meth c yX1_feed cX1_feed 8 (some .int)) (p0 : Nat) (p1 : Int32) (p2 : Int32) (p3 : Int32) (p4 : Int32) (p5 : Int32) (n : Nat) (x6 : Int32) (u : HS) : VH mkI t G p l e 2 K1 K2 s m args below meth c 8 18 [(0, .ref p0), (1, .int p1), (2, .int p2), (3, .int p3), (4, .int p4), (5, .int p5), (6, .int x6)] [] u (ml1 (hX1_feed_18 p0 p1 p2 p3 p4 p5) n x6 u) := by
  refine vl1 (L := fun x6 => [(0, .ref p0), (1, .int p1), (2, .int p2), (3, .int p3), (4, .int p4), (5, .int p5), (6, .int x6)]) (fun k hk x6 u => ?_) n x6 u
  unfold hX1_feed_18
  refine v_iload C.1 6 rfl dX1_feed_18 ?_
  refine v_bipush C.1 20 (by decide) dX1_feed_20 ?_
  refine v_icmp_ge C.1 105 (by decide) dX1_feed_22 (fun _ => ?_) (fun _ => ?_)
  · refine v_aload_n C.1 0 rfl rfl dX1_feed_105 ?_
    refine v_dup C.1 rfl dX1_feed_106 ?_
    refine v_chk (fun h1 => ?_)
    refine v_hget C (v := .int (hI u p0 5)) 0 5 (eq_of_beq h1) (by decide) rfl in_X1 (by decide) (Or.inl q315) (fun _ h => h) (hF_i (ci := 0) (eq_of_beq h1) (by decide)) dX1_feed_107 ?_
    refine v_bipush C.1 20 (by decide) dX1_feed_110 ?_
    refine v_iadd C.1 dX1_feed_112 ?_
    refine v_chk (fun h2 => ?_)
    refine v_hputI C 0 5 (eq_of_beq h2) (by decide) rfl in_X1 tyX1 tyX1_ok nmX1 (by decide) (by decide) q315 (fun _ h => h) (Or.inl rfl) ⟨rfl, rfl⟩ dX1_feed_113 (fun u3 => ?_)
    refine v_aload_n C.1 0 rfl rfl dX1_feed_116 ?_
    refine v_chk (fun h4 => ?_)
    refine v_hget C (v := .int (hI u3 p0 5)) 0 5 (eq_of_beq h4) (by decide) rfl in_X1 (by decide) (Or.inl q315) (fun _ h => h) (hF_i (ci := 0) (eq_of_beq h4) (by decide)) dX1_feed_117 ?_
    exact v_hiret C dX1_feed_120
  · refine v_iload C.1 6 rfl dX1_feed_25 ?_
    refine v_iconst C.1 4 (by decide) dX1_feed_27 ?_
    refine v_icmp_ge C.1 35 (by decide) dX1_feed_28 (fun _ => ?_) (fun _ => ?_)
    · refine v_iload C.1 6 rfl dX1_feed_35 ?_
      refine v_bipush C.1 8 (by decide) dX1_feed_37 ?_
      refine v_icmp_ge C.1 46 (by decide) dX1_feed_39 (fun _ => ?_) (fun _ => ?_)
      · refine v_iload C.1 6 rfl dX1_feed_46 ?_
        refine v_bipush C.1 12 (by decide) dX1_feed_48 ?_
        refine v_icmp_ge C.1 57 (by decide) dX1_feed_50 (fun _ => ?_) (fun _ => ?_)
        · refine v_iload C.1 6 rfl dX1_feed_57 ?_
          refine v_bipush C.1 16 (by decide) dX1_feed_59 ?_
          refine v_icmp_ge C.1 69 (by decide) dX1_feed_61 (fun _ => ?_) (fun _ => ?_)
          · refine v_iload C.1 5 rfl dX1_feed_69 ?_
            exact whX1_feed_71 hl0 C p0 p1 p2 p3 p4 p5 k hk x6 p5 u
          · refine v_iload C.1 4 rfl dX1_feed_64 ?_
            refine v_goto C.1 71 (by decide) dX1_feed_66 ?_
            exact whX1_feed_71 hl0 C p0 p1 p2 p3 p4 p5 k hk x6 p4 u
        · refine v_iload_n C.1 3 rfl rfl dX1_feed_53 ?_
          refine v_goto C.1 71 (by decide) dX1_feed_54 ?_
          exact whX1_feed_71 hl0 C p0 p1 p2 p3 p4 p5 k hk x6 p3 u
      · refine v_iload_n C.1 2 rfl rfl dX1_feed_42 ?_
        refine v_goto C.1 71 (by decide) dX1_feed_43 ?_
        exact whX1_feed_71 hl0 C p0 p1 p2 p3 p4 p5 k hk x6 p2 u
    · refine v_iload_n C.1 1 rfl rfl dX1_feed_31 ?_
      refine v_goto C.1 71 (by decide) dX1_feed_32 ?_
      exact whX1_feed_71 hl0 C p0 p1 p2 p3 p4 p5 k hk x6 p1 u
def hX1_feed (p0 : Nat) (p1 : Int32) (p2 : Int32) (p3 : Int32) (p4 : Int32) (p5 : Int32) (u : HS) : Option (OH Int32) :=
  mchk (hC u p0 == 1) <|
  if ((hI u p0 5) + 20) ≤ 700 then
    ml1 (hX1_feed_18 p0 p1 p2 p3 p4 p5) FUEL 0 u
  else
    hret (-1) u
theorem ctX1_feed (t : TT) (G : GH) (l : Launch) (hl0 : l.stackTraces = false) (p0 : Nat) (p1 : Int32) (p2 : Int32) (p3 : Int32) (p4 : Int32) (p5 : Int32) (u : HS) : CtH mkI t G l yX1_feed cX1_feed 8 (some .int) 2 [.ref p0, .int p1, .int p2, .int p3, .int p4, .int p5] u (hX1_feed p0 p1 p2 p3 p4 p5 u) := by
  refine ctH_of [(0, .ref p0), (1, .int p1), (2, .int p2), (3, .int p3), (4, .int p4), (5, .int p5)] hl0 rfl (Nat.le_of_ble_eq_true rfl) rfl (fun K1 K2 p e s m args below meth c C => ?_)
  unfold hX1_feed
  refine v_aload_n C.1 0 rfl rfl dX1_feed_0 ?_
  refine v_chk (fun h1 => ?_)
  refine v_hget C (v := .int (hI u p0 5)) 0 5 (eq_of_beq h1) (by decide) rfl in_X1 (by decide) (Or.inl q315) (fun _ h => h) (hF_i (ci := 0) (eq_of_beq h1) (by decide)) dX1_feed_1 ?_
  refine v_bipush C.1 20 (by decide) dX1_feed_4 ?_
  refine v_iadd C.1 dX1_feed_6 ?_
  refine v_sipush C.1 700 (by decide) dX1_feed_7 ?_
  refine v_icmp_le C.1 15 (by decide) dX1_feed_10 (fun _ => ?_) (fun _ => ?_)
  · refine v_iconst C.1 0 (by decide) dX1_feed_15 ?_
    refine v_istore C.1 [(6, .int 0), (0, .ref p0), (1, .int p1), (2, .int p2), (3, .int p3), (4, .int p4), (5, .int p5)] (by decide) rfl dX1_feed_16 ?_
    refine v_sub [1, 2, 3, 4, 5, 6, 0] rfl ?_
    exact whX1_feed_18 hl0 C p0 p1 p2 p3 p4 p5 FUEL 0 u
  · refine v_iconst C.1 (-1) (by decide) dX1_feed_13 ?_
    exact v_hiret C dX1_feed_14
theorem cwX1_feed {t : TT} {G : GH} {l : Launch} {p : Program} {s : State} {m : MethodId} {args : Array Value} {meth : Method} {c : Code} {y0 : MethodName} {cc0 : ByteArray} {nL0 : Nat} {ret0 : Option FieldType} (C : CxH t G l p s m args meth c y0 cc0 nL0 ret0) {index lv mc ms K1 K2 : Nat} (hq : Cond.methodLink y0.cls index yX1_feed ∈ lw_all) (hR : 2 + 1 ≤ lv) : CallW (rmH lv K1 K2) s args y0.cls RX1 index yX1_feed cX1_feed 8 (some .int) (ws_ yX1_feed cX1_feed 8 (some .int)) (rmH 2 mc ms) mc ms 5 :=
  cwV 5 C.1.2.2.2.2.1 (lw_V hq q355 q356 q121 q357) rfl rfl rfl (by decide +kernel) ⟨hR, by show 8 + (8 + 11) + 100 * 2 ≤ 100 * lv; omega⟩
def hX1_fault (p0 : Nat) (u : HS) : Option (OH Int32) :=
  mchk (hC u p0 == 1) <|
  hret (hI u p0 6) u
theorem ctX1_fault (t : TT) (G : GH) (l : Launch) (hl0 : l.stackTraces = false) (p0 : Nat) (u : HS) : CtH mkI t G l yX1_fault cX1_fault 1 (some .int) 2 [.ref p0] u (hX1_fault p0 u) := by
  refine ctH_of [(0, .ref p0)] hl0 rfl (Nat.le_of_ble_eq_true rfl) rfl (fun K1 K2 p e s m args below meth c C => ?_)
  unfold hX1_fault
  refine v_aload_n C.1 0 rfl rfl dX1_fault_0 ?_
  refine v_chk (fun h1 => ?_)
  refine v_hget C (v := .int (hI u p0 6)) 0 6 (eq_of_beq h1) (by decide) rfl in_X1 (by decide) (Or.inl q316) (fun _ h => h) (hF_i (ci := 0) (eq_of_beq h1) (by decide)) dX1_fault_1 ?_
  exact v_hiret C dX1_fault_4
theorem cwX1_fault {t : TT} {G : GH} {l : Launch} {p : Program} {s : State} {m : MethodId} {args : Array Value} {meth : Method} {c : Code} {y0 : MethodName} {cc0 : ByteArray} {nL0 : Nat} {ret0 : Option FieldType} (C : CxH t G l p s m args meth c y0 cc0 nL0 ret0) {index lv mc ms K1 K2 : Nat} (hq : Cond.methodLink y0.cls index yX1_fault ∈ lw_all) (hR : 2 + 1 ≤ lv) : CallW (rmH lv K1 K2) s args y0.cls RX1 index yX1_fault cX1_fault 1 (some .int) (ws_ yX1_fault cX1_fault 1 (some .int)) (rmH 2 mc ms) mc ms 0 :=
  cwV 0 C.1.2.2.2.2.1 (lw_V hq q359 q360 q121 q361) rfl rfl rfl (by decide +kernel) ⟨hR, by show 8 + (1 + 11) + 100 * 2 ≤ 100 * lv; omega⟩
def hX1_in (p0 : Int32) (p1 : Int32) (p2 : Int32) (u : HS) : Option (OH Int32) :=
  if p0 < p1 then
    hz id 0 u
  else
    if p2 < p0 then
      hz id 0 u
    else
      hz id 1 u
theorem ctX1_in (t : TT) (G : GH) (l : Launch) (hl0 : l.stackTraces = false) (p0 : Int32) (p1 : Int32) (p2 : Int32) (u : HS) : CtH mkI t G l yX1_in cX1_in 3 (some .boolean) 2 [.int p0, .int p1, .int p2] u (hX1_in p0 p1 p2 u) := by
  refine ctH_of [(0, .int p0), (1, .int p1), (2, .int p2)] hl0 rfl (Nat.le_of_ble_eq_true rfl) rfl (fun K1 K2 p e s m args below meth c C => ?_)
  unfold hX1_in
  refine v_iload_n C.1 0 rfl rfl dX1_in_0 ?_
  refine v_iload_n C.1 1 rfl rfl dX1_in_1 ?_
  refine v_icmp_lt C.1 14 (by decide) dX1_in_2 (fun _ => ?_) (fun _ => ?_)
  · refine v_iconst C.1 0 (by decide) dX1_in_14 ?_
    exact v_hzret C dX1_in_15
  · refine v_iload_n C.1 0 rfl rfl dX1_in_5 ?_
    refine v_iload_n C.1 2 rfl rfl dX1_in_6 ?_
    refine v_icmp_gt C.1 14 (by decide) dX1_in_7 (fun _ => ?_) (fun _ => ?_)
    · refine v_iconst C.1 0 (by decide) dX1_in_14 ?_
      exact v_hzret C dX1_in_15
    · refine v_iconst C.1 1 (by decide) dX1_in_10 ?_
      refine v_goto C.1 15 (by decide) dX1_in_11 ?_
      exact v_hzret C dX1_in_15
theorem cwX1_in {t : TT} {G : GH} {l : Launch} {p : Program} {s : State} {m : MethodId} {args : Array Value} {meth : Method} {c : Code} {y0 : MethodName} {cc0 : ByteArray} {nL0 : Nat} {ret0 : Option FieldType} (C : CxH t G l p s m args meth c y0 cc0 nL0 ret0) {index lv mc ms K1 K2 : Nat} (hq : Cond.methodLink y0.cls index yX1_in ∈ lw_all) (hR : 2 + 1 ≤ lv) : CallB (rmH lv K1 K2) s args y0.cls index yX1_in cX1_in 3 (some .boolean) (ws_ yX1_in cX1_in 3 (some .boolean)) (rmH 2 mc ms) mc ms 3 ∧ (Cond.static yX1_in).before args s = true :=
  ⟨callB_of 3 C.1.2.2.2.2.1 (lw_meth q368) rfl rfl rfl (C.1.2.2.2.2.1 _ q121) (C.1.2.2.2.2.1 _ hq) (by decide +kernel) ⟨hR, by show 8 + (3 + 11) + 100 * 2 ≤ 100 * lv; omega⟩, C.1.2.2.2.2.1 _ q367⟩
theorem cwX1_inN {t : TT} {G : GH} {l : Launch} {p : Program} {s : State} {m : MethodId} {args : Array Value} {meth : Method} {c : Code} {y0 : MethodName} {cc0 : ByteArray} {nL0 : Nat} {ret0 : Option FieldType} (C : CxH t G l p s m args meth c y0 cc0 nL0 ret0) {index lv mc ms K1 K2 : Nat} {host : String} (hq : Cond.methodLinkNest y0.cls index yX1_in host ∈ lw_tbl) (hR : 2 + 1 ≤ lv) : va_CN (rmH lv K1 K2) s args y0.cls index yX1_in host cX1_in 3 (some .boolean) (ws_ yX1_in cX1_in 3 (some .boolean)) (rmH 2 mc ms) mc ms 3 ∧ (Cond.static yX1_in).before args s = true ∧ True :=
  ⟨va_cnB 3 C.1.2.2.2.2.1 (lw_meth q368) rfl rfl rfl (C.1.2.2.2.2.2.2.2.2.2.1 _ hq rfl) (C.1.2.2.2.2.1 _ q121) (by decide +kernel) ⟨hR, by show 8 + (3 + 11) + 100 * 2 ≤ 100 * lv; omega⟩, ⟨C.1.2.2.2.2.1 _ q367, trivial⟩⟩
def hX1_refuse (p0 : Nat) (p1 : Int32) (u : HS) : Option (OH Int32) :=
  mchk (hC u p0 == 1) <|
  mderef (hR u p0 7) fun a2 =>
  mchk (inA u p1 a2 21) <|
  mchk (inA u p1 a2 21) <|
  mlet (uA u a2 p1.toNatClampNeg ((hA u a2 p1.toNatClampNeg) + 1)) fun u5 =>
  hret (-1) u5
theorem ctX1_refuse (t : TT) (G : GH) (l : Launch) (hl0 : l.stackTraces = false) (p0 : Nat) (p1 : Int32) (u : HS) : CtH mkI t G l yX1_refuse cX1_refuse 2 (some .int) 2 [.ref p0, .int p1] u (hX1_refuse p0 p1 u) := by
  refine ctH_of [(0, .ref p0), (1, .int p1)] hl0 rfl (Nat.le_of_ble_eq_true rfl) rfl (fun K1 K2 p e s m args below meth c C => ?_)
  unfold hX1_refuse
  refine v_aload_n C.1 0 rfl rfl dX1_refuse_0 ?_
  refine v_chk (fun h1 => ?_)
  refine v_hget C (v := va_rf (hR u p0 7)) 0 7 (eq_of_beq h1) (by decide) rfl in_X1 (by decide) (Or.inl q317) (fun _ h => h) (hF_r (ci := 0) (eq_of_beq h1) (by decide)) dX1_refuse_1 ?_
  refine v_deref (fun a2 e3 => ?_)
  refine v_iload_n C.1 1 rfl rfl dX1_refuse_4 ?_
  refine v_dup2 C.1 rfl rfl dX1_refuse_5 ?_
  refine v_chk (fun h4 => ?_)
  refine v_haiald C h4 dX1_refuse_6 ?_
  refine v_iconst C.1 1 (by decide) dX1_refuse_7 ?_
  refine v_iadd C.1 dX1_refuse_8 ?_
  refine v_chk (fun h6 => ?_)
  refine v_haiast C h6 dX1_refuse_9 (fun u5 => ?_)
  refine v_iconst C.1 (-1) (by decide) dX1_refuse_10 ?_
  exact v_hiret C dX1_refuse_11
theorem cwX1_refuse {t : TT} {G : GH} {l : Launch} {p : Program} {s : State} {m : MethodId} {args : Array Value} {meth : Method} {c : Code} {y0 : MethodName} {cc0 : ByteArray} {nL0 : Nat} {ret0 : Option FieldType} (C : CxH t G l p s m args meth c y0 cc0 nL0 ret0) {index lv mc ms K1 K2 : Nat} (hq : Cond.methodLink y0.cls index yX1_refuse ∈ lw_all) (hR : 2 + 1 ≤ lv) : CallW (rmH lv K1 K2) s args y0.cls RX1 index yX1_refuse cX1_refuse 2 (some .int) (ws_ yX1_refuse cX1_refuse 2 (some .int)) (rmH 2 mc ms) mc ms 1 :=
  cwV 1 C.1.2.2.2.2.1 (lw_V hq q371 qs0 q121 q372) rfl rfl rfl (by decide +kernel) ⟨hR, by show 8 + (2 + 11) + 100 * 2 ≤ 100 * lv; omega⟩
def hX3_copy_64 (p0 : Nat) (k : Nat → Int32 → HS → Option (OH Nat)) (x1 : Nat) (x2 : Int32) (u : HS) : Option (OH Nat) :=
  if 3 ≤ x2 then
    mchk (hC u p0 == 3) <|
    mchk (hC u x1 == 3) <|
    mlet (uI u x1 6 (hI u p0 6)) fun u3 =>
    mchk (hC u3 p0 == 3) <|
    mchk (hC u3 x1 == 3) <|
    mlet (uI u3 x1 7 (hI u3 p0 7)) fun u6 =>
    mchk (hC u6 p0 == 3) <|
    mchk (hC u6 x1 == 3) <|
    mlet (uI u6 x1 8 (hI u6 p0 8)) fun u9 =>
    mchk (hC u9 p0 == 3) <|
    mchk (hC u9 x1 == 3) <|
    mchk (isB (hI u9 p0 10)) <|
    mlet (uI u9 x1 10 (hI u9 p0 10)) fun u12 =>
    hret x1 u12
  else
    mchk (hC u x1 == 3) <|
    mderef (hR u x1 3) fun a2 =>
    mchk (hC u p0 == 3) <|
    mderef (hR u p0 3) fun a5 =>
    mchk (inA u x2 a5 21) <|
    mchk (inA u x2 a2 21) <|
    mlet (uA u a2 x2.toNatClampNeg (hA u a5 x2.toNatClampNeg)) fun u8 =>
    k x1 (x2 + 1) u8
theorem whX3_copy_64 {K1 K2 : Nat} {p : Program} {e : Env} {s : State} {m : MethodId} {args : Array Value} {below : List Frame} {meth : Method} {c : Code} (hl0 : l.stackTraces = false) (C : CxH t G l p s m args meth c yX3_copy cX3_copy 3 (some (.object "WhiteBoard$Board"))) (p0 : Nat) (n : Nat) (x1 : Nat) (x2 : Int32) (u : HS) : VH mkA t G p l e 6 K1 K2 s m args below meth c 3 64 [(0, .ref p0), (1, .ref x1), (2, .int x2)] [] u (ml2 (hX3_copy_64 p0) n x1 x2 u) := by
  refine vl2 (L := fun x1 x2 => [(0, .ref p0), (1, .ref x1), (2, .int x2)]) (fun k hk x1 x2 u => ?_) n x1 x2 u
  unfold hX3_copy_64
  refine v_iload_n C.1 2 rfl rfl dX3_copy_64 ?_
  refine v_iconst C.1 3 (by decide) dX3_copy_65 ?_
  refine v_icmp_ge C.1 87 (by decide) dX3_copy_66 (fun _ => ?_) (fun _ => ?_)
  · refine v_aload_n C.1 1 rfl rfl dX3_copy_87 ?_
    refine v_aload_n C.1 0 rfl rfl dX3_copy_88 ?_
    refine v_chk (fun h1 => ?_)
    refine v_hget C (v := .int (hI u p0 6)) 2 6 (eq_of_beq h1) (by decide) rfl in_X3 (by decide) (Or.inl q268) (fun _ h => h) (hF_i (ci := 2) (eq_of_beq h1) (by decide)) dX3_copy_89 ?_
    refine v_chk (fun h2 => ?_)
    refine v_hputI C 2 6 (eq_of_beq h2) (by decide) rfl in_X3 tyX3 tyX3_ok nmX3 (by decide) (by decide) q268 (fun _ h => h) (Or.inl rfl) ⟨rfl, rfl⟩ dX3_copy_92 (fun u3 => ?_)
    refine v_aload_n C.1 1 rfl rfl dX3_copy_95 ?_
    refine v_aload_n C.1 0 rfl rfl dX3_copy_96 ?_
    refine v_chk (fun h4 => ?_)
    refine v_hget C (v := .int (hI u3 p0 7)) 2 7 (eq_of_beq h4) (by decide) rfl in_X3 (by decide) (Or.inl q270) (fun _ h => h) (hF_i (ci := 2) (eq_of_beq h4) (by decide)) dX3_copy_97 ?_
    refine v_chk (fun h5 => ?_)
    refine v_hputI C 2 7 (eq_of_beq h5) (by decide) rfl in_X3 tyX3 tyX3_ok nmX3 (by decide) (by decide) q270 (fun _ h => h) (Or.inl rfl) ⟨rfl, rfl⟩ dX3_copy_100 (fun u6 => ?_)
    refine v_aload_n C.1 1 rfl rfl dX3_copy_103 ?_
    refine v_aload_n C.1 0 rfl rfl dX3_copy_104 ?_
    refine v_chk (fun h7 => ?_)
    refine v_hget C (v := .int (hI u6 p0 8)) 2 8 (eq_of_beq h7) (by decide) rfl in_X3 (by decide) (Or.inl q272) (fun _ h => h) (hF_i (ci := 2) (eq_of_beq h7) (by decide)) dX3_copy_105 ?_
    refine v_chk (fun h8 => ?_)
    refine v_hputI C 2 8 (eq_of_beq h8) (by decide) rfl in_X3 tyX3 tyX3_ok nmX3 (by decide) (by decide) q272 (fun _ h => h) (Or.inl rfl) ⟨rfl, rfl⟩ dX3_copy_108 (fun u9 => ?_)
    refine v_aload_n C.1 1 rfl rfl dX3_copy_111 ?_
    refine v_aload_n C.1 0 rfl rfl dX3_copy_112 ?_
    refine v_chk (fun h10 => ?_)
    refine v_hget C (v := .int (hI u9 p0 10)) 2 10 (eq_of_beq h10) (by decide) rfl in_X3 (by decide) (Or.inl q276) (fun _ h => h) (hF_i (ci := 2) (eq_of_beq h10) (by decide)) dX3_copy_113 ?_
    refine v_chk (fun h11 => ?_)
    refine v_chk (fun h13 => ?_)
    refine v_hputI C 2 10 (eq_of_beq h11) (by decide) rfl in_X3 tyX3 tyX3_ok nmX3 (by decide) (by decide) q276 (fun _ h => h) (Or.inl rfl) (fitv_z h13) dX3_copy_116 (fun u12 => ?_)
    refine v_aload_n C.1 1 rfl rfl dX3_copy_119 ?_
    exact v_haret C (Or.inl ⟨_, rfl⟩) dX3_copy_120
  · refine v_aload_n C.1 1 rfl rfl dX3_copy_69 ?_
    refine v_chk (fun h1 => ?_)
    refine v_hget C (v := va_rf (hR u x1 3)) 2 3 (eq_of_beq h1) (by decide) rfl in_X3 (by decide) (Or.inl q261) (fun _ h => h) (hF_r (ci := 2) (eq_of_beq h1) (by decide)) dX3_copy_70 ?_
    refine v_deref (fun a2 e3 => ?_)
    refine v_iload_n C.1 2 rfl rfl dX3_copy_73 ?_
    refine v_aload_n C.1 0 rfl rfl dX3_copy_74 ?_
    refine v_chk (fun h4 => ?_)
    refine v_hget C (v := va_rf (hR u p0 3)) 2 3 (eq_of_beq h4) (by decide) rfl in_X3 (by decide) (Or.inl q261) (fun _ h => h) (hF_r (ci := 2) (eq_of_beq h4) (by decide)) dX3_copy_75 ?_
    refine v_deref (fun a5 e6 => ?_)
    refine v_iload_n C.1 2 rfl rfl dX3_copy_78 ?_
    refine v_chk (fun h7 => ?_)
    refine v_haiald C h7 dX3_copy_79 ?_
    refine v_chk (fun h9 => ?_)
    refine v_haiast C h9 dX3_copy_80 (fun u8 => ?_)
    refine v_iinc C.1 1 [(2, .int (x2 + 1)), (0, .ref p0), (1, .ref x1)] 2 rfl (by decide) (by decide) rfl dX3_copy_81 ?_
    refine v_goto C.1 64 (by decide) dX3_copy_84 ?_
    refine v_sub [1, 2, 0] rfl ?_
    exact hk x1 (x2 + 1) u8
def hX3_copy_14 (p0 : Nat) (k : Nat → Int32 → HS → Option (OH Nat)) (x1 : Nat) (x2 : Int32) (u : HS) : Option (OH Nat) :=
  if 9 ≤ x2 then
    ml2 (hX3_copy_64 p0) FUEL x1 0 u
  else
    mchk (hC u x1 == 3) <|
    mderef (hR u x1 0) fun a2 =>
    mchk (hC u p0 == 3) <|
    mderef (hR u p0 0) fun a5 =>
    mchk (inA u x2 a5 21) <|
    mchk (inA u x2 a2 21) <|
    mlet (uA u a2 x2.toNatClampNeg (hA u a5 x2.toNatClampNeg)) fun u8 =>
    mchk (hC u8 x1 == 3) <|
    mderef (hR u8 x1 1) fun a11 =>
    mchk (hC u8 p0 == 3) <|
    mderef (hR u8 p0 1) fun a14 =>
    mchk (inA u8 x2 a14 21) <|
    mchk (inA u8 x2 a11 21) <|
    mlet (uA u8 a11 x2.toNatClampNeg (hA u8 a14 x2.toNatClampNeg)) fun u17 =>
    mchk (hC u17 x1 == 3) <|
    mderef (hR u17 x1 2) fun a20 =>
    mchk (hC u17 p0 == 3) <|
    mderef (hR u17 p0 2) fun a23 =>
    mchk (inA u17 x2 a23 21) <|
    mchk (inA u17 x2 a20 21) <|
    mlet (uA u17 a20 x2.toNatClampNeg (hA u17 a23 x2.toNatClampNeg)) fun u26 =>
    k x1 (x2 + 1) u26
theorem whX3_copy_14 {K1 K2 : Nat} {p : Program} {e : Env} {s : State} {m : MethodId} {args : Array Value} {below : List Frame} {meth : Method} {c : Code} (hl0 : l.stackTraces = false) (C : CxH t G l p s m args meth c yX3_copy cX3_copy 3 (some (.object "WhiteBoard$Board"))) (p0 : Nat) (n : Nat) (x1 : Nat) (x2 : Int32) (u : HS) : VH mkA t G p l e 6 K1 K2 s m args below meth c 3 14 [(0, .ref p0), (1, .ref x1), (2, .int x2)] [] u (ml2 (hX3_copy_14 p0) n x1 x2 u) := by
  refine vl2 (L := fun x1 x2 => [(0, .ref p0), (1, .ref x1), (2, .int x2)]) (fun k hk x1 x2 u => ?_) n x1 x2 u
  unfold hX3_copy_14
  refine v_iload_n C.1 2 rfl rfl dX3_copy_14 ?_
  refine v_bipush C.1 9 (by decide) dX3_copy_15 ?_
  refine v_icmp_ge C.1 62 (by decide) dX3_copy_17 (fun _ => ?_) (fun _ => ?_)
  · refine v_iconst C.1 0 (by decide) dX3_copy_62 ?_
    refine v_istore_n C.1 [(2, .int 0), (0, .ref p0), (1, .ref x1)] rfl (by decide) rfl dX3_copy_63 ?_
    refine v_sub [1, 2, 0] rfl ?_
    exact whX3_copy_64 hl0 C p0 FUEL x1 0 u
  · refine v_aload_n C.1 1 rfl rfl dX3_copy_20 ?_
    refine v_chk (fun h1 => ?_)
    refine v_hget C (v := va_rf (hR u x1 0)) 2 0 (eq_of_beq h1) (by decide) rfl in_X3 (by decide) (Or.inl q254) (fun _ h => h) (hF_r (ci := 2) (eq_of_beq h1) (by decide)) dX3_copy_21 ?_
    refine v_deref (fun a2 e3 => ?_)
    refine v_iload_n C.1 2 rfl rfl dX3_copy_24 ?_
    refine v_aload_n C.1 0 rfl rfl dX3_copy_25 ?_
    refine v_chk (fun h4 => ?_)
    refine v_hget C (v := va_rf (hR u p0 0)) 2 0 (eq_of_beq h4) (by decide) rfl in_X3 (by decide) (Or.inl q254) (fun _ h => h) (hF_r (ci := 2) (eq_of_beq h4) (by decide)) dX3_copy_26 ?_
    refine v_deref (fun a5 e6 => ?_)
    refine v_iload_n C.1 2 rfl rfl dX3_copy_29 ?_
    refine v_chk (fun h7 => ?_)
    refine v_haiald C h7 dX3_copy_30 ?_
    refine v_chk (fun h9 => ?_)
    refine v_haiast C h9 dX3_copy_31 (fun u8 => ?_)
    refine v_aload_n C.1 1 rfl rfl dX3_copy_32 ?_
    refine v_chk (fun h10 => ?_)
    refine v_hget C (v := va_rf (hR u8 x1 1)) 2 1 (eq_of_beq h10) (by decide) rfl in_X3 (by decide) (Or.inl q256) (fun _ h => h) (hF_r (ci := 2) (eq_of_beq h10) (by decide)) dX3_copy_33 ?_
    refine v_deref (fun a11 e12 => ?_)
    refine v_iload_n C.1 2 rfl rfl dX3_copy_36 ?_
    refine v_aload_n C.1 0 rfl rfl dX3_copy_37 ?_
    refine v_chk (fun h13 => ?_)
    refine v_hget C (v := va_rf (hR u8 p0 1)) 2 1 (eq_of_beq h13) (by decide) rfl in_X3 (by decide) (Or.inl q256) (fun _ h => h) (hF_r (ci := 2) (eq_of_beq h13) (by decide)) dX3_copy_38 ?_
    refine v_deref (fun a14 e15 => ?_)
    refine v_iload_n C.1 2 rfl rfl dX3_copy_41 ?_
    refine v_chk (fun h16 => ?_)
    refine v_haiald C h16 dX3_copy_42 ?_
    refine v_chk (fun h18 => ?_)
    refine v_haiast C h18 dX3_copy_43 (fun u17 => ?_)
    refine v_aload_n C.1 1 rfl rfl dX3_copy_44 ?_
    refine v_chk (fun h19 => ?_)
    refine v_hget C (v := va_rf (hR u17 x1 2)) 2 2 (eq_of_beq h19) (by decide) rfl in_X3 (by decide) (Or.inl q258) (fun _ h => h) (hF_r (ci := 2) (eq_of_beq h19) (by decide)) dX3_copy_45 ?_
    refine v_deref (fun a20 e21 => ?_)
    refine v_iload_n C.1 2 rfl rfl dX3_copy_48 ?_
    refine v_aload_n C.1 0 rfl rfl dX3_copy_49 ?_
    refine v_chk (fun h22 => ?_)
    refine v_hget C (v := va_rf (hR u17 p0 2)) 2 2 (eq_of_beq h22) (by decide) rfl in_X3 (by decide) (Or.inl q258) (fun _ h => h) (hF_r (ci := 2) (eq_of_beq h22) (by decide)) dX3_copy_50 ?_
    refine v_deref (fun a23 e24 => ?_)
    refine v_iload_n C.1 2 rfl rfl dX3_copy_53 ?_
    refine v_chk (fun h25 => ?_)
    refine v_haiald C h25 dX3_copy_54 ?_
    refine v_chk (fun h27 => ?_)
    refine v_haiast C h27 dX3_copy_55 (fun u26 => ?_)
    refine v_iinc C.1 1 [(2, .int (x2 + 1)), (0, .ref p0), (1, .ref x1)] 2 rfl (by decide) (by decide) rfl dX3_copy_56 ?_
    refine v_goto C.1 14 (by decide) dX3_copy_59 ?_
    refine v_sub [1, 2, 0] rfl ?_
    exact hk x1 (x2 + 1) u26
def hX3_copy (p0 : Nat) (u : HS) : Option (OH Nat) :=
  mlet (hZ u) fun a1 =>
  addc 1 (cN 2) <|
  mlet (nO u 2) fun u3 =>
  mchk (hC u3 p0 == 3) <|
  mderef (hR u3 p0 11) fun a5 =>
  hb (hX3_init a1 a5 u3) fun _ u7 =>
  ml2 (hX3_copy_14 p0) FUEL a1 0 u7
theorem ctX3_copy (t : TT) (G : GH) (l : Launch) (hl0 : l.stackTraces = false) (p0 : Nat) (u : HS) : CtH mkA t G l yX3_copy cX3_copy 3 (some (.object "WhiteBoard$Board")) 6 [.ref p0] u (hX3_copy p0 u) := by
  refine ctH_of [(0, .ref p0)] hl0 rfl (Nat.le_of_ble_eq_true rfl) rfl (fun K1 K2 p e s m args below meth c C => ?_)
  unfold hX3_copy
  refine v_letE (fun a1 e2 => ?_)
  refine v_hnew C 2 e2 (by decide) (by decide) rfl in_X3 tyX3 tyX3_ok df_X3 q381 q247 q126 dX3_copy_0 (fun u3 => ?_)
  refine v_dup C.1 rfl dX3_copy_3 ?_
  refine v_aload_n C.1 0 rfl rfl dX3_copy_4 ?_
  refine v_chk (fun h4 => ?_)
  refine v_hget C (v := va_rf (hR u3 p0 11)) 2 11 (eq_of_beq h4) (by decide) rfl in_X3 (by decide) (Or.inl q278) (fun _ h => h) (hF_r (ci := 2) (eq_of_beq h4) (by decide)) dX3_copy_5 ?_
  refine v_deref (fun a5 e6 => ?_)
  refine v_callIH C [.ref a5] [.ref a1] (ctX3_init t G l hl0 a1 a5 u3) (fun _ _ => cwX3_init C q382 (by decide)) rfl rfl (by exact Nat.le_of_ble_eq_true rfl) dX3_copy_8 (fun _ u7 => ?_)
  refine v_astore_n C.1 [(1, .ref a1), (0, .ref p0)] rfl (by decide) rfl dX3_copy_11 ?_
  refine v_iconst C.1 0 (by decide) dX3_copy_12 ?_
  refine v_istore_n C.1 [(2, .int 0), (1, .ref a1), (0, .ref p0)] rfl (by decide) rfl dX3_copy_13 ?_
  refine v_sub [2, 1, 0] rfl ?_
  exact whX3_copy_14 hl0 C p0 FUEL a1 0 u7
theorem cwX3_copy {t : TT} {G : GH} {l : Launch} {p : Program} {s : State} {m : MethodId} {args : Array Value} {meth : Method} {c : Code} {y0 : MethodName} {cc0 : ByteArray} {nL0 : Nat} {ret0 : Option FieldType} (C : CxH t G l p s m args meth c y0 cc0 nL0 ret0) {index lv mc ms K1 K2 : Nat} (hq : Cond.methodLink y0.cls index yX3_copy ∈ lw_all) (hR : 6 + 1 ≤ lv) : CallW (rmH lv K1 K2) s args y0.cls RX3 index yX3_copy cX3_copy 3 (some (.object "WhiteBoard$Board")) (ws_ yX3_copy cX3_copy 3 (some (.object "WhiteBoard$Board"))) (rmH 6 mc ms) mc ms 0 :=
  cwV 0 C.1.2.2.2.2.1 (lw_V hq q378 q379 q126 q380) rfl rfl rfl (by decide +kernel) ⟨hR, by show 8 + (3 + 11) + 100 * 6 ≤ 100 * lv; omega⟩
def hJ13_newLength (p0 : Int32) (p1 : Int32) (p2 : Int32) (u : HS) : Option (OH Int32) :=
  mlet (p0 + (iMax p1 p2)) fun v1 =>
  if v1 ≤ 0 then
    none
  else
    if 2147483639 < v1 then
      none
    else
      hret v1 u
theorem ctJ13_newLength (t : TT) (G : GH) (l : Launch) (hl0 : l.stackTraces = false) (p0 : Int32) (p1 : Int32) (p2 : Int32) (u : HS) : CtH mkI t G l yJ13_newLength cJ13_newLength 4 (some .int) 2 [.int p0, .int p1, .int p2] u (hJ13_newLength p0 p1 p2 u) := by
  refine ctH_of [(0, .int p0), (1, .int p1), (2, .int p2)] hl0 rfl (Nat.le_of_ble_eq_true rfl) rfl (fun K1 K2 p e s m args below meth c C => ?_)
  unfold hJ13_newLength
  refine v_iload_n C.1 0 rfl rfl dJ13_newLength_0 ?_
  refine v_iload_n C.1 1 rfl rfl dJ13_newLength_1 ?_
  refine v_iload_n C.1 2 rfl rfl dJ13_newLength_2 ?_
  refine v_mmax C q408 q409 q133 q410 (by exact Nat.le_of_ble_eq_true rfl) (by exact Nat.le_of_ble_eq_true rfl) dJ13_newLength_3 ?_
  refine v_iadd C.1 dJ13_newLength_6 ?_
  refine v_topi (fun v1 => ?_)
  refine v_istore_n C.1 [(3, .int v1), (0, .int p0), (1, .int p1), (2, .int p2)] rfl (by decide) rfl dJ13_newLength_7 ?_
  refine v_iconst C.1 0 (by decide) dJ13_newLength_8 ?_
  refine v_iload_n C.1 0 rfl rfl dJ13_newLength_9 ?_
  refine v_icmp_ge C.1 21 (by decide) dJ13_newLength_10 (fun _ => ?_) (fun _ => ?_)
  · refine v_iload_n C.1 1 rfl rfl dJ13_newLength_21 ?_
    refine v_iload_n C.1 2 rfl rfl dJ13_newLength_22 ?_
    exact v_none
  · refine v_iload_n C.1 0 rfl rfl dJ13_newLength_13 ?_
    refine v_ldc C.1 q411 dJ13_newLength_14 ?_
    refine v_icmp_gt C.1 21 (by decide) dJ13_newLength_16 (fun _ => ?_) (fun _ => ?_)
    · refine v_iload_n C.1 1 rfl rfl dJ13_newLength_21 ?_
      refine v_iload_n C.1 2 rfl rfl dJ13_newLength_22 ?_
      exact v_none
    · refine v_iload_n C.1 0 rfl rfl dJ13_newLength_19 ?_
      exact v_hiret C dJ13_newLength_20
theorem cwJ13_newLength {t : TT} {G : GH} {l : Launch} {p : Program} {s : State} {m : MethodId} {args : Array Value} {meth : Method} {c : Code} {y0 : MethodName} {cc0 : ByteArray} {nL0 : Nat} {ret0 : Option FieldType} (C : CxH t G l p s m args meth c y0 cc0 nL0 ret0) {index lv mc ms K1 K2 : Nat} (hq : Cond.methodLink y0.cls index yJ13_newLength ∈ lw_all) (hR : 2 + 1 ≤ lv) : CallB (rmH lv K1 K2) s args y0.cls index yJ13_newLength cJ13_newLength 4 (some .int) (ws_ yJ13_newLength cJ13_newLength 4 (some .int)) (rmH 2 mc ms) mc ms 3 ∧ (Cond.static yJ13_newLength).before args s = true :=
  ⟨callB_of 3 C.1.2.2.2.2.1 (lw_meth q407) rfl rfl rfl (C.1.2.2.2.2.1 _ q140) (C.1.2.2.2.2.1 _ hq) (by decide +kernel) ⟨hR, by show 8 + (4 + 11) + 100 * 2 ≤ 100 * lv; omega⟩, C.1.2.2.2.2.1 _ q406⟩
def hJ14_copyOf_2 (p0 : Nat) (p1 : Int32) (p2 : Nat) (u : HS) : Option (OH Nat) :=
  mlet (hK u 5) fun a1 =>
  if p2 = a1 then
    mchk (!(decide (p1 < 0)) && decide (p1.toNatClampNeg ≤ 60000000)) <|
    mlet (hZ u) fun a4 =>
    addc 1 (p1.toNatClampNeg) <|
    mlet (nA u 5 (p1.toNatClampNeg)) fun u6 =>
    mchk (hC u6 p0 == 25 || hC u6 p0 == 35) <|
    mchk (cpQ u6 p0 0 a4 0 (iMin (Int32.ofNat (hN u6 p0)) p1)) <|
    mlet (uQr u6 a4 (va_cpy (hQ u6 p0) (hQ u6 a4) (0 : Int32).toNatClampNeg (0 : Int32).toNatClampNeg (iMin (Int32.ofNat (hN u6 p0)) p1).toNatClampNeg)) fun u9 =>
    hret a4 u9
  else
    none
theorem ctJ14_copyOf_2 (t : TT) (G : GH) (l : Launch) (hl0 : l.stackTraces = false) (p0 : Nat) (p1 : Int32) (p2 : Nat) (u : HS) : CtH mkA t G l yJ14_copyOf_2 cJ14_copyOf_2 4 (some (.array (.object "java/lang/Object"))) 2 [.ref p0, .int p1, .ref p2] u (hJ14_copyOf_2 p0 p1 p2 u) := by
  refine ctH_of [(0, .ref p0), (1, .int p1), (2, .ref p2)] hl0 rfl (Nat.le_of_ble_eq_true rfl) rfl (fun K1 K2 p e s m args below meth c C => ?_)
  unfold hJ14_copyOf_2
  refine v_aload_n C.1 2 rfl rfl dJ14_copyOf_2_0 ?_
  refine v_K (fun ek3 _ => ?_)
  refine v_letE (fun a1 e2 => ?_)
  refine v_ldcM (mi := a1) C q441 (by rw [e2, ek3]; exact C.2.1.mO) dJ14_copyOf_2_1 ?_
  refine v_acmp_ne C 13 (by decide) dJ14_copyOf_2_3 (fun _ => ?_) (fun _ => ?_)
  · refine v_iload_n C.1 1 rfl rfl dJ14_copyOf_2_6 ?_
    refine v_chk (fun h7 => ?_)
    refine v_letE (fun a4 e5 => ?_)
    refine v_hanew C 5 e5 (by decide) q443 (nb_0 h7) rfl (nb_1 h7) dJ14_copyOf_2_7 (fun u6 => ?_)
    refine v_goto C.1 24 (by decide) dJ14_copyOf_2_10 ?_
    refine v_astore_n C.1 [(3, .ref a4), (0, .ref p0), (1, .int p1), (2, .ref p2)] rfl (by decide) rfl dJ14_copyOf_2_24 ?_
    refine v_aload_n C.1 1 rfl rfl dJ14_copyOf_2_25 ?_
    refine v_iconst C.1 0 (by decide) dJ14_copyOf_2_26 ?_
    refine v_aload_n C.1 0 rfl rfl dJ14_copyOf_2_27 ?_
    refine v_iconst C.1 0 (by decide) dJ14_copyOf_2_28 ?_
    refine v_aload_n C.1 1 rfl rfl dJ14_copyOf_2_29 ?_
    refine v_chk (fun h8 => ?_)
    refine v_qalen C h8 dJ14_copyOf_2_30 ?_
    refine v_iload_n C.1 2 rfl rfl dJ14_copyOf_2_31 ?_
    refine v_mmin C q444 q445 q133 q446 (by exact Nat.le_of_ble_eq_true rfl) (by exact Nat.le_of_ble_eq_true rfl) dJ14_copyOf_2_32 ?_
    refine v_hcopyQ C q447 q449 q448 q142 (by exact Nat.le_of_ble_eq_true rfl) (by exact Nat.le_of_ble_eq_true rfl) dJ14_copyOf_2_35 (fun u9 => ?_)
    refine v_aload_n C.1 0 rfl rfl dJ14_copyOf_2_38 ?_
    exact v_haret C (Or.inr ⟨_, rfl⟩) dJ14_copyOf_2_39
  · refine v_aload_n C.1 2 rfl rfl dJ14_copyOf_2_13 ?_
    exact v_none
theorem cwJ14_copyOf_2 {t : TT} {G : GH} {l : Launch} {p : Program} {s : State} {m : MethodId} {args : Array Value} {meth : Method} {c : Code} {y0 : MethodName} {cc0 : ByteArray} {nL0 : Nat} {ret0 : Option FieldType} (C : CxH t G l p s m args meth c y0 cc0 nL0 ret0) {index lv mc ms K1 K2 : Nat} (hq : Cond.methodLink y0.cls index yJ14_copyOf_2 ∈ lw_all) (hR : 2 + 1 ≤ lv) : CallB (rmH lv K1 K2) s args y0.cls index yJ14_copyOf_2 cJ14_copyOf_2 4 (some (.array (.object "java/lang/Object"))) (ws_ yJ14_copyOf_2 cJ14_copyOf_2 4 (some (.array (.object "java/lang/Object")))) (rmH 2 mc ms) mc ms 3 ∧ (Cond.static yJ14_copyOf_2).before args s = true :=
  ⟨callB_of 3 C.1.2.2.2.2.1 (lw_meth q440) rfl rfl rfl (C.1.2.2.2.2.1 _ q141) (C.1.2.2.2.2.1 _ hq) (by decide +kernel) ⟨hR, by show 8 + (4 + 11) + 100 * 2 ≤ 100 * lv; omega⟩, C.1.2.2.2.2.1 _ q439⟩
def hJ14_copyOf (p0 : Nat) (p1 : Int32) (u : HS) : Option (OH Nat) :=
  mchk (hC u p0 == 25 || hC u p0 == 35) <|
  mlet (hK u 5) fun a1 =>
  hb (hJ14_copyOf_2 p0 p1 a1 u) fun r6 u5 =>
  hret r6 u5
theorem ctJ14_copyOf (t : TT) (G : GH) (l : Launch) (hl0 : l.stackTraces = false) (p0 : Nat) (p1 : Int32) (u : HS) : CtH mkA t G l yJ14_copyOf cJ14_copyOf 2 (some (.array (.object "java/lang/Object"))) 3 [.ref p0, .int p1] u (hJ14_copyOf p0 p1 u) := by
  refine ctH_of [(0, .ref p0), (1, .int p1)] hl0 rfl (Nat.le_of_ble_eq_true rfl) rfl (fun K1 K2 p e s m args below meth c C => ?_)
  unfold hJ14_copyOf
  refine v_aload_n C.1 0 rfl rfl dJ14_copyOf_0 ?_
  refine v_iload_n C.1 1 rfl rfl dJ14_copyOf_1 ?_
  refine v_aload_n C.1 0 rfl rfl dJ14_copyOf_2 ?_
  refine v_chk (fun h4 => ?_)
  refine v_K (fun ek3 _ => ?_)
  refine v_letE (fun a1 e2 => ?_)
  refine v_getC (mi := a1) C (C := "[Ljava/lang/Object;") q418 q739 q2376 q419 q437 (by rw [e2, ek3]; exact C.2.1.mO) (recQ C (or_2535 h4)) (by exact Nat.le_of_ble_eq_true rfl) (by exact Nat.le_of_ble_eq_true rfl) dJ14_copyOf_3 ?_
  refine v_callSH C [.ref p0, .int p1, .ref a1] [] (ctJ14_copyOf_2 t G l hl0 p0 p1 a1 u) (fun _ _ => cwJ14_copyOf_2 C q438 (by decide)) rfl rfl (by exact Nat.le_of_ble_eq_true rfl) dJ14_copyOf_6 (fun r6 u5 => ?_)
  exact v_haret C (Or.inr ⟨_, rfl⟩) dJ14_copyOf_9
theorem cwJ14_copyOf {t : TT} {G : GH} {l : Launch} {p : Program} {s : State} {m : MethodId} {args : Array Value} {meth : Method} {c : Code} {y0 : MethodName} {cc0 : ByteArray} {nL0 : Nat} {ret0 : Option FieldType} (C : CxH t G l p s m args meth c y0 cc0 nL0 ret0) {index lv mc ms K1 K2 : Nat} (hq : Cond.methodLink y0.cls index yJ14_copyOf ∈ lw_all) (hR : 3 + 1 ≤ lv) : CallB (rmH lv K1 K2) s args y0.cls index yJ14_copyOf cJ14_copyOf 2 (some (.array (.object "java/lang/Object"))) (ws_ yJ14_copyOf cJ14_copyOf 2 (some (.array (.object "java/lang/Object")))) (rmH 3 mc ms) mc ms 2 ∧ (Cond.static yJ14_copyOf).before args s = true :=
  ⟨callB_of 2 C.1.2.2.2.2.1 (lw_meth q417) rfl rfl rfl (C.1.2.2.2.2.1 _ q141) (C.1.2.2.2.2.1 _ hq) (by decide +kernel) ⟨hR, by show 8 + (2 + 11) + 100 * 3 ≤ 100 * lv; omega⟩, C.1.2.2.2.2.1 _ q416⟩
def hJ2_grow_2_20 (p0 : Nat) (p1 : Int32) (x2 : Int32) (u : HS) : Option (OH Nat) :=
  hb (hJ13_newLength x2 (p1 - x2) (x2 >>> ((1 : Int32) &&& 31)) u) fun r2 u1 =>
  mchk (hC u1 p0 == 12) <|
  mderef (hR u1 p0 1) fun a4 =>
  hb (hJ14_copyOf a4 r2 u1) fun r7 u6 =>
  mchk (hC u6 p0 == 12) <|
  mlet (uR u6 p0 1 (some r7)) fun u9 =>
  hret r7 u9
theorem whJ2_grow_2_20 {K1 K2 : Nat} {p : Program} {e : Env} {s : State} {m : MethodId} {args : Array Value} {below : List Frame} {meth : Method} {c : Code} (hl0 : l.stackTraces = false) (C : CxH t G l p s m args meth c yJ2_grow_2 cJ2_grow_2 4 (some (.array (.object "java/lang/Object")))) (p0 : Nat) (p1 : Int32) (x2 : Int32) (u : HS) : VH mkA t G p l e 4 K1 K2 s m args below meth c 4 20 [(0, .ref p0), (1, .int p1), (2, .int x2)] [] u (hJ2_grow_2_20 p0 p1 x2 u) := by
  unfold hJ2_grow_2_20
  refine v_iload_n C.1 2 rfl rfl dJ2_grow_2_20 ?_
  refine v_iload_n C.1 1 rfl rfl dJ2_grow_2_21 ?_
  refine v_iload_n C.1 2 rfl rfl dJ2_grow_2_22 ?_
  refine v_isub C.1 dJ2_grow_2_23 ?_
  refine v_iload_n C.1 2 rfl rfl dJ2_grow_2_24 ?_
  refine v_iconst C.1 1 (by decide) dJ2_grow_2_25 ?_
  refine v_ishr C.1 dJ2_grow_2_26 ?_
  refine v_callSH C [.int x2, .int (p1 - x2), .int (x2 >>> ((1 : Int32) &&& 31))] [] (ctJ13_newLength t G l hl0 x2 (p1 - x2) (x2 >>> ((1 : Int32) &&& 31)) u) (fun _ _ => cwJ13_newLength C q405 (by decide)) rfl rfl (by exact Nat.le_of_ble_eq_true rfl) dJ2_grow_2_27 (fun r2 u1 => ?_)
  refine v_istore_n C.1 [(3, .int r2), (0, .ref p0), (1, .int p1), (2, .int x2)] rfl (by decide) rfl dJ2_grow_2_30 ?_
  refine v_aload_n C.1 1 rfl rfl dJ2_grow_2_31 ?_
  refine v_aload_n C.1 1 rfl rfl dJ2_grow_2_32 ?_
  refine v_chk (fun h3 => ?_)
  refine v_hget C (v := va_rf (hR u1 p0 1)) 11 1 (eq_of_beq h3) (by decide) rfl in_J2 (by decide) (Or.inl q183) (fun _ h => h) (hF_r (ci := 11) (eq_of_beq h3) (by decide)) dJ2_grow_2_33 ?_
  refine v_deref (fun a4 e5 => ?_)
  refine v_iload_n C.1 0 rfl rfl dJ2_grow_2_36 ?_
  refine v_callSH C [.ref a4, .int r2] [.ref p0] (ctJ14_copyOf t G l hl0 a4 r2 u1) (fun _ _ => cwJ14_copyOf C q415 (by decide)) rfl rfl (by exact Nat.le_of_ble_eq_true rfl) dJ2_grow_2_37 (fun r7 u6 => ?_)
  refine v_dup_x1 C.1 rfl rfl dJ2_grow_2_40 ?_
  refine v_chk (fun h8 => ?_)
  refine v_hputR C (some r7) 11 1 (eq_of_beq h8) (by decide) rfl in_J2 tyJ2 tyJ2_ok nmJ2 (by decide) (by decide) q183 (fun _ h => h) (Or.inl rfl) rfl rfl dJ2_grow_2_41 (fun u9 => ?_)
  exact v_haret C (Or.inr ⟨_, rfl⟩) dJ2_grow_2_44
def hJ2_grow_2 (p0 : Nat) (p1 : Int32) (u : HS) : Option (OH Nat) :=
  mchk (hC u p0 == 12) <|
  mderef (hR u p0 1) fun a2 =>
  mchk (hC u a2 == 25 || hC u a2 == 35) <|
  mlet (Int32.ofNat (hN u a2)) fun v5 =>
  if 0 < v5 then
    hJ2_grow_2_20 p0 p1 v5 u
  else
    mchk (hC u p0 == 12) <|
    mderef (hR u p0 1) fun a7 =>
    mlet (hK u 0) fun a9 =>
    if a7 = a9 then
      mchk (!(decide ((iMax 10 p1) < 0)) && decide ((iMax 10 p1).toNatClampNeg ≤ 60000000)) <|
      mlet (hZ u) fun a12 =>
      addc 1 ((iMax 10 p1).toNatClampNeg) <|
      mlet (nA u 5 ((iMax 10 p1).toNatClampNeg)) fun u14 =>
      mchk (hC u14 p0 == 12) <|
      mlet (uR u14 p0 1 (some a12)) fun u17 =>
      hret a12 u17
    else
      hJ2_grow_2_20 p0 p1 v5 u
theorem ctJ2_grow_2 (t : TT) (G : GH) (l : Launch) (hl0 : l.stackTraces = false) (p0 : Nat) (p1 : Int32) (u : HS) : CtH mkA t G l yJ2_grow_2 cJ2_grow_2 4 (some (.array (.object "java/lang/Object"))) 4 [.ref p0, .int p1] u (hJ2_grow_2 p0 p1 u) := by
  refine ctH_of [(0, .ref p0), (1, .int p1)] hl0 rfl (Nat.le_of_ble_eq_true rfl) rfl (fun K1 K2 p e s m args below meth c C => ?_)
  unfold hJ2_grow_2
  refine v_aload_n C.1 0 rfl rfl dJ2_grow_2_0 ?_
  refine v_chk (fun h1 => ?_)
  refine v_hget C (v := va_rf (hR u p0 1)) 11 1 (eq_of_beq h1) (by decide) rfl in_J2 (by decide) (Or.inl q183) (fun _ h => h) (hF_r (ci := 11) (eq_of_beq h1) (by decide)) dJ2_grow_2_1 ?_
  refine v_deref (fun a2 e3 => ?_)
  refine v_chk (fun h4 => ?_)
  refine v_qalen C h4 dJ2_grow_2_4 ?_
  refine v_topi (fun v5 => ?_)
  refine v_istore_n C.1 [(2, .int v5), (0, .ref p0), (1, .int p1)] rfl (by decide) rfl dJ2_grow_2_5 ?_
  refine v_iload_n C.1 0 rfl rfl dJ2_grow_2_6 ?_
  refine v_if_gt C.1 20 (by decide) dJ2_grow_2_7 (fun _ => ?_) (fun _ => ?_)
  · refine v_sub [1, 2, 0] rfl ?_
    exact whJ2_grow_2_20 hl0 C p0 p1 v5 u
  · refine v_aload_n C.1 1 rfl rfl dJ2_grow_2_10 ?_
    refine v_chk (fun h6 => ?_)
    refine v_hget C (v := va_rf (hR u p0 1)) 11 1 (eq_of_beq h6) (by decide) rfl in_J2 (by decide) (Or.inl q183) (fun _ h => h) (hF_r (ci := 11) (eq_of_beq h6) (by decide)) dJ2_grow_2_11 ?_
    refine v_deref (fun a7 e8 => ?_)
    refine v_K (fun ek11 _ => ?_)
    refine v_letE (fun a9 e10 => ?_)
    refine v_gets C (v := .ref a9) (by rw [e10, ek11]; exact C.2.1.dflt) q181 (fun _ h => h) dJ2_grow_2_14 ?_
    refine v_acmp_eq C 45 (by decide) dJ2_grow_2_17 (fun _ => ?_) (fun _ => ?_)
    · refine v_aload_n C.1 1 rfl rfl dJ2_grow_2_45 ?_
      refine v_bipush C.1 10 (by decide) dJ2_grow_2_46 ?_
      refine v_iload_n C.1 2 rfl rfl dJ2_grow_2_48 ?_
      refine v_mmax C q450 q409 q133 q410 (by exact Nat.le_of_ble_eq_true rfl) (by exact Nat.le_of_ble_eq_true rfl) dJ2_grow_2_49 ?_
      refine v_chk (fun h15 => ?_)
      refine v_letE (fun a12 e13 => ?_)
      refine v_hanew C 5 e13 (by decide) q451 (nb_0 h15) rfl (nb_1 h15) dJ2_grow_2_52 (fun u14 => ?_)
      refine v_dup_x1 C.1 rfl rfl dJ2_grow_2_55 ?_
      refine v_chk (fun h16 => ?_)
      refine v_hputR C (some a12) 11 1 (eq_of_beq h16) (by decide) rfl in_J2 tyJ2 tyJ2_ok nmJ2 (by decide) (by decide) q183 (fun _ h => h) (Or.inl rfl) rfl rfl dJ2_grow_2_56 (fun u17 => ?_)
      exact v_haret C (Or.inr ⟨_, rfl⟩) dJ2_grow_2_59
    · refine v_sub [1, 2, 0] rfl ?_
      exact whJ2_grow_2_20 hl0 C p0 p1 v5 u
theorem cwJ2_grow_2 {t : TT} {G : GH} {l : Launch} {p : Program} {s : State} {m : MethodId} {args : Array Value} {meth : Method} {c : Code} {y0 : MethodName} {cc0 : ByteArray} {nL0 : Nat} {ret0 : Option FieldType} (C : CxH t G l p s m args meth c y0 cc0 nL0 ret0) {index lv mc ms K1 K2 : Nat} (hq : Cond.methodLink y0.cls index yJ2_grow_2 ∈ lw_all) (hR : 4 + 1 ≤ lv) : CallW (rmH lv K1 K2) s args y0.cls RJ2 index yJ2_grow_2 cJ2_grow_2 4 (some (.array (.object "java/lang/Object"))) (ws_ yJ2_grow_2 cJ2_grow_2 4 (some (.array (.object "java/lang/Object")))) (rmH 4 mc ms) mc ms 1 :=
  cwV 1 C.1.2.2.2.2.1 (lw_V hq q403 qs4 q125 q404) rfl rfl rfl (by decide +kernel) ⟨hR, by show 8 + (4 + 11) + 100 * 4 ≤ 100 * lv; omega⟩
def hJ2_grow (p0 : Nat) (u : HS) : Option (OH Nat) :=
  mchk (hC u p0 == 12) <|
  mchk (hC u p0 == 12) <|
  hb (hJ2_grow_2 p0 ((hI u p0 2) + 1) u) fun r3 u2 =>
  hret r3 u2
theorem ctJ2_grow (t : TT) (G : GH) (l : Launch) (hl0 : l.stackTraces = false) (p0 : Nat) (u : HS) : CtH mkA t G l yJ2_grow cJ2_grow 1 (some (.array (.object "java/lang/Object"))) 5 [.ref p0] u (hJ2_grow p0 u) := by
  refine ctH_of [(0, .ref p0)] hl0 rfl (Nat.le_of_ble_eq_true rfl) rfl (fun K1 K2 p e s m args below meth c C => ?_)
  unfold hJ2_grow
  refine v_aload_n C.1 0 rfl rfl dJ2_grow_0 ?_
  refine v_aload_n C.1 0 rfl rfl dJ2_grow_1 ?_
  refine v_chk (fun h1 => ?_)
  refine v_hget C (v := .int (hI u p0 2)) 11 2 (eq_of_beq h1) (by decide) rfl in_J2 (by decide) (Or.inl q184) (fun _ h => h) (hF_i (ci := 11) (eq_of_beq h1) (by decide)) dJ2_grow_2 ?_
  refine v_iconst C.1 1 (by decide) dJ2_grow_5 ?_
  refine v_iadd C.1 dJ2_grow_6 ?_
  refine v_chk (fun h4 => ?_)
  refine v_callVH C [.int ((hI u p0 2) + 1)] [] (ctJ2_grow_2 t G l hl0 p0 ((hI u p0 2) + 1) u) (fun _ _ => cwJ2_grow_2 C q401 (by decide)) (recO C (ci := 11) (eq_of_beq h4) (by decide) rfl) rfl rfl (by exact Nat.le_of_ble_eq_true rfl) dJ2_grow_7 (fun r3 u2 => ?_)
  exact v_haret C (Or.inr ⟨_, rfl⟩) dJ2_grow_10
theorem cwJ2_grow {t : TT} {G : GH} {l : Launch} {p : Program} {s : State} {m : MethodId} {args : Array Value} {meth : Method} {c : Code} {y0 : MethodName} {cc0 : ByteArray} {nL0 : Nat} {ret0 : Option FieldType} (C : CxH t G l p s m args meth c y0 cc0 nL0 ret0) {index lv mc ms K1 K2 : Nat} (hq : Cond.methodLink y0.cls index yJ2_grow ∈ lw_all) (hR : 5 + 1 ≤ lv) : CallW (rmH lv K1 K2) s args y0.cls RJ2 index yJ2_grow cJ2_grow 1 (some (.array (.object "java/lang/Object"))) (ws_ yJ2_grow cJ2_grow 1 (some (.array (.object "java/lang/Object")))) (rmH 5 mc ms) mc ms 0 :=
  cwV 0 C.1.2.2.2.2.1 (lw_V hq q399 qs3 q125 q400) rfl rfl rfl (by decide +kernel) ⟨hR, by show 8 + (1 + 11) + 100 * 5 ≤ 100 * lv; omega⟩
def hJ2_add_2 (p0 : Nat) (p1 : Nat) (p2 : Nat) (p3 : Int32) (u : HS) : Option (OH Unit) :=
  mchk (hC u p2 == 25 || hC u p2 == 35) <|
  if p3 = (Int32.ofNat (hN u p2)) then
    mchk (hC u p0 == 12) <|
    hb (hJ2_grow p0 u) fun r3 u2 =>
    mchk (inA u2 p3 r3 25) <|
    mchk (okO (hC u2 p1)) <|
    mlet (uQ u2 r3 p3.toNatClampNeg (some p1)) fun u5 =>
    mchk (hC u5 p0 == 12) <|
    mlet (uI u5 p0 2 (p3 + 1)) fun u9 =>
    hret () u9
  else
    mchk (inA u p3 p2 25) <|
    mchk (okO (hC u p1)) <|
    mlet (uQ u p2 p3.toNatClampNeg (some p1)) fun u2 =>
    mchk (hC u2 p0 == 12) <|
    mlet (uI u2 p0 2 (p3 + 1)) fun u6 =>
    hret () u6
theorem ctJ2_add_2 (t : TT) (G : GH) (l : Launch) (hl0 : l.stackTraces = false) (p0 : Nat) (p1 : Nat) (p2 : Nat) (p3 : Int32) (u : HS) : CtH mkU t G l yJ2_add_2 cJ2_add_2 4 none 6 [.ref p0, .ref p1, .ref p2, .int p3] u (hJ2_add_2 p0 p1 p2 p3 u) := by
  refine ctH_of [(0, .ref p0), (1, .ref p1), (2, .ref p2), (3, .int p3)] hl0 rfl (Nat.le_of_ble_eq_true rfl) rfl (fun K1 K2 p e s m args below meth c C => ?_)
  unfold hJ2_add_2
  refine v_iload_n C.1 3 rfl rfl dJ2_add_2_0 ?_
  refine v_aload_n C.1 2 rfl rfl dJ2_add_2_1 ?_
  refine v_chk (fun h1 => ?_)
  refine v_qalen C h1 dJ2_add_2_2 ?_
  refine v_icmp_ne C.1 11 (by decide) dJ2_add_2_3 (fun _ => ?_) (fun _ => ?_)
  · refine v_aload_n C.1 0 rfl rfl dJ2_add_2_6 ?_
    refine v_chk (fun h4 => ?_)
    refine v_callVH C [] [] (ctJ2_grow t G l hl0 p0 u) (fun _ _ => cwJ2_grow C q397 (by decide)) (recO C (ci := 11) (eq_of_beq h4) (by decide) rfl) rfl rfl (by exact Nat.le_of_ble_eq_true rfl) dJ2_add_2_7 (fun r3 u2 => ?_)
    refine v_astore_n C.1 [(2, .ref r3), (0, .ref p0), (1, .ref p1), (3, .int p3)] rfl (by decide) rfl dJ2_add_2_10 ?_
    refine v_aload_n C.1 0 rfl rfl dJ2_add_2_11 ?_
    refine v_iload_n C.1 3 rfl rfl dJ2_add_2_12 ?_
    refine v_aload_n C.1 2 rfl rfl dJ2_add_2_13 ?_
    refine v_chk (fun h6 => ?_)
    refine v_chk (fun h7 => ?_)
    refine v_haast C 5 (Or.inl ⟨rfl, h7⟩) h6 dJ2_add_2_14 (fun u5 => ?_)
    refine v_aload_n C.1 1 rfl rfl dJ2_add_2_15 ?_
    refine v_iload_n C.1 3 rfl rfl dJ2_add_2_16 ?_
    refine v_iconst C.1 1 (by decide) dJ2_add_2_17 ?_
    refine v_iadd C.1 dJ2_add_2_18 ?_
    refine v_chk (fun h8 => ?_)
    refine v_hputI C 11 2 (eq_of_beq h8) (by decide) rfl in_J2 tyJ2 tyJ2_ok nmJ2 (by decide) (by decide) q184 (fun _ h => h) (Or.inl rfl) ⟨rfl, rfl⟩ dJ2_add_2_19 (fun u9 => ?_)
    exact v_hvret C dJ2_add_2_22
  · refine v_aload_n C.1 2 rfl rfl dJ2_add_2_11 ?_
    refine v_iload_n C.1 3 rfl rfl dJ2_add_2_12 ?_
    refine v_aload_n C.1 1 rfl rfl dJ2_add_2_13 ?_
    refine v_chk (fun h3 => ?_)
    refine v_chk (fun h4 => ?_)
    refine v_haast C 5 (Or.inl ⟨rfl, h4⟩) h3 dJ2_add_2_14 (fun u2 => ?_)
    refine v_aload_n C.1 0 rfl rfl dJ2_add_2_15 ?_
    refine v_iload_n C.1 3 rfl rfl dJ2_add_2_16 ?_
    refine v_iconst C.1 1 (by decide) dJ2_add_2_17 ?_
    refine v_iadd C.1 dJ2_add_2_18 ?_
    refine v_chk (fun h5 => ?_)
    refine v_hputI C 11 2 (eq_of_beq h5) (by decide) rfl in_J2 tyJ2 tyJ2_ok nmJ2 (by decide) (by decide) q184 (fun _ h => h) (Or.inl rfl) ⟨rfl, rfl⟩ dJ2_add_2_19 (fun u6 => ?_)
    exact v_hvret C dJ2_add_2_22
theorem cwJ2_add_2 {t : TT} {G : GH} {l : Launch} {p : Program} {s : State} {m : MethodId} {args : Array Value} {meth : Method} {c : Code} {y0 : MethodName} {cc0 : ByteArray} {nL0 : Nat} {ret0 : Option FieldType} (C : CxH t G l p s m args meth c y0 cc0 nL0 ret0) {index lv mc ms K1 K2 : Nat} (hq : Cond.methodLink y0.cls index yJ2_add_2 ∈ lw_all) (hR : 6 + 1 ≤ lv) : CallW (rmH lv K1 K2) s args y0.cls RJ2 index yJ2_add_2 cJ2_add_2 4 none (ws_ yJ2_add_2 cJ2_add_2 4 none) (rmH 6 mc ms) mc ms 3 :=
  cwV 3 C.1.2.2.2.2.1 (lw_V hq q395 qs2 q125 q396) rfl rfl rfl (by decide +kernel) ⟨hR, by show 8 + (4 + 11) + 100 * 6 ≤ 100 * lv; omega⟩
def hJ2_add (p0 : Nat) (p1 : Nat) (u : HS) : Option (OH Int32) :=
  mchk (hC u p0 == 12) <|
  mchk (hC u p0 == 12) <|
  mlet (uI u p0 0 ((hI u p0 0) + 1)) fun u3 =>
  mchk (hC u3 p0 == 12) <|
  mderef (hR u3 p0 1) fun a5 =>
  mchk (hC u3 p0 == 12) <|
  mchk (hC u3 p0 == 12) <|
  hb (hJ2_add_2 p0 p1 a5 (hI u3 p0 2) u3) fun _ u8 =>
  hz id 1 u8
theorem ctJ2_add (t : TT) (G : GH) (l : Launch) (hl0 : l.stackTraces = false) (p0 : Nat) (p1 : Nat) (u : HS) : CtH mkI t G l yJ2_add cJ2_add 2 (some .boolean) 7 [.ref p0, .ref p1] u (hJ2_add p0 p1 u) := by
  refine ctH_of [(0, .ref p0), (1, .ref p1)] hl0 rfl (Nat.le_of_ble_eq_true rfl) rfl (fun K1 K2 p e s m args below meth c C => ?_)
  unfold hJ2_add
  refine v_aload_n C.1 0 rfl rfl dJ2_add_0 ?_
  refine v_dup C.1 rfl dJ2_add_1 ?_
  refine v_chk (fun h1 => ?_)
  refine v_hget C (v := .int (hI u p0 0)) 11 0 (eq_of_beq h1) (by decide) rfl in_J2 (by decide) (Or.inl q186) (fun x h9 => u_same (C.1.2.2.2.2.1 _ q187) x h9) (hF_i (ci := 11) (eq_of_beq h1) (by decide)) dJ2_add_2 ?_
  refine v_iconst C.1 1 (by decide) dJ2_add_5 ?_
  refine v_iadd C.1 dJ2_add_6 ?_
  refine v_chk (fun h2 => ?_)
  refine v_hputI C 11 0 (eq_of_beq h2) (by decide) rfl in_J2 tyJ2 tyJ2_ok nmJ2 (by decide) (by decide) q186 (fun x h9 => u_same (C.1.2.2.2.2.1 _ q187) x h9) (Or.inl rfl) ⟨rfl, rfl⟩ dJ2_add_7 (fun u3 => ?_)
  refine v_aload_n C.1 0 rfl rfl dJ2_add_10 ?_
  refine v_aload_n C.1 1 rfl rfl dJ2_add_11 ?_
  refine v_aload_n C.1 0 rfl rfl dJ2_add_12 ?_
  refine v_chk (fun h4 => ?_)
  refine v_hget C (v := va_rf (hR u3 p0 1)) 11 1 (eq_of_beq h4) (by decide) rfl in_J2 (by decide) (Or.inl q183) (fun _ h => h) (hF_r (ci := 11) (eq_of_beq h4) (by decide)) dJ2_add_13 ?_
  refine v_deref (fun a5 e6 => ?_)
  refine v_aload_n C.1 0 rfl rfl dJ2_add_16 ?_
  refine v_chk (fun h7 => ?_)
  refine v_hget C (v := .int (hI u3 p0 2)) 11 2 (eq_of_beq h7) (by decide) rfl in_J2 (by decide) (Or.inl q184) (fun _ h => h) (hF_i (ci := 11) (eq_of_beq h7) (by decide)) dJ2_add_17 ?_
  refine v_chk (fun h9 => ?_)
  refine v_callVH C [.ref p1, .ref a5, .int (hI u3 p0 2)] [] (ctJ2_add_2 t G l hl0 p0 p1 a5 (hI u3 p0 2) u3) (fun _ _ => cwJ2_add_2 C q393 (by decide)) (recO C (ci := 11) (eq_of_beq h9) (by decide) rfl) rfl rfl (by exact Nat.le_of_ble_eq_true rfl) dJ2_add_20 (fun _ u8 => ?_)
  refine v_iconst C.1 1 (by decide) dJ2_add_23 ?_
  exact v_hzret C dJ2_add_24
theorem cwJ2_addF {t : TT} {G : GH} {l : Launch} {p : Program} {s : State} {m : MethodId} {args : Array Value} {meth : Method} {c : Code} {y0 : MethodName} {cc0 : ByteArray} {nL0 : Nat} {ret0 : Option FieldType} (C : CxH t G l p s m args meth c y0 cc0 nL0 ret0) {index lv mc ms K1 K2 : Nat} (hq : Cond.methodLink y0.cls index (⟨"java/util/List", "add", "(Ljava/lang/Object;)Z"⟩ : MethodName) ∈ lw_all) (hR : 7 + 1 ≤ lv) : va_CI (rmH lv K1 K2) s args y0.cls RJ2 index (⟨"java/util/List", "add", "(Ljava/lang/Object;)Z"⟩ : MethodName) yJ2_add cJ2_add 2 (some .boolean) (ws_ yJ2_add cJ2_add 2 (some .boolean)) (rmH 7 mc ms) mc ms 1 :=
  va_cwF 1 C.1.2.2.2.2.1 (lw_F hq q388 q390 q125 q392) rfl rfl rfl (C.1.2.2.2.2.2.2.2.2.2.2.1 _ (List.mem_of_getElem? (i := 0) rfl)) (by decide +kernel) ⟨hR, by show 8 + (2 + 11) + 100 * 7 ≤ 100 * lv; omega⟩
def hJ2_size (p0 : Nat) (u : HS) : Option (OH Int32) :=
  mchk (hC u p0 == 12) <|
  hret (hI u p0 2) u
theorem ctJ2_size (t : TT) (G : GH) (l : Launch) (hl0 : l.stackTraces = false) (p0 : Nat) (u : HS) : CtH mkI t G l yJ2_size cJ2_size 1 (some .int) 2 [.ref p0] u (hJ2_size p0 u) := by
  refine ctH_of [(0, .ref p0)] hl0 rfl (Nat.le_of_ble_eq_true rfl) rfl (fun K1 K2 p e s m args below meth c C => ?_)
  unfold hJ2_size
  refine v_aload_n C.1 0 rfl rfl dJ2_size_0 ?_
  refine v_chk (fun h1 => ?_)
  refine v_hget C (v := .int (hI u p0 2)) 11 2 (eq_of_beq h1) (by decide) rfl in_J2 (by decide) (Or.inl q184) (fun _ h => h) (hF_i (ci := 11) (eq_of_beq h1) (by decide)) dJ2_size_1 ?_
  exact v_hiret C dJ2_size_4
theorem cwJ2_sizeF {t : TT} {G : GH} {l : Launch} {p : Program} {s : State} {m : MethodId} {args : Array Value} {meth : Method} {c : Code} {y0 : MethodName} {cc0 : ByteArray} {nL0 : Nat} {ret0 : Option FieldType} (C : CxH t G l p s m args meth c y0 cc0 nL0 ret0) {index lv mc ms K1 K2 : Nat} (hq : Cond.methodLink y0.cls index (⟨"java/util/List", "size", "()I"⟩ : MethodName) ∈ lw_all) (hR : 2 + 1 ≤ lv) : va_CI (rmH lv K1 K2) s args y0.cls RJ2 index (⟨"java/util/List", "size", "()I"⟩ : MethodName) yJ2_size cJ2_size 1 (some .int) (ws_ yJ2_size cJ2_size 1 (some .int)) (rmH 2 mc ms) mc ms 0 :=
  va_cwF 0 C.1.2.2.2.2.1 (lw_F hq q456 q458 q125 q460) rfl rfl rfl (C.1.2.2.2.2.2.2.2.2.2.2.1 _ (List.mem_of_getElem? (i := 1) rfl)) (by decide +kernel) ⟨hR, by show 8 + (1 + 11) + 100 * 2 ≤ 100 * lv; omega⟩
def hJ11_checkIndex (p0 : Int32) (p1 : Int32) (p2 : Option Nat) (u : HS) : Option (OH Int32) :=
  if p0 < 0 then
    none
  else
    if p0 < p1 then
      hret p0 u
    else
      none
theorem ctJ11_checkIndex (t : TT) (G : GH) (l : Launch) (hl0 : l.stackTraces = false) (p0 : Int32) (p1 : Int32) (p2 : Option Nat) (u : HS) : CtH mkI t G l yJ11_checkIndex cJ11_checkIndex 3 (some .int) 2 [.int p0, .int p1, va_rf p2] u (hJ11_checkIndex p0 p1 p2 u) := by
  refine ctH_of [(0, .int p0), (1, .int p1), (2, va_rf p2)] hl0 rfl (by cases p2 <;> exact Nat.le_of_ble_eq_true rfl) (by cases p2 <;> rfl) (fun K1 K2 p e s m args below meth c C => ?_)
  unfold hJ11_checkIndex
  refine v_iload_n C.1 0 rfl rfl dJ11_checkIndex_0 ?_
  refine v_if_lt C.1 9 (by decide) dJ11_checkIndex_1 (fun _ => ?_) (fun _ => ?_)
  · refine v_aload_nO C.1 2 rfl rfl dJ11_checkIndex_9 ?_
    refine v_iload_n C.1 0 rfl rfl dJ11_checkIndex_10 ?_
    refine v_iload_n C.1 1 rfl rfl dJ11_checkIndex_11 ?_
    exact v_none
  · refine v_iload_n C.1 0 rfl rfl dJ11_checkIndex_4 ?_
    refine v_iload_n C.1 1 rfl rfl dJ11_checkIndex_5 ?_
    refine v_icmp_lt C.1 16 (by decide) dJ11_checkIndex_6 (fun _ => ?_) (fun _ => ?_)
    · refine v_iload_n C.1 0 rfl rfl dJ11_checkIndex_16 ?_
      exact v_hiret C dJ11_checkIndex_17
    · refine v_aload_nO C.1 2 rfl rfl dJ11_checkIndex_9 ?_
      refine v_iload_n C.1 0 rfl rfl dJ11_checkIndex_10 ?_
      refine v_iload_n C.1 1 rfl rfl dJ11_checkIndex_11 ?_
      exact v_none
theorem cwJ11_checkIndex {t : TT} {G : GH} {l : Launch} {p : Program} {s : State} {m : MethodId} {args : Array Value} {meth : Method} {c : Code} {y0 : MethodName} {cc0 : ByteArray} {nL0 : Nat} {ret0 : Option FieldType} (C : CxH t G l p s m args meth c y0 cc0 nL0 ret0) {index lv mc ms K1 K2 : Nat} (hq : Cond.methodLink y0.cls index yJ11_checkIndex ∈ lw_all) (hR : 2 + 1 ≤ lv) : CallB (rmH lv K1 K2) s args y0.cls index yJ11_checkIndex cJ11_checkIndex 3 (some .int) (ws_ yJ11_checkIndex cJ11_checkIndex 3 (some .int)) (rmH 2 mc ms) mc ms 3 ∧ (Cond.static yJ11_checkIndex).before args s = true :=
  ⟨callB_of 3 C.1.2.2.2.2.1 (lw_meth q475) rfl rfl rfl (C.1.2.2.2.2.1 _ q137) (C.1.2.2.2.2.1 _ hq) (by decide +kernel) ⟨hR, by show 8 + (3 + 11) + 100 * 2 ≤ 100 * lv; omega⟩, C.1.2.2.2.2.1 _ q474⟩
def hJ17_checkIndex (p0 : Int32) (p1 : Int32) (u : HS) : Option (OH Int32) :=
  hb (hJ11_checkIndex p0 p1 none u) fun r2 u1 =>
  hret r2 u1
theorem ctJ17_checkIndex (t : TT) (G : GH) (l : Launch) (hl0 : l.stackTraces = false) (p0 : Int32) (p1 : Int32) (u : HS) : CtH mkI t G l yJ17_checkIndex cJ17_checkIndex 2 (some .int) 3 [.int p0, .int p1] u (hJ17_checkIndex p0 p1 u) := by
  refine ctH_of [(0, .int p0), (1, .int p1)] hl0 rfl (Nat.le_of_ble_eq_true rfl) rfl (fun K1 K2 p e s m args below meth c C => ?_)
  unfold hJ17_checkIndex
  refine v_iload_n C.1 0 rfl rfl dJ17_checkIndex_0 ?_
  refine v_iload_n C.1 1 rfl rfl dJ17_checkIndex_1 ?_
  refine v_null C dJ17_checkIndex_2 ?_
  refine v_callSH C [.int p0, .int p1, .null] [] (ctJ11_checkIndex t G l hl0 p0 p1 none u) (fun _ _ => cwJ11_checkIndex C q473 (by decide)) rfl rfl (by exact Nat.le_of_ble_eq_true rfl) dJ17_checkIndex_3 (fun r2 u1 => ?_)
  exact v_hiret C dJ17_checkIndex_6
theorem cwJ17_checkIndex {t : TT} {G : GH} {l : Launch} {p : Program} {s : State} {m : MethodId} {args : Array Value} {meth : Method} {c : Code} {y0 : MethodName} {cc0 : ByteArray} {nL0 : Nat} {ret0 : Option FieldType} (C : CxH t G l p s m args meth c y0 cc0 nL0 ret0) {index lv mc ms K1 K2 : Nat} (hq : Cond.methodLink y0.cls index yJ17_checkIndex ∈ lw_all) (hR : 3 + 1 ≤ lv) : CallB (rmH lv K1 K2) s args y0.cls index yJ17_checkIndex cJ17_checkIndex 2 (some .int) (ws_ yJ17_checkIndex cJ17_checkIndex 2 (some .int)) (rmH 3 mc ms) mc ms 2 ∧ (Cond.static yJ17_checkIndex).before args s = true :=
  ⟨callB_of 2 C.1.2.2.2.2.1 (lw_meth q472) rfl rfl rfl (C.1.2.2.2.2.1 _ q146) (C.1.2.2.2.2.1 _ hq) (by decide +kernel) ⟨hR, by show 8 + (2 + 11) + 100 * 3 ≤ 100 * lv; omega⟩, C.1.2.2.2.2.1 _ q471⟩
def hJ2_fastRemove (p0 : Nat) (p1 : Nat) (p2 : Int32) (u : HS) : Option (OH Unit) :=
  mchk (hC u p0 == 12) <|
  mchk (hC u p0 == 12) <|
  mlet (uI u p0 0 ((hI u p0 0) + 1)) fun u3 =>
  mchk (hC u3 p0 == 12) <|
  mlet ((hI u3 p0 2) - 1) fun v5 =>
  if ((hI u3 p0 2) - 1) ≤ p2 then
    mchk (hC u3 p0 == 12) <|
    mlet (uI u3 p0 2 v5) fun u7 =>
    mchk (inA u7 v5 p1 25) <|
    mlet (uQ u7 p1 v5.toNatClampNeg none) fun u8 =>
    hret () u8
  else
    mchk (cpQ u3 p1 (p2 + 1) p1 p2 (v5 - p2)) <|
    mlet (uQr u3 p1 (va_cpy (hQ u3 p1) (hQ u3 p1) (p2 + 1).toNatClampNeg p2.toNatClampNeg (v5 - p2).toNatClampNeg)) fun u6 =>
    mchk (hC u6 p0 == 12) <|
    mlet (uI u6 p0 2 v5) fun u8 =>
    mchk (inA u8 v5 p1 25) <|
    mlet (uQ u8 p1 v5.toNatClampNeg none) fun u9 =>
    hret () u9
theorem ctJ2_fastRemove (t : TT) (G : GH) (l : Launch) (hl0 : l.stackTraces = false) (p0 : Nat) (p1 : Nat) (p2 : Int32) (u : HS) : CtH mkU t G l yJ2_fastRemove cJ2_fastRemove 4 none 2 [.ref p0, .ref p1, .int p2] u (hJ2_fastRemove p0 p1 p2 u) := by
  refine ctH_of [(0, .ref p0), (1, .ref p1), (2, .int p2)] hl0 rfl (Nat.le_of_ble_eq_true rfl) rfl (fun K1 K2 p e s m args below meth c C => ?_)
  unfold hJ2_fastRemove
  refine v_aload_n C.1 0 rfl rfl dJ2_fastRemove_0 ?_
  refine v_dup C.1 rfl dJ2_fastRemove_1 ?_
  refine v_chk (fun h1 => ?_)
  refine v_hget C (v := .int (hI u p0 0)) 11 0 (eq_of_beq h1) (by decide) rfl in_J2 (by decide) (Or.inl q186) (fun x h9 => u_same (C.1.2.2.2.2.1 _ q187) x h9) (hF_i (ci := 11) (eq_of_beq h1) (by decide)) dJ2_fastRemove_2 ?_
  refine v_iconst C.1 1 (by decide) dJ2_fastRemove_5 ?_
  refine v_iadd C.1 dJ2_fastRemove_6 ?_
  refine v_chk (fun h2 => ?_)
  refine v_hputI C 11 0 (eq_of_beq h2) (by decide) rfl in_J2 tyJ2 tyJ2_ok nmJ2 (by decide) (by decide) q186 (fun x h9 => u_same (C.1.2.2.2.2.1 _ q187) x h9) (Or.inl rfl) ⟨rfl, rfl⟩ dJ2_fastRemove_7 (fun u3 => ?_)
  refine v_aload_n C.1 0 rfl rfl dJ2_fastRemove_10 ?_
  refine v_chk (fun h4 => ?_)
  refine v_hget C (v := .int (hI u3 p0 2)) 11 2 (eq_of_beq h4) (by decide) rfl in_J2 (by decide) (Or.inl q184) (fun _ h => h) (hF_i (ci := 11) (eq_of_beq h4) (by decide)) dJ2_fastRemove_11 ?_
  refine v_iconst C.1 1 (by decide) dJ2_fastRemove_14 ?_
  refine v_isub C.1 dJ2_fastRemove_15 ?_
  refine v_dup C.1 rfl dJ2_fastRemove_16 ?_
  refine v_topi (fun v5 => ?_)
  refine v_istore_n C.1 [(3, .int v5), (0, .ref p0), (1, .ref p1), (2, .int p2)] rfl (by decide) rfl dJ2_fastRemove_17 ?_
  refine v_iload_n C.1 3 rfl rfl dJ2_fastRemove_18 ?_
  refine v_icmp_le C.1 34 (by decide) dJ2_fastRemove_19 (fun _ => ?_) (fun _ => ?_)
  · refine v_aload_n C.1 2 rfl rfl dJ2_fastRemove_34 ?_
    refine v_aload_n C.1 1 rfl rfl dJ2_fastRemove_35 ?_
    refine v_iload_n C.1 0 rfl rfl dJ2_fastRemove_36 ?_
    refine v_dup_x1 C.1 rfl rfl dJ2_fastRemove_37 ?_
    refine v_chk (fun h6 => ?_)
    refine v_hputI C 11 2 (eq_of_beq h6) (by decide) rfl in_J2 tyJ2 tyJ2_ok nmJ2 (by decide) (by decide) q184 (fun _ h => h) (Or.inl rfl) ⟨rfl, rfl⟩ dJ2_fastRemove_38 (fun u7 => ?_)
    refine v_null C dJ2_fastRemove_41 ?_
    refine v_chk (fun h9 => ?_)
    refine v_haastN C h9 dJ2_fastRemove_42 (fun u8 => ?_)
    exact v_hvret C dJ2_fastRemove_43
  · refine v_aload_n C.1 2 rfl rfl dJ2_fastRemove_22 ?_
    refine v_iload_n C.1 3 rfl rfl dJ2_fastRemove_23 ?_
    refine v_iconst C.1 1 (by decide) dJ2_fastRemove_24 ?_
    refine v_iadd C.1 dJ2_fastRemove_25 ?_
    refine v_aload_n C.1 2 rfl rfl dJ2_fastRemove_26 ?_
    refine v_iload_n C.1 3 rfl rfl dJ2_fastRemove_27 ?_
    refine v_iload_n C.1 0 rfl rfl dJ2_fastRemove_28 ?_
    refine v_iload_n C.1 3 rfl rfl dJ2_fastRemove_29 ?_
    refine v_isub C.1 dJ2_fastRemove_30 ?_
    refine v_hcopyQ C q480 q449 q448 q142 (by exact Nat.le_of_ble_eq_true rfl) (by exact Nat.le_of_ble_eq_true rfl) dJ2_fastRemove_31 (fun u6 => ?_)
    refine v_aload_n C.1 2 rfl rfl dJ2_fastRemove_34 ?_
    refine v_aload_n C.1 1 rfl rfl dJ2_fastRemove_35 ?_
    refine v_iload_n C.1 0 rfl rfl dJ2_fastRemove_36 ?_
    refine v_dup_x1 C.1 rfl rfl dJ2_fastRemove_37 ?_
    refine v_chk (fun h7 => ?_)
    refine v_hputI C 11 2 (eq_of_beq h7) (by decide) rfl in_J2 tyJ2 tyJ2_ok nmJ2 (by decide) (by decide) q184 (fun _ h => h) (Or.inl rfl) ⟨rfl, rfl⟩ dJ2_fastRemove_38 (fun u8 => ?_)
    refine v_null C dJ2_fastRemove_41 ?_
    refine v_chk (fun h10 => ?_)
    refine v_haastN C h10 dJ2_fastRemove_42 (fun u9 => ?_)
    exact v_hvret C dJ2_fastRemove_43
theorem cwJ2_fastRemove {t : TT} {G : GH} {l : Launch} {p : Program} {s : State} {m : MethodId} {args : Array Value} {meth : Method} {c : Code} {y0 : MethodName} {cc0 : ByteArray} {nL0 : Nat} {ret0 : Option FieldType} (C : CxH t G l p s m args meth c y0 cc0 nL0 ret0) {index lv mc ms K1 K2 : Nat} (hq : Cond.methodLink y0.cls index yJ2_fastRemove ∈ lw_all) (hR : 2 + 1 ≤ lv) : CallW (rmH lv K1 K2) s args y0.cls RJ2 index yJ2_fastRemove cJ2_fastRemove 4 none (ws_ yJ2_fastRemove cJ2_fastRemove 4 none) (rmH 2 mc ms) mc ms 2 :=
  cwV 2 C.1.2.2.2.2.1 (lw_V hq q478 qs5 q125 q479) rfl rfl rfl (by decide +kernel) ⟨hR, by show 8 + (4 + 11) + 100 * 2 ≤ 100 * lv; omega⟩
def hJ2_remove (p0 : Nat) (p1 : Int32) (u : HS) : Option (OH Nat) :=
  mchk (hC u p0 == 12) <|
  hb (hJ17_checkIndex p1 (hI u p0 2) u) fun r3 u2 =>
  mchk (hC u2 p0 == 12) <|
  mderef (hR u2 p0 1) fun a5 =>
  mchk (inA u2 p1 a5 25) <|
  mderef (hQ u2 a5 p1.toNatClampNeg) fun a8 =>
  mchk (hC u2 p0 == 12) <|
  hb (hJ2_fastRemove p0 a5 p1 u2) fun _ u10 =>
  hret a8 u10
theorem ctJ2_remove (t : TT) (G : GH) (l : Launch) (hl0 : l.stackTraces = false) (p0 : Nat) (p1 : Int32) (u : HS) : CtH mkA t G l yJ2_remove cJ2_remove 4 (some (.object "java/lang/Object")) 4 [.ref p0, .int p1] u (hJ2_remove p0 p1 u) := by
  refine ctH_of [(0, .ref p0), (1, .int p1)] hl0 rfl (Nat.le_of_ble_eq_true rfl) rfl (fun K1 K2 p e s m args below meth c C => ?_)
  unfold hJ2_remove
  refine v_iload_n C.1 1 rfl rfl dJ2_remove_0 ?_
  refine v_aload_n C.1 0 rfl rfl dJ2_remove_1 ?_
  refine v_chk (fun h1 => ?_)
  refine v_hget C (v := .int (hI u p0 2)) 11 2 (eq_of_beq h1) (by decide) rfl in_J2 (by decide) (Or.inl q184) (fun _ h => h) (hF_i (ci := 11) (eq_of_beq h1) (by decide)) dJ2_remove_2 ?_
  refine v_callSH C [.int p1, .int (hI u p0 2)] [] (ctJ17_checkIndex t G l hl0 p1 (hI u p0 2) u) (fun _ _ => cwJ17_checkIndex C q470 (by decide)) rfl rfl (by exact Nat.le_of_ble_eq_true rfl) dJ2_remove_5 (fun r3 u2 => ?_)
  refine v_pop C.1 rfl dJ2_remove_8 ?_
  refine v_aload_n C.1 0 rfl rfl dJ2_remove_9 ?_
  refine v_chk (fun h4 => ?_)
  refine v_hget C (v := va_rf (hR u2 p0 1)) 11 1 (eq_of_beq h4) (by decide) rfl in_J2 (by decide) (Or.inl q183) (fun _ h => h) (hF_r (ci := 11) (eq_of_beq h4) (by decide)) dJ2_remove_10 ?_
  refine v_deref (fun a5 e6 => ?_)
  refine v_astore_n C.1 [(2, .ref a5), (0, .ref p0), (1, .int p1)] rfl (by decide) rfl dJ2_remove_13 ?_
  refine v_aload_n C.1 0 rfl rfl dJ2_remove_14 ?_
  refine v_iload_n C.1 2 rfl rfl dJ2_remove_15 ?_
  refine v_chk (fun h7 => ?_)
  refine v_haald C 5 (by decide) h7 dJ2_remove_16 ?_
  refine v_deref (fun a8 e9 => ?_)
  refine v_astore_n C.1 [(3, .ref a8), (2, .ref a5), (0, .ref p0), (1, .int p1)] rfl (by decide) rfl dJ2_remove_17 ?_
  refine v_aload_n C.1 2 rfl rfl dJ2_remove_18 ?_
  refine v_aload_n C.1 1 rfl rfl dJ2_remove_19 ?_
  refine v_iload_n C.1 3 rfl rfl dJ2_remove_20 ?_
  refine v_chk (fun h11 => ?_)
  refine v_callVH C [.ref a5, .int p1] [] (ctJ2_fastRemove t G l hl0 p0 a5 p1 u2) (fun _ _ => cwJ2_fastRemove C q476 (by decide)) (recO C (ci := 11) (eq_of_beq h11) (by decide) rfl) rfl rfl (by exact Nat.le_of_ble_eq_true rfl) dJ2_remove_21 (fun _ u10 => ?_)
  refine v_aload_n C.1 0 rfl rfl dJ2_remove_24 ?_
  exact v_haret C (Or.inl ⟨_, rfl⟩) dJ2_remove_25
theorem cwJ2_removeF {t : TT} {G : GH} {l : Launch} {p : Program} {s : State} {m : MethodId} {args : Array Value} {meth : Method} {c : Code} {y0 : MethodName} {cc0 : ByteArray} {nL0 : Nat} {ret0 : Option FieldType} (C : CxH t G l p s m args meth c y0 cc0 nL0 ret0) {index lv mc ms K1 K2 : Nat} (hq : Cond.methodLink y0.cls index (⟨"java/util/List", "remove", "(I)Ljava/lang/Object;"⟩ : MethodName) ∈ lw_all) (hR : 4 + 1 ≤ lv) : va_CI (rmH lv K1 K2) s args y0.cls RJ2 index (⟨"java/util/List", "remove", "(I)Ljava/lang/Object;"⟩ : MethodName) yJ2_remove cJ2_remove 4 (some (.object "java/lang/Object")) (ws_ yJ2_remove cJ2_remove 4 (some (.object "java/lang/Object"))) (rmH 4 mc ms) mc ms 1 :=
  va_cwF 1 C.1.2.2.2.2.1 (lw_F hq q465 q467 q125 q469) rfl rfl rfl (C.1.2.2.2.2.2.2.2.2.2.2.1 _ (List.mem_of_getElem? (i := 3) rfl)) (by decide +kernel) ⟨hR, by show 8 + (4 + 11) + 100 * 4 ≤ 100 * lv; omega⟩
def hX1_keep (p0 : Nat) (u : HS) : Option (OH Unit) :=
  mchk (hC u p0 == 1) <|
  mderef (hR u p0 8) fun a2 =>
  mchk (hC u p0 == 1) <|
  mderef (hR u p0 3) fun a5 =>
  mchk (hC u a5 == 3) <|
  hb (hX3_copy a5 u) fun r8 u7 =>
  mchk (hC u7 a2 == 12) <|
  hb (hJ2_add a2 r8 u7) fun r11 u10 =>
  mchk (hC u10 p0 == 1) <|
  mderef (hR u10 p0 8) fun a14 =>
  mchk (hC u10 a14 == 12) <|
  hb (hJ2_size a14 u10) fun r17 u16 =>
  if r17 ≤ 40 then
    hret () u16
  else
    mchk (hC u16 p0 == 1) <|
    mderef (hR u16 p0 8) fun a20 =>
    mchk (hC u16 a20 == 12) <|
    hb (hJ2_remove a20 0 u16) fun r23 u22 =>
    hret () u22
theorem ctX1_keep (t : TT) (G : GH) (l : Launch) (hl0 : l.stackTraces = false) (p0 : Nat) (u : HS) : CtH mkU t G l yX1_keep cX1_keep 1 none 8 [.ref p0] u (hX1_keep p0 u) := by
  refine ctH_of [(0, .ref p0)] hl0 rfl (Nat.le_of_ble_eq_true rfl) rfl (fun K1 K2 p e s m args below meth c C => ?_)
  unfold hX1_keep
  refine v_aload_n C.1 0 rfl rfl dX1_keep_0 ?_
  refine v_chk (fun h1 => ?_)
  refine v_hget C (v := va_rf (hR u p0 8)) 0 8 (eq_of_beq h1) (by decide) rfl in_X1 (by decide) (Or.inl q318) (fun _ h => h) (hF_r (ci := 0) (eq_of_beq h1) (by decide)) dX1_keep_1 ?_
  refine v_deref (fun a2 e3 => ?_)
  refine v_aload_n C.1 0 rfl rfl dX1_keep_4 ?_
  refine v_chk (fun h4 => ?_)
  refine v_hget C (v := va_rf (hR u p0 3)) 0 3 (eq_of_beq h4) (by decide) rfl in_X1 (by decide) (Or.inl q312) (fun _ h => h) (hF_r (ci := 0) (eq_of_beq h4) (by decide)) dX1_keep_5 ?_
  refine v_deref (fun a5 e6 => ?_)
  refine v_chk (fun h9 => ?_)
  refine v_callVH C [] [.ref a2] (ctX3_copy t G l hl0 a5 u) (fun _ _ => cwX3_copy C q377 (by decide)) (recO C (ci := 2) (eq_of_beq h9) (by decide) rfl) rfl rfl (by exact Nat.le_of_ble_eq_true rfl) dX1_keep_8 (fun r8 u7 => ?_)
  refine v_chk (fun h12 => ?_)
  refine v_callFH C [.ref r8] [] (ctJ2_add t G l hl0 a2 r8 u7) (fun _ _ => cwJ2_addF C q384 (by decide)) (eq_of_beq h12) (by decide) rfl rfl rfl (by exact Nat.le_of_ble_eq_true rfl) dX1_keep_11 (fun r11 u10 => ?_)
  refine v_pop C.1 rfl dX1_keep_16 ?_
  refine v_aload_n C.1 0 rfl rfl dX1_keep_17 ?_
  refine v_chk (fun h13 => ?_)
  refine v_hget C (v := va_rf (hR u10 p0 8)) 0 8 (eq_of_beq h13) (by decide) rfl in_X1 (by decide) (Or.inl q318) (fun _ h => h) (hF_r (ci := 0) (eq_of_beq h13) (by decide)) dX1_keep_18 ?_
  refine v_deref (fun a14 e15 => ?_)
  refine v_chk (fun h18 => ?_)
  refine v_callFH C [] [] (ctJ2_size t G l hl0 a14 u10) (fun _ _ => cwJ2_sizeF C q453 (by decide)) (eq_of_beq h18) (by decide) rfl rfl rfl (by exact Nat.le_of_ble_eq_true rfl) dX1_keep_21 (fun r17 u16 => ?_)
  refine v_bipush C.1 40 (by decide) dX1_keep_26 ?_
  refine v_icmp_le C.1 42 (by decide) dX1_keep_28 (fun _ => ?_) (fun _ => ?_)
  · exact v_hvret C dX1_keep_42
  · refine v_aload_n C.1 0 rfl rfl dX1_keep_31 ?_
    refine v_chk (fun h19 => ?_)
    refine v_hget C (v := va_rf (hR u16 p0 8)) 0 8 (eq_of_beq h19) (by decide) rfl in_X1 (by decide) (Or.inl q318) (fun _ h => h) (hF_r (ci := 0) (eq_of_beq h19) (by decide)) dX1_keep_32 ?_
    refine v_deref (fun a20 e21 => ?_)
    refine v_iconst C.1 0 (by decide) dX1_keep_35 ?_
    refine v_chk (fun h24 => ?_)
    refine v_callFH C [.int 0] [] (ctJ2_remove t G l hl0 a20 0 u16) (fun _ _ => cwJ2_removeF C q462 (by decide)) (eq_of_beq h24) (by decide) rfl rfl rfl (by exact Nat.le_of_ble_eq_true rfl) dX1_keep_36 (fun r23 u22 => ?_)
    refine v_pop C.1 rfl dX1_keep_41 ?_
    exact v_hvret C dX1_keep_42
theorem cwX1_keep {t : TT} {G : GH} {l : Launch} {p : Program} {s : State} {m : MethodId} {args : Array Value} {meth : Method} {c : Code} {y0 : MethodName} {cc0 : ByteArray} {nL0 : Nat} {ret0 : Option FieldType} (C : CxH t G l p s m args meth c y0 cc0 nL0 ret0) {index lv mc ms K1 K2 : Nat} (hq : Cond.methodLink y0.cls index yX1_keep ∈ lw_all) (hR : 8 + 1 ≤ lv) : CallW (rmH lv K1 K2) s args y0.cls RX1 index yX1_keep cX1_keep 1 none (ws_ yX1_keep cX1_keep 1 none) (rmH 8 mc ms) mc ms 0 :=
  cwV 0 C.1.2.2.2.2.1 (lw_V hq q375 qs1 q121 q376) rfl rfl rfl (by decide +kernel) ⟨hR, by show 8 + (1 + 11) + 100 * 8 ≤ 100 * lv; omega⟩
def hX3_ahead (p0 : Nat) (p1 : Int32) (u : HS) : Option (OH Int32) :=
  mchk (hC u p0 == 3) <|
  hret (iMin p1 ((60 : Int32) - (hI u p0 6))) u
theorem ctX3_ahead (t : TT) (G : GH) (l : Launch) (hl0 : l.stackTraces = false) (p0 : Nat) (p1 : Int32) (u : HS) : CtH mkI t G l yX3_ahead cX3_ahead 2 (some .int) 2 [.ref p0, .int p1] u (hX3_ahead p0 p1 u) := by
  refine ctH_of [(0, .ref p0), (1, .int p1)] hl0 rfl (Nat.le_of_ble_eq_true rfl) rfl (fun K1 K2 p e s m args below meth c C => ?_)
  unfold hX3_ahead
  refine v_iload_n C.1 1 rfl rfl dX3_ahead_0 ?_
  refine v_bipush C.1 60 (by decide) dX3_ahead_1 ?_
  refine v_aload_n C.1 0 rfl rfl dX3_ahead_3 ?_
  refine v_chk (fun h1 => ?_)
  refine v_hget C (v := .int (hI u p0 6)) 2 6 (eq_of_beq h1) (by decide) rfl in_X3 (by decide) (Or.inl q268) (fun _ h => h) (hF_i (ci := 2) (eq_of_beq h1) (by decide)) dX3_ahead_4 ?_
  refine v_isub C.1 dX3_ahead_7 ?_
  refine v_mmin C q489 q445 q133 q446 (by exact Nat.le_of_ble_eq_true rfl) (by exact Nat.le_of_ble_eq_true rfl) dX3_ahead_8 ?_
  exact v_hiret C dX3_ahead_11
theorem cwX3_ahead {t : TT} {G : GH} {l : Launch} {p : Program} {s : State} {m : MethodId} {args : Array Value} {meth : Method} {c : Code} {y0 : MethodName} {cc0 : ByteArray} {nL0 : Nat} {ret0 : Option FieldType} (C : CxH t G l p s m args meth c y0 cc0 nL0 ret0) {index lv mc ms K1 K2 : Nat} (hq : Cond.methodLink y0.cls index yX3_ahead ∈ lw_all) (hR : 2 + 1 ≤ lv) : CallW (rmH lv K1 K2) s args y0.cls RX3 index yX3_ahead cX3_ahead 2 (some .int) (ws_ yX3_ahead cX3_ahead 2 (some .int)) (rmH 2 mc ms) mc ms 1 :=
  cwV 1 C.1.2.2.2.2.1 (lw_V hq q486 q487 q126 q488) rfl rfl rfl (by decide +kernel) ⟨hR, by show 8 + (2 + 11) + 100 * 2 ≤ 100 * lv; omega⟩
def hX2_people (p0 : Nat) (u : HS) : Option (OH Int32) :=
  mchk (hC u p0 == 2) <|
  mderef (hR u p0 1) fun a2 =>
  mchk (hC u a2 == 12) <|
  hb (hJ2_size a2 u) fun r5 u4 =>
  hret r5 u4
theorem ctX2_people (t : TT) (G : GH) (l : Launch) (hl0 : l.stackTraces = false) (p0 : Nat) (u : HS) : CtH mkI t G l yX2_people cX2_people 1 (some .int) 3 [.ref p0] u (hX2_people p0 u) := by
  refine ctH_of [(0, .ref p0)] hl0 rfl (Nat.le_of_ble_eq_true rfl) rfl (fun K1 K2 p e s m args below meth c C => ?_)
  unfold hX2_people
  refine v_aload_n C.1 0 rfl rfl dX2_people_0 ?_
  refine v_chk (fun h1 => ?_)
  refine v_hget C (v := va_rf (hR u p0 1)) 1 1 (eq_of_beq h1) (by decide) rfl in_X2 (by decide) (Or.inl q200) (fun _ h => h) (hF_r (ci := 1) (eq_of_beq h1) (by decide)) dX2_people_1 ?_
  refine v_deref (fun a2 e3 => ?_)
  refine v_chk (fun h6 => ?_)
  refine v_callFH C [] [] (ctJ2_size t G l hl0 a2 u) (fun _ _ => cwJ2_sizeF C q503 (by decide)) (eq_of_beq h6) (by decide) rfl rfl rfl (by exact Nat.le_of_ble_eq_true rfl) dX2_people_4 (fun r5 u4 => ?_)
  exact v_hiret C dX2_people_9
theorem cwX2_people {t : TT} {G : GH} {l : Launch} {p : Program} {s : State} {m : MethodId} {args : Array Value} {meth : Method} {c : Code} {y0 : MethodName} {cc0 : ByteArray} {nL0 : Nat} {ret0 : Option FieldType} (C : CxH t G l p s m args meth c y0 cc0 nL0 ret0) {index lv mc ms K1 K2 : Nat} (hq : Cond.methodLink y0.cls index yX2_people ∈ lw_all) (hR : 3 + 1 ≤ lv) : CallW (rmH lv K1 K2) s args y0.cls RX2 index yX2_people cX2_people 1 (some .int) (ws_ yX2_people cX2_people 1 (some .int)) (rmH 3 mc ms) mc ms 0 :=
  cwV 0 C.1.2.2.2.2.1 (lw_V hq q499 q500 q122 q501) rfl rfl rfl (by decide +kernel) ⟨hR, by show 8 + (1 + 11) + 100 * 3 ≤ 100 * lv; omega⟩
def hX3_isListed (p0 : Nat) (p1 : Int32) (u : HS) : Option (OH Int32) :=
  mchk (hC u p0 == 3) <|
  mderef (hR u p0 1) fun a2 =>
  mchk (inA u p1 a2 21) <|
  if (hA u a2 p1.toNatClampNeg) = (-1) then
    hz id 0 u
  else
    hz id 1 u
theorem ctX3_isListed (t : TT) (G : GH) (l : Launch) (hl0 : l.stackTraces = false) (p0 : Nat) (p1 : Int32) (u : HS) : CtH mkI t G l yX3_isListed cX3_isListed 2 (some .boolean) 2 [.ref p0, .int p1] u (hX3_isListed p0 p1 u) := by
  refine ctH_of [(0, .ref p0), (1, .int p1)] hl0 rfl (Nat.le_of_ble_eq_true rfl) rfl (fun K1 K2 p e s m args below meth c C => ?_)
  unfold hX3_isListed
  refine v_aload_n C.1 0 rfl rfl dX3_isListed_0 ?_
  refine v_chk (fun h1 => ?_)
  refine v_hget C (v := va_rf (hR u p0 1)) 2 1 (eq_of_beq h1) (by decide) rfl in_X3 (by decide) (Or.inl q256) (fun _ h => h) (hF_r (ci := 2) (eq_of_beq h1) (by decide)) dX3_isListed_1 ?_
  refine v_deref (fun a2 e3 => ?_)
  refine v_iload_n C.1 1 rfl rfl dX3_isListed_4 ?_
  refine v_chk (fun h4 => ?_)
  refine v_haiald C h4 dX3_isListed_5 ?_
  refine v_iconst C.1 (-1) (by decide) dX3_isListed_6 ?_
  refine v_icmp_eq C.1 14 (by decide) dX3_isListed_7 (fun _ => ?_) (fun _ => ?_)
  · refine v_iconst C.1 0 (by decide) dX3_isListed_14 ?_
    exact v_hzret C dX3_isListed_15
  · refine v_iconst C.1 1 (by decide) dX3_isListed_10 ?_
    refine v_goto C.1 15 (by decide) dX3_isListed_11 ?_
    exact v_hzret C dX3_isListed_15
theorem cwX3_isListed {t : TT} {G : GH} {l : Launch} {p : Program} {s : State} {m : MethodId} {args : Array Value} {meth : Method} {c : Code} {y0 : MethodName} {cc0 : ByteArray} {nL0 : Nat} {ret0 : Option FieldType} (C : CxH t G l p s m args meth c y0 cc0 nL0 ret0) {index lv mc ms K1 K2 : Nat} (hq : Cond.methodLink y0.cls index yX3_isListed ∈ lw_all) (hR : 2 + 1 ≤ lv) : CallW (rmH lv K1 K2) s args y0.cls RX3 index yX3_isListed cX3_isListed 2 (some .boolean) (ws_ yX3_isListed cX3_isListed 2 (some .boolean)) (rmH 2 mc ms) mc ms 1 :=
  cwV 1 C.1.2.2.2.2.1 (lw_V hq q505 q506 q126 q507) rfl rfl rfl (by decide +kernel) ⟨hR, by show 8 + (2 + 11) + 100 * 2 ≤ 100 * lv; omega⟩
def hJ2_elementData (p0 : Nat) (p1 : Int32) (u : HS) : Option (OH Nat) :=
  mchk (hC u p0 == 12) <|
  mderef (hR u p0 1) fun a2 =>
  mchk (inA u p1 a2 25) <|
  mderef (hQ u a2 p1.toNatClampNeg) fun a5 =>
  hret a5 u
theorem ctJ2_elementData (t : TT) (G : GH) (l : Launch) (hl0 : l.stackTraces = false) (p0 : Nat) (p1 : Int32) (u : HS) : CtH mkA t G l yJ2_elementData cJ2_elementData 2 (some (.object "java/lang/Object")) 2 [.ref p0, .int p1] u (hJ2_elementData p0 p1 u) := by
  refine ctH_of [(0, .ref p0), (1, .int p1)] hl0 rfl (Nat.le_of_ble_eq_true rfl) rfl (fun K1 K2 p e s m args below meth c C => ?_)
  unfold hJ2_elementData
  refine v_aload_n C.1 0 rfl rfl dJ2_elementData_0 ?_
  refine v_chk (fun h1 => ?_)
  refine v_hget C (v := va_rf (hR u p0 1)) 11 1 (eq_of_beq h1) (by decide) rfl in_J2 (by decide) (Or.inl q183) (fun _ h => h) (hF_r (ci := 11) (eq_of_beq h1) (by decide)) dJ2_elementData_1 ?_
  refine v_deref (fun a2 e3 => ?_)
  refine v_iload_n C.1 1 rfl rfl dJ2_elementData_4 ?_
  refine v_chk (fun h4 => ?_)
  refine v_haald C 5 (by decide) h4 dJ2_elementData_5 ?_
  refine v_deref (fun a5 e6 => ?_)
  exact v_haret C (Or.inl ⟨_, rfl⟩) dJ2_elementData_6
theorem cwJ2_elementData {t : TT} {G : GH} {l : Launch} {p : Program} {s : State} {m : MethodId} {args : Array Value} {meth : Method} {c : Code} {y0 : MethodName} {cc0 : ByteArray} {nL0 : Nat} {ret0 : Option FieldType} (C : CxH t G l p s m args meth c y0 cc0 nL0 ret0) {index lv mc ms K1 K2 : Nat} (hq : Cond.methodLink y0.cls index yJ2_elementData ∈ lw_all) (hR : 2 + 1 ≤ lv) : CallW (rmH lv K1 K2) s args y0.cls RJ2 index yJ2_elementData cJ2_elementData 2 (some (.object "java/lang/Object")) (ws_ yJ2_elementData cJ2_elementData 2 (some (.object "java/lang/Object"))) (rmH 2 mc ms) mc ms 1 :=
  cwV 1 C.1.2.2.2.2.1 (lw_V hq q522 q523 q125 q524) rfl rfl rfl (by decide +kernel) ⟨hR, by show 8 + (2 + 11) + 100 * 2 ≤ 100 * lv; omega⟩
def hJ2_get (p0 : Nat) (p1 : Int32) (u : HS) : Option (OH Nat) :=
  mchk (hC u p0 == 12) <|
  hb (hJ17_checkIndex p1 (hI u p0 2) u) fun r3 u2 =>
  mchk (hC u2 p0 == 12) <|
  hb (hJ2_elementData p0 p1 u2) fun r5 u4 =>
  hret r5 u4
theorem ctJ2_get (t : TT) (G : GH) (l : Launch) (hl0 : l.stackTraces = false) (p0 : Nat) (p1 : Int32) (u : HS) : CtH mkA t G l yJ2_get cJ2_get 2 (some (.object "java/lang/Object")) 4 [.ref p0, .int p1] u (hJ2_get p0 p1 u) := by
  refine ctH_of [(0, .ref p0), (1, .int p1)] hl0 rfl (Nat.le_of_ble_eq_true rfl) rfl (fun K1 K2 p e s m args below meth c C => ?_)
  unfold hJ2_get
  refine v_iload_n C.1 1 rfl rfl dJ2_get_0 ?_
  refine v_aload_n C.1 0 rfl rfl dJ2_get_1 ?_
  refine v_chk (fun h1 => ?_)
  refine v_hget C (v := .int (hI u p0 2)) 11 2 (eq_of_beq h1) (by decide) rfl in_J2 (by decide) (Or.inl q184) (fun _ h => h) (hF_i (ci := 11) (eq_of_beq h1) (by decide)) dJ2_get_2 ?_
  refine v_callSH C [.int p1, .int (hI u p0 2)] [] (ctJ17_checkIndex t G l hl0 p1 (hI u p0 2) u) (fun _ _ => cwJ17_checkIndex C q470 (by decide)) rfl rfl (by exact Nat.le_of_ble_eq_true rfl) dJ2_get_5 (fun r3 u2 => ?_)
  refine v_pop C.1 rfl dJ2_get_8 ?_
  refine v_aload_n C.1 0 rfl rfl dJ2_get_9 ?_
  refine v_iload_n C.1 1 rfl rfl dJ2_get_10 ?_
  refine v_chk (fun h6 => ?_)
  refine v_callVH C [.int p1] [] (ctJ2_elementData t G l hl0 p0 p1 u2) (fun _ _ => cwJ2_elementData C q521 (by decide)) (recO C (ci := 11) (eq_of_beq h6) (by decide) rfl) rfl rfl (by exact Nat.le_of_ble_eq_true rfl) dJ2_get_11 (fun r5 u4 => ?_)
  exact v_haret C (Or.inl ⟨_, rfl⟩) dJ2_get_14
theorem cwJ2_getF {t : TT} {G : GH} {l : Launch} {p : Program} {s : State} {m : MethodId} {args : Array Value} {meth : Method} {c : Code} {y0 : MethodName} {cc0 : ByteArray} {nL0 : Nat} {ret0 : Option FieldType} (C : CxH t G l p s m args meth c y0 cc0 nL0 ret0) {index lv mc ms K1 K2 : Nat} (hq : Cond.methodLink y0.cls index (⟨"java/util/List", "get", "(I)Ljava/lang/Object;"⟩ : MethodName) ∈ lw_all) (hR : 4 + 1 ≤ lv) : va_CI (rmH lv K1 K2) s args y0.cls RJ2 index (⟨"java/util/List", "get", "(I)Ljava/lang/Object;"⟩ : MethodName) yJ2_get cJ2_get 2 (some (.object "java/lang/Object")) (ws_ yJ2_get cJ2_get 2 (some (.object "java/lang/Object"))) (rmH 4 mc ms) mc ms 1 :=
  va_cwF 1 C.1.2.2.2.2.1 (lw_F hq q516 q518 q125 q520) rfl rfl rfl (C.1.2.2.2.2.2.2.2.2.2.2.1 _ (List.mem_of_getElem? (i := 2) rfl)) (by decide +kernel) ⟨hR, by show 8 + (2 + 11) + 100 * 4 ≤ 100 * lv; omega⟩
def hJ16_intValue (p0 : Nat) (u : HS) : Option (OH Int32) :=
  mchk (hC u p0 == 31) <|
  hret (hI u p0 0) u
theorem ctJ16_intValue (t : TT) (G : GH) (l : Launch) (hl0 : l.stackTraces = false) (p0 : Nat) (u : HS) : CtH mkI t G l yJ16_intValue cJ16_intValue 1 (some .int) 2 [.ref p0] u (hJ16_intValue p0 u) := by
  refine ctH_of [(0, .ref p0)] hl0 rfl (Nat.le_of_ble_eq_true rfl) rfl (fun K1 K2 p e s m args below meth c C => ?_)
  unfold hJ16_intValue
  refine v_aload_n C.1 0 rfl rfl dJ16_intValue_0 ?_
  refine v_chk (fun h1 => ?_)
  refine v_hgetB C (eq_of_beq h1) q627 dJ16_intValue_1 ?_
  exact v_hiret C dJ16_intValue_4
theorem cwJ16_intValue {t : TT} {G : GH} {l : Launch} {p : Program} {s : State} {m : MethodId} {args : Array Value} {meth : Method} {c : Code} {y0 : MethodName} {cc0 : ByteArray} {nL0 : Nat} {ret0 : Option FieldType} (C : CxH t G l p s m args meth c y0 cc0 nL0 ret0) {index lv mc ms K1 K2 : Nat} (hq : Cond.methodLink y0.cls index yJ16_intValue ∈ lw_all) (hR : 2 + 1 ≤ lv) : CallW (rmH lv K1 K2) s args y0.cls RJ16 index yJ16_intValue cJ16_intValue 1 (some .int) (ws_ yJ16_intValue cJ16_intValue 1 (some .int)) (rmH 2 mc ms) mc ms 0 :=
  cwV 0 C.1.2.2.2.2.1 (lw_V hq q527 q528 q144 q529) rfl rfl rfl (by decide +kernel) ⟨hR, by show 8 + (1 + 11) + 100 * 2 ≤ 100 * lv; omega⟩
def hX3_list_4 (p0 : Nat) (k : Int32 → Int32 → HS → Option (OH Int32)) (x1 : Int32) (x2 : Int32) (u : HS) : Option (OH Int32) :=
  mchk (hC u p0 == 3) <|
  mderef (hR u p0 11) fun a2 =>
  mchk (hC u a2 == 1) <|
  mderef (hR u a2 2) fun a5 =>
  mchk (hC u a5 == 2) <|
  hb (hX2_people a5 u) fun r8 u7 =>
  if r8 ≤ x2 then
    hret x1 u7
  else
    mchk (hC u7 p0 == 3) <|
    hb (hX3_isListed p0 x2 u7) fun r11 u10 =>
    if r11 = 0 then
      k x1 (x2 + 1) u10
    else
      mlet (x1 ||| ((1 : Int32) <<< (x2 &&& 31))) fun v13 =>
      k v13 (x2 + 1) u10
theorem whX3_list_4 {K1 K2 : Nat} {p : Program} {e : Env} {s : State} {m : MethodId} {args : Array Value} {below : List Frame} {meth : Method} {c : Code} (hl0 : l.stackTraces = false) (C : CxH t G l p s m args meth c yX3_list cX3_list 3 (some .int)) (p0 : Nat) (n : Nat) (x1 : Int32) (x2 : Int32) (u : HS) : VH mkI t G p l e 4 K1 K2 s m args below meth c 3 4 [(0, .ref p0), (1, .int x1), (2, .int x2)] [] u (ml2 (hX3_list_4 p0) n x1 x2 u) := by
  refine vl2 (L := fun x1 x2 => [(0, .ref p0), (1, .int x1), (2, .int x2)]) (fun k hk x1 x2 u => ?_) n x1 x2 u
  unfold hX3_list_4
  refine v_iload_n C.1 2 rfl rfl dX3_list_4 ?_
  refine v_aload_n C.1 0 rfl rfl dX3_list_5 ?_
  refine v_chk (fun h1 => ?_)
  refine v_hget C (v := va_rf (hR u p0 11)) 2 11 (eq_of_beq h1) (by decide) rfl in_X3 (by decide) (Or.inl q278) (fun _ h => h) (hF_r (ci := 2) (eq_of_beq h1) (by decide)) dX3_list_6 ?_
  refine v_deref (fun a2 e3 => ?_)
  refine v_chk (fun h4 => ?_)
  refine v_hget C (v := va_rf (hR u a2 2)) 0 2 (eq_of_beq h4) (by decide) rfl in_X1 (by decide) (Or.inr ⟨_, q310⟩) (fun _ h => h) (hF_r (ci := 0) (eq_of_beq h4) (by decide)) dX3_list_9 ?_
  refine v_deref (fun a5 e6 => ?_)
  refine v_chk (fun h9 => ?_)
  refine v_callVH C [] [.int x2] (ctX2_people t G l hl0 a5 u) (fun _ _ => cwX2_people C q498 (by decide)) (recO C (ci := 1) (eq_of_beq h9) (by decide) rfl) rfl rfl (by exact Nat.le_of_ble_eq_true rfl) dX3_list_12 (fun r8 u7 => ?_)
  refine v_icmp_ge C.1 38 (by decide) dX3_list_15 (fun _ => ?_) (fun _ => ?_)
  · refine v_iload_n C.1 1 rfl rfl dX3_list_38 ?_
    exact v_hiret C dX3_list_39
  · refine v_aload_n C.1 0 rfl rfl dX3_list_18 ?_
    refine v_iload_n C.1 2 rfl rfl dX3_list_19 ?_
    refine v_chk (fun h12 => ?_)
    refine v_callVH C [.int x2] [] (ctX3_isListed t G l hl0 p0 x2 u7) (fun _ _ => cwX3_isListed C q504 (by decide)) (recO C (ci := 2) (eq_of_beq h12) (by decide) rfl) rfl rfl (by exact Nat.le_of_ble_eq_true rfl) dX3_list_20 (fun r11 u10 => ?_)
    refine v_if_eq C.1 32 (by decide) dX3_list_23 (fun _ => ?_) (fun _ => ?_)
    · refine v_iinc C.1 1 [(2, .int (x2 + 1)), (0, .ref p0), (1, .int x1)] 2 rfl (by decide) (by decide) rfl dX3_list_32 ?_
      refine v_goto C.1 4 (by decide) dX3_list_35 ?_
      refine v_sub [1, 2, 0] rfl ?_
      exact hk x1 (x2 + 1) u10
    · refine v_iload_n C.1 1 rfl rfl dX3_list_26 ?_
      refine v_iconst C.1 1 (by decide) dX3_list_27 ?_
      refine v_iload_n C.1 2 rfl rfl dX3_list_28 ?_
      refine v_ishl C.1 dX3_list_29 ?_
      refine v_ior C.1 dX3_list_30 ?_
      refine v_topi (fun v13 => ?_)
      refine v_istore_n C.1 [(1, .int v13), (0, .ref p0), (2, .int x2)] rfl (by decide) rfl dX3_list_31 ?_
      refine v_iinc C.1 1 [(2, .int (x2 + 1)), (1, .int v13), (0, .ref p0)] 2 rfl (by decide) (by decide) rfl dX3_list_32 ?_
      refine v_goto C.1 4 (by decide) dX3_list_35 ?_
      refine v_sub [2, 1, 0] rfl ?_
      exact hk v13 (x2 + 1) u10
def hX3_list (p0 : Nat) (u : HS) : Option (OH Int32) :=
  ml2 (hX3_list_4 p0) FUEL 0 0 u
theorem ctX3_list (t : TT) (G : GH) (l : Launch) (hl0 : l.stackTraces = false) (p0 : Nat) (u : HS) : CtH mkI t G l yX3_list cX3_list 3 (some .int) 4 [.ref p0] u (hX3_list p0 u) := by
  refine ctH_of [(0, .ref p0)] hl0 rfl (Nat.le_of_ble_eq_true rfl) rfl (fun K1 K2 p e s m args below meth c C => ?_)
  unfold hX3_list
  refine v_iconst C.1 0 (by decide) dX3_list_0 ?_
  refine v_istore_n C.1 [(1, .int 0), (0, .ref p0)] rfl (by decide) rfl dX3_list_1 ?_
  refine v_iconst C.1 0 (by decide) dX3_list_2 ?_
  refine v_istore_n C.1 [(2, .int 0), (1, .int 0), (0, .ref p0)] rfl (by decide) rfl dX3_list_3 ?_
  refine v_sub [2, 1, 0] rfl ?_
  exact whX3_list_4 hl0 C p0 FUEL 0 0 u
theorem cwX3_list {t : TT} {G : GH} {l : Launch} {p : Program} {s : State} {m : MethodId} {args : Array Value} {meth : Method} {c : Code} {y0 : MethodName} {cc0 : ByteArray} {nL0 : Nat} {ret0 : Option FieldType} (C : CxH t G l p s m args meth c y0 cc0 nL0 ret0) {index lv mc ms K1 K2 : Nat} (hq : Cond.methodLink y0.cls index yX3_list ∈ lw_all) (hR : 4 + 1 ≤ lv) : CallW (rmH lv K1 K2) s args y0.cls RX3 index yX3_list cX3_list 3 (some .int) (ws_ yX3_list cX3_list 3 (some .int)) (rmH 4 mc ms) mc ms 0 :=
  cwV 0 C.1.2.2.2.2.1 (lw_V hq q531 q532 q126 q533) rfl rfl rfl (by decide +kernel) ⟨hR, by show 8 + (3 + 11) + 100 * 4 ≤ 100 * lv; omega⟩
def hJ16_bitCount (p0 : Int32) (u : HS) : Option (OH Int32) :=
  mlet (p0 - (((Int32.toUInt32 p0 >>> (Int32.toUInt32 1 &&& Int32.toUInt32 31)).toInt32) &&& 1431655765)) fun v1 =>
  mlet ((v1 &&& 858993459) + (((Int32.toUInt32 v1 >>> (Int32.toUInt32 2 &&& Int32.toUInt32 31)).toInt32) &&& 858993459)) fun v2 =>
  mlet ((v2 + ((Int32.toUInt32 v2 >>> (Int32.toUInt32 4 &&& Int32.toUInt32 31)).toInt32)) &&& 252645135) fun v3 =>
  mlet (v3 + ((Int32.toUInt32 v3 >>> (Int32.toUInt32 8 &&& Int32.toUInt32 31)).toInt32)) fun v4 =>
  mlet (v4 + ((Int32.toUInt32 v4 >>> (Int32.toUInt32 16 &&& Int32.toUInt32 31)).toInt32)) fun v5 =>
  hret (v5 &&& 63) u
theorem ctJ16_bitCount (t : TT) (G : GH) (l : Launch) (hl0 : l.stackTraces = false) (p0 : Int32) (u : HS) : CtH mkI t G l yJ16_bitCount cJ16_bitCount 1 (some .int) 2 [.int p0] u (hJ16_bitCount p0 u) := by
  refine ctH_of [(0, .int p0)] hl0 rfl (Nat.le_of_ble_eq_true rfl) rfl (fun K1 K2 p e s m args below meth c C => ?_)
  unfold hJ16_bitCount
  refine v_iload_n C.1 0 rfl rfl dJ16_bitCount_0 ?_
  refine v_iload_n C.1 0 rfl rfl dJ16_bitCount_1 ?_
  refine v_iconst C.1 1 (by decide) dJ16_bitCount_2 ?_
  refine v_iushr C.1 dJ16_bitCount_3 ?_
  refine v_ldcw C.1 q537 dJ16_bitCount_4 ?_
  refine v_iand C.1 dJ16_bitCount_7 ?_
  refine v_isub C.1 dJ16_bitCount_8 ?_
  refine v_topi (fun v1 => ?_)
  refine v_istore_n C.1 [(0, .int v1)] rfl (by decide) rfl dJ16_bitCount_9 ?_
  refine v_iload_n C.1 0 rfl rfl dJ16_bitCount_10 ?_
  refine v_ldcw C.1 q538 dJ16_bitCount_11 ?_
  refine v_iand C.1 dJ16_bitCount_14 ?_
  refine v_iload_n C.1 0 rfl rfl dJ16_bitCount_15 ?_
  refine v_iconst C.1 2 (by decide) dJ16_bitCount_16 ?_
  refine v_iushr C.1 dJ16_bitCount_17 ?_
  refine v_ldcw C.1 q538 dJ16_bitCount_18 ?_
  refine v_iand C.1 dJ16_bitCount_21 ?_
  refine v_iadd C.1 dJ16_bitCount_22 ?_
  refine v_topi (fun v2 => ?_)
  refine v_istore_n C.1 [(0, .int v2)] rfl (by decide) rfl dJ16_bitCount_23 ?_
  refine v_iload_n C.1 0 rfl rfl dJ16_bitCount_24 ?_
  refine v_iload_n C.1 0 rfl rfl dJ16_bitCount_25 ?_
  refine v_iconst C.1 4 (by decide) dJ16_bitCount_26 ?_
  refine v_iushr C.1 dJ16_bitCount_27 ?_
  refine v_iadd C.1 dJ16_bitCount_28 ?_
  refine v_ldcw C.1 q539 dJ16_bitCount_29 ?_
  refine v_iand C.1 dJ16_bitCount_32 ?_
  refine v_topi (fun v3 => ?_)
  refine v_istore_n C.1 [(0, .int v3)] rfl (by decide) rfl dJ16_bitCount_33 ?_
  refine v_iload_n C.1 0 rfl rfl dJ16_bitCount_34 ?_
  refine v_iload_n C.1 0 rfl rfl dJ16_bitCount_35 ?_
  refine v_bipush C.1 8 (by decide) dJ16_bitCount_36 ?_
  refine v_iushr C.1 dJ16_bitCount_38 ?_
  refine v_iadd C.1 dJ16_bitCount_39 ?_
  refine v_topi (fun v4 => ?_)
  refine v_istore_n C.1 [(0, .int v4)] rfl (by decide) rfl dJ16_bitCount_40 ?_
  refine v_iload_n C.1 0 rfl rfl dJ16_bitCount_41 ?_
  refine v_iload_n C.1 0 rfl rfl dJ16_bitCount_42 ?_
  refine v_bipush C.1 16 (by decide) dJ16_bitCount_43 ?_
  refine v_iushr C.1 dJ16_bitCount_45 ?_
  refine v_iadd C.1 dJ16_bitCount_46 ?_
  refine v_topi (fun v5 => ?_)
  refine v_istore_n C.1 [(0, .int v5)] rfl (by decide) rfl dJ16_bitCount_47 ?_
  refine v_iload_n C.1 0 rfl rfl dJ16_bitCount_48 ?_
  refine v_bipush C.1 63 (by decide) dJ16_bitCount_49 ?_
  refine v_iand C.1 dJ16_bitCount_51 ?_
  exact v_hiret C dJ16_bitCount_52
theorem cwJ16_bitCount {t : TT} {G : GH} {l : Launch} {p : Program} {s : State} {m : MethodId} {args : Array Value} {meth : Method} {c : Code} {y0 : MethodName} {cc0 : ByteArray} {nL0 : Nat} {ret0 : Option FieldType} (C : CxH t G l p s m args meth c y0 cc0 nL0 ret0) {index lv mc ms K1 K2 : Nat} (hq : Cond.methodLink y0.cls index yJ16_bitCount ∈ lw_all) (hR : 2 + 1 ≤ lv) : CallB (rmH lv K1 K2) s args y0.cls index yJ16_bitCount cJ16_bitCount 1 (some .int) (ws_ yJ16_bitCount cJ16_bitCount 1 (some .int)) (rmH 2 mc ms) mc ms 1 ∧ (Cond.static yJ16_bitCount).before args s = true :=
  ⟨callB_of 1 C.1.2.2.2.2.1 (lw_meth q536) rfl rfl rfl (C.1.2.2.2.2.1 _ q144) (C.1.2.2.2.2.1 _ hq) (by decide +kernel) ⟨hR, by show 8 + (1 + 11) + 100 * 2 ≤ 100 * lv; omega⟩, C.1.2.2.2.2.1 _ q535⟩
end
