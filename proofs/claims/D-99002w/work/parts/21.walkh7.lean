/-! walks in mode H, printed by tools/genh.py -/
set_option maxRecDepth 100000
section
variable {t : TT} {G : GH} {l : Launch}
def hX1_far_111 (p0 : Nat) (p1 : Int32) (p2 : Int32) (k17 : Int32 → Int32 → HS → Option (OH (PX Int32))) (k51 : Int32 → Int32 → Int32 → Int32 → HS → Option (OH (PX Int32))) (x3 : Int32) (x4 : Int32) (x5 : Int32) (x6 : Int32) (x7 : Nat) (u : HS) : Option (OH (PX Int32)) :=
  mchk (hC u x7 == 7) <|
  hb (hX1_isOf x3 (hI u x7 1) u) fun r3 u2 =>
  if r3 = 0 then
    k51 x3 x4 x5 (x6 + 1) u2
  else
    mchk (hC u2 x7 == 7) <|
    mlet (x5 ||| ((1 : Int32) <<< ((hI u2 x7 0) &&& 31))) fun v5 =>
    k51 x3 x4 v5 (x6 + 1) u2
theorem whX1_far_111 {K1 K2 : Nat} {p : Program} {e : Env} {s : State} {m : MethodId} {args : Array Value} {below : List Frame} {meth : Method} {c : Code} (hl0 : l.stackTraces = false) (C : CxX t G l p s m args meth c yX1_far cX1_far 8 (some .int)) (p0 : Nat) (p1 : Int32) (p2 : Int32) (k17 : Int32 → Int32 → HS → Option (OH (PX Int32))) (k51 : Int32 → Int32 → Int32 → Int32 → HS → Option (OH (PX Int32))) (hk17 : ∀ (x3 : Int32) (x4 : Int32) (u : HS), VX mkI t G p l e 10 K1 K2 s m args below meth c 8 17 [(0, .ref p0), (2, .int p2), (3, .int x3), (4, .int x4)] [] u (k17 x3 x4 u)) (hk51 : ∀ (x3 : Int32) (x4 : Int32) (x5 : Int32) (x6 : Int32) (u : HS), VX mkI t G p l e 10 K1 K2 s m args below meth c 8 51 [(0, .ref p0), (2, .int p2), (3, .int x3), (4, .int x4), (5, .int x5), (6, .int x6)] [] u (k51 x3 x4 x5 x6 u)) (x3 : Int32) (x4 : Int32) (x5 : Int32) (x6 : Int32) (x7 : Nat) (u : HS) : VX mkI t G p l e 10 K1 K2 s m args below meth c 8 111 [(0, .ref p0), (2, .int p2), (3, .int x3), (4, .int x4), (5, .int x5), (6, .int x6), (7, .ref x7)] [] u (hX1_far_111 p0 p1 p2 k17 k51 x3 x4 x5 x6 x7 u) := by
  unfold hX1_far_111
  refine v_iload_n C.1.1 2 rfl rfl dX1_far_111 ?_
  refine v_aload C.1.1 6 rfl dX1_far_112 ?_
  refine v_chk (fun h1 => ?_)
  refine v_hget C.1 (v := .int (hI u x7 1)) 6 1 (eq_of_beq h1) (by decide) rfl in_X7 (by decide) (Or.inr ⟨_, q1092⟩) (fun _ h => h) (hF_i (ci := 6) (eq_of_beq h1) (by decide)) dX1_far_114 ?_
  refine v_callSH C.1 [.int x3, .int (hI u x7 1)] [] (ctX1_isOf t G l hl0 x3 (hI u x7 1) u) (fun _ _ => cwX1_isOf C.1 q1323 (by decide)) rfl rfl (by exact Nat.le_of_ble_eq_true rfl) dX1_far_117 (fun r3 u2 => ?_)
  refine v_if_eq C.1.1 135 (by decide) dX1_far_120 (fun _ => ?_) (fun _ => ?_)
  · refine v_iinc C.1.1 1 [(6, .int (x6 + 1)), (0, .ref p0), (2, .int p2), (3, .int x3), (4, .int x4), (5, .int x5), (7, .ref x7)] 5 rfl (by decide) (by decide) rfl dX1_far_135 ?_
    refine v_goto C.1.1 51 (by decide) dX1_far_138 ?_
    refine v_sub [1, 2, 3, 4, 5, 0] rfl ?_
    exact hk51 x3 x4 x5 (x6 + 1) u2
  · refine v_iload C.1.1 4 rfl dX1_far_123 ?_
    refine v_iconst C.1.1 1 (by decide) dX1_far_125 ?_
    refine v_aload C.1.1 6 rfl dX1_far_126 ?_
    refine v_chk (fun h4 => ?_)
    refine v_hget C.1 (v := .int (hI u2 x7 0)) 6 0 (eq_of_beq h4) (by decide) rfl in_X7 (by decide) (Or.inr ⟨_, q1090⟩) (fun _ h => h) (hF_i (ci := 6) (eq_of_beq h4) (by decide)) dX1_far_128 ?_
    refine v_ishl C.1.1 dX1_far_131 ?_
    refine v_ior C.1.1 dX1_far_132 ?_
    refine v_topi (fun v5 => ?_)
    refine v_istore C.1.1 [(5, .int v5), (0, .ref p0), (2, .int p2), (3, .int x3), (4, .int x4), (6, .int x6), (7, .ref x7)] (by decide) rfl dX1_far_133 ?_
    refine v_iinc C.1.1 1 [(6, .int (x6 + 1)), (5, .int v5), (0, .ref p0), (2, .int p2), (3, .int x3), (4, .int x4), (7, .ref x7)] 5 rfl (by decide) (by decide) rfl dX1_far_135 ?_
    refine v_goto C.1.1 51 (by decide) dX1_far_138 ?_
    refine v_sub [2, 3, 4, 5, 1, 0] rfl ?_
    exact hk51 x3 x4 v5 (x6 + 1) u2
def hX1_far_51 (p0 : Nat) (p1 : Int32) (p2 : Int32) (k17 : Int32 → Int32 → HS → Option (OH (PX Int32))) (k : Int32 → Int32 → Int32 → Int32 → HS → Option (OH (PX Int32))) (x3 : Int32) (x4 : Int32) (x5 : Int32) (x6 : Int32) (u : HS) : Option (OH (PX Int32)) :=
  mchk (hC u p0 == 1) <|
  mderef (hR u p0 2) fun a2 =>
  mchk (hC u a2 == 2) <|
  mderef (hR u a2 2) fun a5 =>
  mchk (hC u a5 == 12) <|
  hb (hJ2_size a5 u) fun r8 u7 =>
  if r8 ≤ x6 then
    k17 x5 (x4 + 1) u7
  else
    mchk (hC u7 p0 == 1) <|
    mderef (hR u7 p0 2) fun a11 =>
    mchk (hC u7 a11 == 2) <|
    mderef (hR u7 a11 2) fun a14 =>
    mchk (hC u7 a14 == 12) <|
    hb (hJ2_get a14 x6 u7) fun r17 u16 =>
    mchk (hC u16 r17 == 7) <|
    mchk (hC u16 r17 == 7) <|
    hb (hX1_isOf x3 (hI u16 r17 0) u16) fun r22 u21 =>
    if r22 = 0 then
      hX1_far_111 p0 p1 p2 k17 k x3 x4 x5 x6 r17 u21
    else
      mchk (hC u21 r17 == 7) <|
      mlet (x5 ||| ((1 : Int32) <<< ((hI u21 r17 1) &&& 31))) fun v24 =>
      hX1_far_111 p0 p1 p2 k17 k x3 x4 v24 x6 r17 u21
theorem whX1_far_51 {K1 K2 : Nat} {p : Program} {e : Env} {s : State} {m : MethodId} {args : Array Value} {below : List Frame} {meth : Method} {c : Code} (hl0 : l.stackTraces = false) (C : CxX t G l p s m args meth c yX1_far cX1_far 8 (some .int)) (p0 : Nat) (p1 : Int32) (p2 : Int32) (k17 : Int32 → Int32 → HS → Option (OH (PX Int32))) (hk17 : ∀ (x3 : Int32) (x4 : Int32) (u : HS), VX mkI t G p l e 10 K1 K2 s m args below meth c 8 17 [(0, .ref p0), (2, .int p2), (3, .int x3), (4, .int x4)] [] u (k17 x3 x4 u)) (n : Nat) (x3 : Int32) (x4 : Int32) (x5 : Int32) (x6 : Int32) (u : HS) : VX mkI t G p l e 10 K1 K2 s m args below meth c 8 51 [(0, .ref p0), (2, .int p2), (3, .int x3), (4, .int x4), (5, .int x5), (6, .int x6)] [] u (ml4 (hX1_far_51 p0 p1 p2 k17) n x3 x4 x5 x6 u) := by
  refine vl4 (L := fun x3 x4 x5 x6 => [(0, .ref p0), (2, .int p2), (3, .int x3), (4, .int x4), (5, .int x5), (6, .int x6)]) (fun k hk x3 x4 x5 x6 u => ?_) n x3 x4 x5 x6 u
  unfold hX1_far_51
  refine v_iload C.1.1 5 rfl dX1_far_51 ?_
  refine v_aload_n C.1.1 0 rfl rfl dX1_far_53 ?_
  refine v_chk (fun h1 => ?_)
  refine v_hget C.1 (v := va_rf (hR u p0 2)) 0 2 (eq_of_beq h1) (by decide) rfl in_X1 (by decide) (Or.inl q311) (fun _ h => h) (hF_r (ci := 0) (eq_of_beq h1) (by decide)) dX1_far_54 ?_
  refine v_deref (fun a2 e3 => ?_)
  refine v_chk (fun h4 => ?_)
  refine v_hget C.1 (v := va_rf (hR u a2 2)) 1 2 (eq_of_beq h4) (by decide) rfl in_X2 (by decide) (Or.inr ⟨_, q205⟩) (fun _ h => h) (hF_r (ci := 1) (eq_of_beq h4) (by decide)) dX1_far_57 ?_
  refine v_deref (fun a5 e6 => ?_)
  refine v_chk (fun h9 => ?_)
  refine v_callFH C.1 [] [.int x6] (ctJ2_size t G l hl0 a5 u) (fun _ _ => cwJ2_sizeF C.1 q453 (by decide)) (eq_of_beq h9) (by decide) rfl rfl rfl (by exact Nat.le_of_ble_eq_true rfl) dX1_far_60 (fun r8 u7 => ?_)
  refine v_icmp_ge C.1.1 141 (by decide) dX1_far_65 (fun _ => ?_) (fun _ => ?_)
  · refine v_iload C.1.1 4 rfl dX1_far_141 ?_
    refine v_istore_n C.1.1 [(3, .int x5), (0, .ref p0), (2, .int p2), (4, .int x4), (5, .int x5), (6, .int x6)] rfl (by decide) rfl dX1_far_143 ?_
    refine v_iinc C.1.1 1 [(4, .int (x4 + 1)), (3, .int x5), (0, .ref p0), (2, .int p2), (5, .int x5), (6, .int x6)] 3 rfl (by decide) (by decide) rfl dX1_far_144 ?_
    refine v_goto C.1.1 17 (by decide) dX1_far_147 ?_
    refine v_sub [2, 3, 1, 0] rfl ?_
    exact hk17 x5 (x4 + 1) u7
  · refine v_aload_n C.1.1 0 rfl rfl dX1_far_68 ?_
    refine v_chk (fun h10 => ?_)
    refine v_hget C.1 (v := va_rf (hR u7 p0 2)) 0 2 (eq_of_beq h10) (by decide) rfl in_X1 (by decide) (Or.inl q311) (fun _ h => h) (hF_r (ci := 0) (eq_of_beq h10) (by decide)) dX1_far_69 ?_
    refine v_deref (fun a11 e12 => ?_)
    refine v_chk (fun h13 => ?_)
    refine v_hget C.1 (v := va_rf (hR u7 a11 2)) 1 2 (eq_of_beq h13) (by decide) rfl in_X2 (by decide) (Or.inr ⟨_, q205⟩) (fun _ h => h) (hF_r (ci := 1) (eq_of_beq h13) (by decide)) dX1_far_72 ?_
    refine v_deref (fun a14 e15 => ?_)
    refine v_iload C.1.1 5 rfl dX1_far_75 ?_
    refine v_chk (fun h18 => ?_)
    refine v_callFH C.1 [.int x6] [] (ctJ2_get t G l hl0 a14 x6 u7) (fun _ _ => cwJ2_getF C.1 q1368 (by decide)) (eq_of_beq h18) (by decide) rfl rfl rfl (by exact Nat.le_of_ble_eq_true rfl) dX1_far_77 (fun r17 u16 => ?_)
    refine v_chk (fun h19 => ?_)
    refine v_hcastS C.1 6 (eq_of_beq h19) (by decide) rfl q1371 dX1_far_82 ?_
    refine v_astore C.1.1 [(7, .ref r17), (0, .ref p0), (2, .int p2), (3, .int x3), (4, .int x4), (5, .int x5), (6, .int x6)] (by decide) rfl dX1_far_85 ?_
    refine v_iload_n C.1.1 3 rfl rfl dX1_far_87 ?_
    refine v_aload C.1.1 0 rfl dX1_far_88 ?_
    refine v_chk (fun h20 => ?_)
    refine v_hget C.1 (v := .int (hI u16 r17 0)) 6 0 (eq_of_beq h20) (by decide) rfl in_X7 (by decide) (Or.inr ⟨_, q1090⟩) (fun _ h => h) (hF_i (ci := 6) (eq_of_beq h20) (by decide)) dX1_far_90 ?_
    refine v_callSH C.1 [.int x3, .int (hI u16 r17 0)] [] (ctX1_isOf t G l hl0 x3 (hI u16 r17 0) u16) (fun _ _ => cwX1_isOf C.1 q1323 (by decide)) rfl rfl (by exact Nat.le_of_ble_eq_true rfl) dX1_far_93 (fun r22 u21 => ?_)
    refine v_if_eq C.1.1 111 (by decide) dX1_far_96 (fun _ => ?_) (fun _ => ?_)
    · refine v_sub [1, 2, 3, 4, 5, 6, 0] rfl ?_
      exact whX1_far_111 hl0 C p0 p1 p2 k17 k hk17 hk x3 x4 x5 x6 r17 u21
    · refine v_iload C.1.1 5 rfl dX1_far_99 ?_
      refine v_iconst C.1.1 1 (by decide) dX1_far_101 ?_
      refine v_aload C.1.1 0 rfl dX1_far_102 ?_
      refine v_chk (fun h23 => ?_)
      refine v_hget C.1 (v := .int (hI u21 r17 1)) 6 1 (eq_of_beq h23) (by decide) rfl in_X7 (by decide) (Or.inr ⟨_, q1092⟩) (fun _ h => h) (hF_i (ci := 6) (eq_of_beq h23) (by decide)) dX1_far_104 ?_
      refine v_ishl C.1.1 dX1_far_107 ?_
      refine v_ior C.1.1 dX1_far_108 ?_
      refine v_topi (fun v24 => ?_)
      refine v_istore C.1.1 [(5, .int v24), (7, .ref r17), (0, .ref p0), (2, .int p2), (3, .int x3), (4, .int x4), (6, .int x6)] (by decide) rfl dX1_far_109 ?_
      refine v_sub [2, 3, 4, 5, 0, 6, 1] rfl ?_
      exact whX1_far_111 hl0 C p0 p1 p2 k17 k hk17 hk x3 x4 v24 x6 r17 u21
def hX1_far_17 (p0 : Nat) (p1 : Int32) (p2 : Int32) (k : Int32 → Int32 → HS → Option (OH (PX Int32))) (x3 : Int32) (x4 : Int32) (u : HS) : Option (OH (PX Int32)) :=
  mchk (hC u p0 == 1) <|
  mderef (hR u p0 2) fun a2 =>
  mchk (hC u a2 == 2) <|
  mderef (hR u a2 0) fun a5 =>
  mchk (hC u a5 == 12) <|
  hb (hJ2_size a5 u) fun r8 u7 =>
  if r8 < x4 then
    hret (.inl (-1)) u7
  else
    hb (hX1_isOf x3 p2 u7) fun r11 u10 =>
    if r11 = 0 then
      ml4 (hX1_far_51 p0 p1 p2 k) FUEL x3 x4 x3 0 u10
    else
      hret (.inl x4) u10
theorem whX1_far_17 {K1 K2 : Nat} {p : Program} {e : Env} {s : State} {m : MethodId} {args : Array Value} {below : List Frame} {meth : Method} {c : Code} (hl0 : l.stackTraces = false) (C : CxX t G l p s m args meth c yX1_far cX1_far 8 (some .int)) (p0 : Nat) (p1 : Int32) (p2 : Int32) (n : Nat) (x3 : Int32) (x4 : Int32) (u : HS) : VX mkI t G p l e 10 K1 K2 s m args below meth c 8 17 [(0, .ref p0), (2, .int p2), (3, .int x3), (4, .int x4)] [] u (ml2 (hX1_far_17 p0 p1 p2) n x3 x4 u) := by
  refine vl2 (L := fun x3 x4 => [(0, .ref p0), (2, .int p2), (3, .int x3), (4, .int x4)]) (fun k hk x3 x4 u => ?_) n x3 x4 u
  unfold hX1_far_17
  refine v_iload C.1.1 3 rfl dX1_far_17 ?_
  refine v_aload_n C.1.1 0 rfl rfl dX1_far_19 ?_
  refine v_chk (fun h1 => ?_)
  refine v_hget C.1 (v := va_rf (hR u p0 2)) 0 2 (eq_of_beq h1) (by decide) rfl in_X1 (by decide) (Or.inl q311) (fun _ h => h) (hF_r (ci := 0) (eq_of_beq h1) (by decide)) dX1_far_20 ?_
  refine v_deref (fun a2 e3 => ?_)
  refine v_chk (fun h4 => ?_)
  refine v_hget C.1 (v := va_rf (hR u a2 0)) 1 0 (eq_of_beq h4) (by decide) rfl in_X2 (by decide) (Or.inr ⟨_, q197⟩) (fun _ h => h) (hF_r (ci := 1) (eq_of_beq h4) (by decide)) dX1_far_23 ?_
  refine v_deref (fun a5 e6 => ?_)
  refine v_chk (fun h9 => ?_)
  refine v_callFH C.1 [] [.int x4] (ctJ2_size t G l hl0 a5 u) (fun _ _ => cwJ2_sizeF C.1 q453 (by decide)) (eq_of_beq h9) (by decide) rfl rfl rfl (by exact Nat.le_of_ble_eq_true rfl) dX1_far_26 (fun r8 u7 => ?_)
  refine v_icmp_gt C.1.1 150 (by decide) dX1_far_31 (fun _ => ?_) (fun _ => ?_)
  · refine v_iconst C.1.1 (-1) (by decide) dX1_far_150 ?_
    exact v_xiret C.1 dX1_far_151
  · refine v_iload_n C.1.1 2 rfl rfl dX1_far_34 ?_
    refine v_iload_n C.1.1 1 rfl rfl dX1_far_35 ?_
    refine v_callSH C.1 [.int x3, .int p2] [] (ctX1_isOf t G l hl0 x3 p2 u7) (fun _ _ => cwX1_isOf C.1 q1323 (by decide)) rfl rfl (by exact Nat.le_of_ble_eq_true rfl) dX1_far_36 (fun r11 u10 => ?_)
    refine v_if_eq C.1.1 45 (by decide) dX1_far_39 (fun _ => ?_) (fun _ => ?_)
    · refine v_iload_n C.1.1 2 rfl rfl dX1_far_45 ?_
      refine v_istore C.1.1 [(5, .int x3), (0, .ref p0), (2, .int p2), (3, .int x3), (4, .int x4)] (by decide) rfl dX1_far_46 ?_
      refine v_iconst C.1.1 0 (by decide) dX1_far_48 ?_
      refine v_istore C.1.1 [(6, .int 0), (5, .int x3), (0, .ref p0), (2, .int p2), (3, .int x3), (4, .int x4)] (by decide) rfl dX1_far_49 ?_
      refine v_sub [2, 3, 4, 5, 1, 0] rfl ?_
      exact whX1_far_51 hl0 C p0 p1 p2 k hk FUEL x3 x4 x3 0 u10
    · refine v_iload C.1.1 3 rfl dX1_far_42 ?_
      exact v_xiret C.1 dX1_far_44
def hX1_far (p0 : Nat) (p1 : Int32) (p2 : Int32) (u : HS) : Option (OH (PX Int32)) :=
  mchk (hC u p0 == 1) <|
  hx (hX1_aPlace p0 p1 u) fun _ u1 =>
  mchk (hC u1 p0 == 1) <|
  hx (hX1_aPlace p0 p2 u1) fun _ u3 =>
  mlet ((1 : Int32) <<< (p1 &&& 31)) fun v5 =>
  ml2 (hX1_far_17 p0 p1 p2) FUEL v5 0 u3
theorem ctX1_far (t : TT) (G : GH) (l : Launch) (hl0 : l.stackTraces = false) (p0 : Nat) (p1 : Int32) (p2 : Int32) (u : HS) : CtX mkI t G l yX1_far cX1_far 8 (some .int) 10 [.ref p0, .int p1, .int p2] u (hX1_far p0 p1 p2 u) := by
  refine ctX_of [(0, .ref p0), (1, .int p1), (2, .int p2)] hl0 rfl (Nat.le_of_ble_eq_true rfl) rfl (fun K1 K2 p e s m args below meth c C => ?_)
  unfold hX1_far
  refine v_aload_n C.1.1 0 rfl rfl dX1_far_0 ?_
  refine v_iload_n C.1.1 1 rfl rfl dX1_far_1 ?_
  refine v_chk (fun h2 => ?_)
  refine v_callVX C [.int p1] [] (ctX1_aPlace t G l hl0 p0 p1 u) (fun _ _ => cwX1_aPlace C.1 q1363 (by decide)) (recO C.1 (ci := 0) (eq_of_beq h2) (by decide) rfl) rfl rfl (by exact Nat.le_of_ble_eq_true rfl) dX1_far_2 (fun _ u1 => ?_)
  refine v_aload_n C.1.1 0 rfl rfl dX1_far_5 ?_
  refine v_iload_n C.1.1 2 rfl rfl dX1_far_6 ?_
  refine v_chk (fun h4 => ?_)
  refine v_callVX C [.int p2] [] (ctX1_aPlace t G l hl0 p0 p2 u1) (fun _ _ => cwX1_aPlace C.1 q1363 (by decide)) (recO C.1 (ci := 0) (eq_of_beq h4) (by decide) rfl) rfl rfl (by exact Nat.le_of_ble_eq_true rfl) dX1_far_7 (fun _ u3 => ?_)
  refine v_iconst C.1.1 1 (by decide) dX1_far_10 ?_
  refine v_iload_n C.1.1 1 rfl rfl dX1_far_11 ?_
  refine v_ishl C.1.1 dX1_far_12 ?_
  refine v_topi (fun v5 => ?_)
  refine v_istore_n C.1.1 [(3, .int v5), (0, .ref p0), (1, .int p1), (2, .int p2)] rfl (by decide) rfl dX1_far_13 ?_
  refine v_iconst C.1.1 0 (by decide) dX1_far_14 ?_
  refine v_istore C.1.1 [(4, .int 0), (3, .int v5), (0, .ref p0), (1, .int p1), (2, .int p2)] (by decide) rfl dX1_far_15 ?_
  refine v_sub [2, 4, 1, 0] rfl ?_
  exact whX1_far_17 hl0 C p0 p1 p2 FUEL v5 0 u3
theorem cwX1_far {t : TT} {G : GH} {l : Launch} {p : Program} {s : State} {m : MethodId} {args : Array Value} {meth : Method} {c : Code} {y0 : MethodName} {cc0 : ByteArray} {nL0 : Nat} {ret0 : Option FieldType} (C : CxH t G l p s m args meth c y0 cc0 nL0 ret0) {index lv mc ms K1 K2 : Nat} (hq : Cond.methodLink y0.cls index yX1_far ∈ lw_all) (hR : 10 + 1 ≤ lv) : CallW (rmH lv K1 K2) s args y0.cls RX1 index yX1_far cX1_far 8 (some .int) (ws_ yX1_far cX1_far 8 (some .int)) (rmH 10 mc ms) mc ms 2 :=
  cwV 2 C.1.2.2.2.2.1 (lw_V hq q1574 q1575 q121 q1576) rfl rfl rfl (by decide +kernel) ⟨hR, by show 8 + (8 + 11) + 100 * 10 ≤ 100 * lv; omega⟩
def hX1_reached_116 (p0 : Nat) (p1 : Int32) (k6 : Int32 → Int32 → HS → Option (OH Int32)) (k25 : Int32 → Int32 → Int32 → HS → Option (OH Int32)) (x2 : Int32) (x3 : Int32) (x4 : Int32) (x5 : Nat) (u : HS) : Option (OH Int32) :=
  mchk (hC u x5 == 7) <|
  hb (hX1_isOf x2 (hI u x5 1) u) fun r3 u2 =>
  if r3 = 0 then
    k25 x2 x3 (x4 + 1) u2
  else
    mchk (hC u2 p0 == 1) <|
    mderef (hR u2 p0 2) fun a5 =>
    mchk (hC u2 x5 == 7) <|
    mchk (hC u2 a5 == 2) <|
    hb (hX2_isSea a5 (hI u2 x5 1) u2) fun r9 u8 =>
    if r9 = 0 then
      mchk (hC u8 x5 == 7) <|
      mlet (x2 ||| ((1 : Int32) <<< ((hI u8 x5 0) &&& 31))) fun v12 =>
      k25 v12 x3 (x4 + 1) u8
    else
      k25 x2 x3 (x4 + 1) u8
theorem whX1_reached_116 {K1 K2 : Nat} {p : Program} {e : Env} {s : State} {m : MethodId} {args : Array Value} {below : List Frame} {meth : Method} {c : Code} (hl0 : l.stackTraces = false) (C : CxH t G l p s m args meth c yX1_reached cX1_reached 6 (some .int)) (p0 : Nat) (p1 : Int32) (k6 : Int32 → Int32 → HS → Option (OH Int32)) (k25 : Int32 → Int32 → Int32 → HS → Option (OH Int32)) (hk6 : ∀ (x2 : Int32) (x3 : Int32) (u : HS), VH mkI t G p l e 6 K1 K2 s m args below meth c 6 6 [(0, .ref p0), (2, .int x2), (3, .int x3)] [] u (k6 x2 x3 u)) (hk25 : ∀ (x2 : Int32) (x3 : Int32) (x4 : Int32) (u : HS), VH mkI t G p l e 6 K1 K2 s m args below meth c 6 25 [(0, .ref p0), (2, .int x2), (3, .int x3), (4, .int x4)] [] u (k25 x2 x3 x4 u)) (x2 : Int32) (x3 : Int32) (x4 : Int32) (x5 : Nat) (u : HS) : VH mkI t G p l e 6 K1 K2 s m args below meth c 6 116 [(0, .ref p0), (2, .int x2), (3, .int x3), (4, .int x4), (5, .ref x5)] [] u (hX1_reached_116 p0 p1 k6 k25 x2 x3 x4 x5 u) := by
  unfold hX1_reached_116
  refine v_iload_n C.1 1 rfl rfl dX1_reached_116 ?_
  refine v_aload C.1 4 rfl dX1_reached_117 ?_
  refine v_chk (fun h1 => ?_)
  refine v_hget C (v := .int (hI u x5 1)) 6 1 (eq_of_beq h1) (by decide) rfl in_X7 (by decide) (Or.inr ⟨_, q1092⟩) (fun _ h => h) (hF_i (ci := 6) (eq_of_beq h1) (by decide)) dX1_reached_119 ?_
  refine v_callSH C [.int x2, .int (hI u x5 1)] [] (ctX1_isOf t G l hl0 x2 (hI u x5 1) u) (fun _ _ => cwX1_isOf C q1323 (by decide)) rfl rfl (by exact Nat.le_of_ble_eq_true rfl) dX1_reached_122 (fun r3 u2 => ?_)
  refine v_if_eq C.1 153 (by decide) dX1_reached_125 (fun _ => ?_) (fun _ => ?_)
  · refine v_iinc C.1 1 [(4, .int (x4 + 1)), (0, .ref p0), (2, .int x2), (3, .int x3), (5, .ref x5)] 3 rfl (by decide) (by decide) rfl dX1_reached_153 ?_
    refine v_goto C.1 25 (by decide) dX1_reached_156 ?_
    refine v_sub [1, 2, 3, 0] rfl ?_
    exact hk25 x2 x3 (x4 + 1) u2
  · refine v_aload_n C.1 0 rfl rfl dX1_reached_128 ?_
    refine v_chk (fun h4 => ?_)
    refine v_hget C (v := va_rf (hR u2 p0 2)) 0 2 (eq_of_beq h4) (by decide) rfl in_X1 (by decide) (Or.inl q311) (fun _ h => h) (hF_r (ci := 0) (eq_of_beq h4) (by decide)) dX1_reached_129 ?_
    refine v_deref (fun a5 e6 => ?_)
    refine v_aload C.1 4 rfl dX1_reached_132 ?_
    refine v_chk (fun h7 => ?_)
    refine v_hget C (v := .int (hI u2 x5 1)) 6 1 (eq_of_beq h7) (by decide) rfl in_X7 (by decide) (Or.inr ⟨_, q1092⟩) (fun _ h => h) (hF_i (ci := 6) (eq_of_beq h7) (by decide)) dX1_reached_134 ?_
    refine v_chk (fun h10 => ?_)
    refine v_callVH C [.int (hI u2 x5 1)] [] (ctX2_isSea t G l hl0 a5 (hI u2 x5 1) u2) (fun _ _ => cwX2_isSea C q1468 (by decide)) (recO C (ci := 1) (eq_of_beq h10) (by decide) rfl) rfl rfl (by exact Nat.le_of_ble_eq_true rfl) dX1_reached_137 (fun r9 u8 => ?_)
    refine v_if_ne C.1 153 (by decide) dX1_reached_140 (fun _ => ?_) (fun _ => ?_)
    · refine v_iload_n C.1 1 rfl rfl dX1_reached_143 ?_
      refine v_iconst C.1 1 (by decide) dX1_reached_144 ?_
      refine v_aload C.1 4 rfl dX1_reached_145 ?_
      refine v_chk (fun h11 => ?_)
      refine v_hget C (v := .int (hI u8 x5 0)) 6 0 (eq_of_beq h11) (by decide) rfl in_X7 (by decide) (Or.inr ⟨_, q1090⟩) (fun _ h => h) (hF_i (ci := 6) (eq_of_beq h11) (by decide)) dX1_reached_147 ?_
      refine v_ishl C.1 dX1_reached_150 ?_
      refine v_ior C.1 dX1_reached_151 ?_
      refine v_topi (fun v12 => ?_)
      refine v_istore_n C.1 [(2, .int v12), (0, .ref p0), (3, .int x3), (4, .int x4), (5, .ref x5)] rfl (by decide) rfl dX1_reached_152 ?_
      refine v_iinc C.1 1 [(4, .int (x4 + 1)), (2, .int v12), (0, .ref p0), (3, .int x3), (5, .ref x5)] 3 rfl (by decide) (by decide) rfl dX1_reached_153 ?_
      refine v_goto C.1 25 (by decide) dX1_reached_156 ?_
      refine v_sub [2, 1, 3, 0] rfl ?_
      exact hk25 v12 x3 (x4 + 1) u8
    · refine v_iinc C.1 1 [(4, .int (x4 + 1)), (0, .ref p0), (2, .int x2), (3, .int x3), (5, .ref x5)] 3 rfl (by decide) (by decide) rfl dX1_reached_153 ?_
      refine v_goto C.1 25 (by decide) dX1_reached_156 ?_
      refine v_sub [1, 2, 3, 0] rfl ?_
      exact hk25 x2 x3 (x4 + 1) u8
def hX1_reached_25 (p0 : Nat) (p1 : Int32) (k6 : Int32 → Int32 → HS → Option (OH Int32)) (k : Int32 → Int32 → Int32 → HS → Option (OH Int32)) (x2 : Int32) (x3 : Int32) (x4 : Int32) (u : HS) : Option (OH Int32) :=
  mchk (hC u p0 == 1) <|
  mderef (hR u p0 2) fun a2 =>
  mchk (hC u a2 == 2) <|
  mderef (hR u a2 2) fun a5 =>
  mchk (hC u a5 == 12) <|
  hb (hJ2_size a5 u) fun r8 u7 =>
  if r8 ≤ x4 then
    k6 x2 (x3 + 1) u7
  else
    mchk (hC u7 p0 == 1) <|
    mderef (hR u7 p0 2) fun a11 =>
    mchk (hC u7 a11 == 2) <|
    mderef (hR u7 a11 2) fun a14 =>
    mchk (hC u7 a14 == 12) <|
    hb (hJ2_get a14 x4 u7) fun r17 u16 =>
    mchk (hC u16 r17 == 7) <|
    mchk (hC u16 p0 == 1) <|
    mderef (hR u16 p0 3) fun a21 =>
    mchk (hC u16 a21 == 3) <|
    mchk (hC u16 r17 == 7) <|
    if (hI u16 a21 6) < (hI u16 r17 2) then
      mchk (hC u16 r17 == 7) <|
      hb (hX1_isOf x2 (hI u16 r17 0) u16) fun r27 u26 =>
      if r27 = 0 then
        hX1_reached_116 p0 p1 k6 k x2 x3 x4 r17 u26
      else
        mchk (hC u26 p0 == 1) <|
        mderef (hR u26 p0 2) fun a29 =>
        mchk (hC u26 r17 == 7) <|
        mchk (hC u26 a29 == 2) <|
        hb (hX2_isSea a29 (hI u26 r17 0) u26) fun r33 u32 =>
        if r33 = 0 then
          mchk (hC u32 r17 == 7) <|
          mlet (x2 ||| ((1 : Int32) <<< ((hI u32 r17 1) &&& 31))) fun v36 =>
          hX1_reached_116 p0 p1 k6 k v36 x3 x4 r17 u32
        else
          hX1_reached_116 p0 p1 k6 k x2 x3 x4 r17 u32
    else
      k x2 x3 (x4 + 1) u16
theorem whX1_reached_25 {K1 K2 : Nat} {p : Program} {e : Env} {s : State} {m : MethodId} {args : Array Value} {below : List Frame} {meth : Method} {c : Code} (hl0 : l.stackTraces = false) (C : CxH t G l p s m args meth c yX1_reached cX1_reached 6 (some .int)) (p0 : Nat) (p1 : Int32) (k6 : Int32 → Int32 → HS → Option (OH Int32)) (hk6 : ∀ (x2 : Int32) (x3 : Int32) (u : HS), VH mkI t G p l e 6 K1 K2 s m args below meth c 6 6 [(0, .ref p0), (2, .int x2), (3, .int x3)] [] u (k6 x2 x3 u)) (n : Nat) (x2 : Int32) (x3 : Int32) (x4 : Int32) (u : HS) : VH mkI t G p l e 6 K1 K2 s m args below meth c 6 25 [(0, .ref p0), (2, .int x2), (3, .int x3), (4, .int x4)] [] u (ml3 (hX1_reached_25 p0 p1 k6) n x2 x3 x4 u) := by
  refine vl3 (L := fun x2 x3 x4 => [(0, .ref p0), (2, .int x2), (3, .int x3), (4, .int x4)]) (fun k hk x2 x3 x4 u => ?_) n x2 x3 x4 u
  unfold hX1_reached_25
  refine v_iload C.1 3 rfl dX1_reached_25 ?_
  refine v_aload_n C.1 0 rfl rfl dX1_reached_27 ?_
  refine v_chk (fun h1 => ?_)
  refine v_hget C (v := va_rf (hR u p0 2)) 0 2 (eq_of_beq h1) (by decide) rfl in_X1 (by decide) (Or.inl q311) (fun _ h => h) (hF_r (ci := 0) (eq_of_beq h1) (by decide)) dX1_reached_28 ?_
  refine v_deref (fun a2 e3 => ?_)
  refine v_chk (fun h4 => ?_)
  refine v_hget C (v := va_rf (hR u a2 2)) 1 2 (eq_of_beq h4) (by decide) rfl in_X2 (by decide) (Or.inr ⟨_, q205⟩) (fun _ h => h) (hF_r (ci := 1) (eq_of_beq h4) (by decide)) dX1_reached_31 ?_
  refine v_deref (fun a5 e6 => ?_)
  refine v_chk (fun h9 => ?_)
  refine v_callFH C [] [.int x4] (ctJ2_size t G l hl0 a5 u) (fun _ _ => cwJ2_sizeF C q453 (by decide)) (eq_of_beq h9) (by decide) rfl rfl rfl (by exact Nat.le_of_ble_eq_true rfl) dX1_reached_34 (fun r8 u7 => ?_)
  refine v_icmp_ge C.1 159 (by decide) dX1_reached_39 (fun _ => ?_) (fun _ => ?_)
  · refine v_iinc C.1 1 [(3, .int (x3 + 1)), (0, .ref p0), (2, .int x2), (4, .int x4)] 2 rfl (by decide) (by decide) rfl dX1_reached_159 ?_
    refine v_goto C.1 6 (by decide) dX1_reached_162 ?_
    refine v_sub [1, 2, 0] rfl ?_
    exact hk6 x2 (x3 + 1) u7
  · refine v_aload_n C.1 0 rfl rfl dX1_reached_42 ?_
    refine v_chk (fun h10 => ?_)
    refine v_hget C (v := va_rf (hR u7 p0 2)) 0 2 (eq_of_beq h10) (by decide) rfl in_X1 (by decide) (Or.inl q311) (fun _ h => h) (hF_r (ci := 0) (eq_of_beq h10) (by decide)) dX1_reached_43 ?_
    refine v_deref (fun a11 e12 => ?_)
    refine v_chk (fun h13 => ?_)
    refine v_hget C (v := va_rf (hR u7 a11 2)) 1 2 (eq_of_beq h13) (by decide) rfl in_X2 (by decide) (Or.inr ⟨_, q205⟩) (fun _ h => h) (hF_r (ci := 1) (eq_of_beq h13) (by decide)) dX1_reached_46 ?_
    refine v_deref (fun a14 e15 => ?_)
    refine v_iload C.1 3 rfl dX1_reached_49 ?_
    refine v_chk (fun h18 => ?_)
    refine v_callFH C [.int x4] [] (ctJ2_get t G l hl0 a14 x4 u7) (fun _ _ => cwJ2_getF C q1368 (by decide)) (eq_of_beq h18) (by decide) rfl rfl rfl (by exact Nat.le_of_ble_eq_true rfl) dX1_reached_51 (fun r17 u16 => ?_)
    refine v_chk (fun h19 => ?_)
    refine v_hcastS C 6 (eq_of_beq h19) (by decide) rfl q1371 dX1_reached_56 ?_
    refine v_astore C.1 [(5, .ref r17), (0, .ref p0), (2, .int x2), (3, .int x3), (4, .int x4)] (by decide) rfl dX1_reached_59 ?_
    refine v_aload_n C.1 1 rfl rfl dX1_reached_61 ?_
    refine v_chk (fun h20 => ?_)
    refine v_hget C (v := va_rf (hR u16 p0 3)) 0 3 (eq_of_beq h20) (by decide) rfl in_X1 (by decide) (Or.inl q312) (fun _ h => h) (hF_r (ci := 0) (eq_of_beq h20) (by decide)) dX1_reached_62 ?_
    refine v_deref (fun a21 e22 => ?_)
    refine v_chk (fun h23 => ?_)
    refine v_hget C (v := .int (hI u16 a21 6)) 2 6 (eq_of_beq h23) (by decide) rfl in_X3 (by decide) (Or.inr ⟨_, q269⟩) (fun _ h => h) (hF_i (ci := 2) (eq_of_beq h23) (by decide)) dX1_reached_65 ?_
    refine v_aload C.1 0 rfl dX1_reached_68 ?_
    refine v_chk (fun h24 => ?_)
    refine v_hget C (v := .int (hI u16 r17 2)) 6 2 (eq_of_beq h24) (by decide) rfl in_X7 (by decide) (Or.inr ⟨_, q1094⟩) (fun _ h => h) (hF_i (ci := 6) (eq_of_beq h24) (by decide)) dX1_reached_70 ?_
    refine v_icmp_lt C.1 79 (by decide) dX1_reached_73 (fun _ => ?_) (fun _ => ?_)
    · refine v_iload_n C.1 2 rfl rfl dX1_reached_79 ?_
      refine v_aload C.1 0 rfl dX1_reached_80 ?_
      refine v_chk (fun h25 => ?_)
      refine v_hget C (v := .int (hI u16 r17 0)) 6 0 (eq_of_beq h25) (by decide) rfl in_X7 (by decide) (Or.inr ⟨_, q1090⟩) (fun _ h => h) (hF_i (ci := 6) (eq_of_beq h25) (by decide)) dX1_reached_82 ?_
      refine v_callSH C [.int x2, .int (hI u16 r17 0)] [] (ctX1_isOf t G l hl0 x2 (hI u16 r17 0) u16) (fun _ _ => cwX1_isOf C q1323 (by decide)) rfl rfl (by exact Nat.le_of_ble_eq_true rfl) dX1_reached_85 (fun r27 u26 => ?_)
      refine v_if_eq C.1 116 (by decide) dX1_reached_88 (fun _ => ?_) (fun _ => ?_)
      · refine v_sub [1, 2, 3, 4, 0] rfl ?_
        exact whX1_reached_116 hl0 C p0 p1 k6 k hk6 hk x2 x3 x4 r17 u26
      · refine v_aload_n C.1 1 rfl rfl dX1_reached_91 ?_
        refine v_chk (fun h28 => ?_)
        refine v_hget C (v := va_rf (hR u26 p0 2)) 0 2 (eq_of_beq h28) (by decide) rfl in_X1 (by decide) (Or.inl q311) (fun _ h => h) (hF_r (ci := 0) (eq_of_beq h28) (by decide)) dX1_reached_92 ?_
        refine v_deref (fun a29 e30 => ?_)
        refine v_aload C.1 0 rfl dX1_reached_95 ?_
        refine v_chk (fun h31 => ?_)
        refine v_hget C (v := .int (hI u26 r17 0)) 6 0 (eq_of_beq h31) (by decide) rfl in_X7 (by decide) (Or.inr ⟨_, q1090⟩) (fun _ h => h) (hF_i (ci := 6) (eq_of_beq h31) (by decide)) dX1_reached_97 ?_
        refine v_chk (fun h34 => ?_)
        refine v_callVH C [.int (hI u26 r17 0)] [] (ctX2_isSea t G l hl0 a29 (hI u26 r17 0) u26) (fun _ _ => cwX2_isSea C q1468 (by decide)) (recO C (ci := 1) (eq_of_beq h34) (by decide) rfl) rfl rfl (by exact Nat.le_of_ble_eq_true rfl) dX1_reached_100 (fun r33 u32 => ?_)
        refine v_if_ne C.1 116 (by decide) dX1_reached_103 (fun _ => ?_) (fun _ => ?_)
        · refine v_iload_n C.1 2 rfl rfl dX1_reached_106 ?_
          refine v_iconst C.1 1 (by decide) dX1_reached_107 ?_
          refine v_aload C.1 0 rfl dX1_reached_108 ?_
          refine v_chk (fun h35 => ?_)
          refine v_hget C (v := .int (hI u32 r17 1)) 6 1 (eq_of_beq h35) (by decide) rfl in_X7 (by decide) (Or.inr ⟨_, q1092⟩) (fun _ h => h) (hF_i (ci := 6) (eq_of_beq h35) (by decide)) dX1_reached_110 ?_
          refine v_ishl C.1 dX1_reached_113 ?_
          refine v_ior C.1 dX1_reached_114 ?_
          refine v_topi (fun v36 => ?_)
          refine v_istore_n C.1 [(2, .int v36), (5, .ref r17), (0, .ref p0), (3, .int x3), (4, .int x4)] rfl (by decide) rfl dX1_reached_115 ?_
          refine v_sub [2, 0, 3, 4, 1] rfl ?_
          exact whX1_reached_116 hl0 C p0 p1 k6 k hk6 hk v36 x3 x4 r17 u32
        · refine v_sub [1, 2, 3, 4, 0] rfl ?_
          exact whX1_reached_116 hl0 C p0 p1 k6 k hk6 hk x2 x3 x4 r17 u32
    · refine v_goto C.1 153 (by decide) dX1_reached_76 ?_
      refine v_iinc C.1 1 [(4, .int (x4 + 1)), (5, .ref r17), (0, .ref p0), (2, .int x2), (3, .int x3)] 4 rfl (by decide) (by decide) rfl dX1_reached_153 ?_
      refine v_goto C.1 25 (by decide) dX1_reached_156 ?_
      refine v_sub [2, 3, 4, 0] rfl ?_
      exact hk x2 x3 (x4 + 1) u16
def hX1_reached_6 (p0 : Nat) (p1 : Int32) (k : Int32 → Int32 → HS → Option (OH Int32)) (x2 : Int32) (x3 : Int32) (u : HS) : Option (OH Int32) :=
  mchk (hC u p0 == 1) <|
  mderef (hR u p0 2) fun a2 =>
  mchk (hC u a2 == 2) <|
  mderef (hR u a2 0) fun a5 =>
  mchk (hC u a5 == 12) <|
  hb (hJ2_size a5 u) fun r8 u7 =>
  if r8 ≤ x3 then
    hret x2 u7
  else
    ml3 (hX1_reached_25 p0 p1 k) FUEL x2 x3 0 u7
theorem whX1_reached_6 {K1 K2 : Nat} {p : Program} {e : Env} {s : State} {m : MethodId} {args : Array Value} {below : List Frame} {meth : Method} {c : Code} (hl0 : l.stackTraces = false) (C : CxH t G l p s m args meth c yX1_reached cX1_reached 6 (some .int)) (p0 : Nat) (p1 : Int32) (n : Nat) (x2 : Int32) (x3 : Int32) (u : HS) : VH mkI t G p l e 6 K1 K2 s m args below meth c 6 6 [(0, .ref p0), (2, .int x2), (3, .int x3)] [] u (ml2 (hX1_reached_6 p0 p1) n x2 x3 u) := by
  refine vl2 (L := fun x2 x3 => [(0, .ref p0), (2, .int x2), (3, .int x3)]) (fun k hk x2 x3 u => ?_) n x2 x3 u
  unfold hX1_reached_6
  refine v_iload_n C.1 2 rfl rfl dX1_reached_6 ?_
  refine v_aload_n C.1 0 rfl rfl dX1_reached_7 ?_
  refine v_chk (fun h1 => ?_)
  refine v_hget C (v := va_rf (hR u p0 2)) 0 2 (eq_of_beq h1) (by decide) rfl in_X1 (by decide) (Or.inl q311) (fun _ h => h) (hF_r (ci := 0) (eq_of_beq h1) (by decide)) dX1_reached_8 ?_
  refine v_deref (fun a2 e3 => ?_)
  refine v_chk (fun h4 => ?_)
  refine v_hget C (v := va_rf (hR u a2 0)) 1 0 (eq_of_beq h4) (by decide) rfl in_X2 (by decide) (Or.inr ⟨_, q197⟩) (fun _ h => h) (hF_r (ci := 1) (eq_of_beq h4) (by decide)) dX1_reached_11 ?_
  refine v_deref (fun a5 e6 => ?_)
  refine v_chk (fun h9 => ?_)
  refine v_callFH C [] [.int x3] (ctJ2_size t G l hl0 a5 u) (fun _ _ => cwJ2_sizeF C q453 (by decide)) (eq_of_beq h9) (by decide) rfl rfl rfl (by exact Nat.le_of_ble_eq_true rfl) dX1_reached_14 (fun r8 u7 => ?_)
  refine v_icmp_ge C.1 165 (by decide) dX1_reached_19 (fun _ => ?_) (fun _ => ?_)
  · refine v_iload_n C.1 1 rfl rfl dX1_reached_165 ?_
    exact v_hiret C dX1_reached_166
  · refine v_iconst C.1 0 (by decide) dX1_reached_22 ?_
    refine v_istore C.1 [(4, .int 0), (0, .ref p0), (2, .int x2), (3, .int x3)] (by decide) rfl dX1_reached_23 ?_
    refine v_sub [1, 2, 3, 0] rfl ?_
    exact whX1_reached_25 hl0 C p0 p1 k hk FUEL x2 x3 0 u7
def hX1_reached (p0 : Nat) (p1 : Int32) (u : HS) : Option (OH Int32) :=
  mlet ((1 : Int32) <<< (p1 &&& 31)) fun v1 =>
  ml2 (hX1_reached_6 p0 p1) FUEL v1 0 u
theorem ctX1_reached (t : TT) (G : GH) (l : Launch) (hl0 : l.stackTraces = false) (p0 : Nat) (p1 : Int32) (u : HS) : CtH mkI t G l yX1_reached cX1_reached 6 (some .int) 6 [.ref p0, .int p1] u (hX1_reached p0 p1 u) := by
  refine ctH_of [(0, .ref p0), (1, .int p1)] hl0 rfl (Nat.le_of_ble_eq_true rfl) rfl (fun K1 K2 p e s m args below meth c C => ?_)
  unfold hX1_reached
  refine v_iconst C.1 1 (by decide) dX1_reached_0 ?_
  refine v_iload_n C.1 1 rfl rfl dX1_reached_1 ?_
  refine v_ishl C.1 dX1_reached_2 ?_
  refine v_topi (fun v1 => ?_)
  refine v_istore_n C.1 [(2, .int v1), (0, .ref p0), (1, .int p1)] rfl (by decide) rfl dX1_reached_3 ?_
  refine v_iconst C.1 0 (by decide) dX1_reached_4 ?_
  refine v_istore_n C.1 [(3, .int 0), (2, .int v1), (0, .ref p0), (1, .int p1)] rfl (by decide) rfl dX1_reached_5 ?_
  refine v_sub [2, 1, 0] rfl ?_
  exact whX1_reached_6 hl0 C p0 p1 FUEL v1 0 u
theorem cwX1_reached {t : TT} {G : GH} {l : Launch} {p : Program} {s : State} {m : MethodId} {args : Array Value} {meth : Method} {c : Code} {y0 : MethodName} {cc0 : ByteArray} {nL0 : Nat} {ret0 : Option FieldType} (C : CxH t G l p s m args meth c y0 cc0 nL0 ret0) {index lv mc ms K1 K2 : Nat} (hq : Cond.methodLink y0.cls index yX1_reached ∈ lw_all) (hR : 6 + 1 ≤ lv) : CallW (rmH lv K1 K2) s args y0.cls RX1 index yX1_reached cX1_reached 6 (some .int) (ws_ yX1_reached cX1_reached 6 (some .int)) (rmH 6 mc ms) mc ms 1 :=
  cwV 1 C.1.2.2.2.2.1 (lw_V hq q1586 qs52 q121 q1587) rfl rfl rfl (by decide +kernel) ⟨hR, by show 8 + (6 + 11) + 100 * 6 ≤ 100 * lv; omega⟩
def hX1_refuge_24 (p0 : Nat) (p1 : Int32) (k : Int32 → Int32 → Int32 → HS → Option (OH (PX Int32))) (x2 : Int32) (x3 : Int32) (x4 : Int32) (u : HS) : Option (OH (PX Int32)) :=
  mchk (hC u p0 == 1) <|
  mderef (hR u p0 2) fun a2 =>
  mchk (hC u a2 == 2) <|
  mderef (hR u a2 0) fun a5 =>
  mchk (hC u a5 == 12) <|
  hb (hJ2_size a5 u) fun r8 u7 =>
  if r8 ≤ x4 then
    hret (.inl x3) u7
  else
    hb (hX1_isOf x2 x4 u7) fun r11 u10 =>
    if r11 = 0 then
      k x2 x3 (x4 + 1) u10
    else
      if x3 = (-1) then
        k x2 x4 (x4 + 1) u10
      else
        mchk (hC u10 p0 == 1) <|
        mderef (hR u10 p0 2) fun a13 =>
        mchk (hC u10 a13 == 2) <|
        mderef (hR u10 a13 0) fun a16 =>
        mchk (hC u10 a16 == 12) <|
        hb (hJ2_get a16 x4 u10) fun r19 u18 =>
        mchk (hC u18 r19 == 31) <|
        mchk (hC u18 r19 == 31) <|
        hb (hJ16_intValue r19 u18) fun r23 u22 =>
        mchk (hC u22 p0 == 1) <|
        mderef (hR u22 p0 2) fun a26 =>
        mchk (hC u22 a26 == 2) <|
        mderef (hR u22 a26 0) fun a29 =>
        mchk (hC u22 a29 == 12) <|
        hb (hJ2_get a29 x3 u22) fun r32 u31 =>
        mchk (hC u31 r32 == 31) <|
        mchk (hC u31 r32 == 31) <|
        hb (hJ16_intValue r32 u31) fun r36 u35 =>
        if r36 ≤ r23 then
          k x2 x3 (x4 + 1) u35
        else
          k x2 x4 (x4 + 1) u35
theorem whX1_refuge_24 {K1 K2 : Nat} {p : Program} {e : Env} {s : State} {m : MethodId} {args : Array Value} {below : List Frame} {meth : Method} {c : Code} (hl0 : l.stackTraces = false) (C : CxX t G l p s m args meth c yX1_refuge cX1_refuge 5 (some .int)) (p0 : Nat) (p1 : Int32) (n : Nat) (x2 : Int32) (x3 : Int32) (x4 : Int32) (u : HS) : VX mkI t G p l e 10 K1 K2 s m args below meth c 5 24 [(0, .ref p0), (2, .int x2), (3, .int x3), (4, .int x4)] [] u (ml3 (hX1_refuge_24 p0 p1) n x2 x3 x4 u) := by
  refine vl3 (L := fun x2 x3 x4 => [(0, .ref p0), (2, .int x2), (3, .int x3), (4, .int x4)]) (fun k hk x2 x3 x4 u => ?_) n x2 x3 x4 u
  unfold hX1_refuge_24
  refine v_iload C.1.1 3 rfl dX1_refuge_24 ?_
  refine v_aload_n C.1.1 0 rfl rfl dX1_refuge_26 ?_
  refine v_chk (fun h1 => ?_)
  refine v_hget C.1 (v := va_rf (hR u p0 2)) 0 2 (eq_of_beq h1) (by decide) rfl in_X1 (by decide) (Or.inl q311) (fun _ h => h) (hF_r (ci := 0) (eq_of_beq h1) (by decide)) dX1_refuge_27 ?_
  refine v_deref (fun a2 e3 => ?_)
  refine v_chk (fun h4 => ?_)
  refine v_hget C.1 (v := va_rf (hR u a2 0)) 1 0 (eq_of_beq h4) (by decide) rfl in_X2 (by decide) (Or.inr ⟨_, q197⟩) (fun _ h => h) (hF_r (ci := 1) (eq_of_beq h4) (by decide)) dX1_refuge_30 ?_
  refine v_deref (fun a5 e6 => ?_)
  refine v_chk (fun h9 => ?_)
  refine v_callFH C.1 [] [.int x4] (ctJ2_size t G l hl0 a5 u) (fun _ _ => cwJ2_sizeF C.1 q453 (by decide)) (eq_of_beq h9) (by decide) rfl rfl rfl (by exact Nat.le_of_ble_eq_true rfl) dX1_refuge_33 (fun r8 u7 => ?_)
  refine v_icmp_ge C.1.1 106 (by decide) dX1_refuge_38 (fun _ => ?_) (fun _ => ?_)
  · refine v_iload_n C.1.1 2 rfl rfl dX1_refuge_106 ?_
    exact v_xiret C.1 dX1_refuge_107
  · refine v_iload_n C.1.1 1 rfl rfl dX1_refuge_41 ?_
    refine v_iload C.1.1 3 rfl dX1_refuge_42 ?_
    refine v_callSH C.1 [.int x2, .int x4] [] (ctX1_isOf t G l hl0 x2 x4 u7) (fun _ _ => cwX1_isOf C.1 q1323 (by decide)) rfl rfl (by exact Nat.le_of_ble_eq_true rfl) dX1_refuge_44 (fun r11 u10 => ?_)
    refine v_if_eq C.1.1 100 (by decide) dX1_refuge_47 (fun _ => ?_) (fun _ => ?_)
    · refine v_iinc C.1.1 1 [(4, .int (x4 + 1)), (0, .ref p0), (2, .int x2), (3, .int x3)] 3 rfl (by decide) (by decide) rfl dX1_refuge_100 ?_
      refine v_goto C.1.1 24 (by decide) dX1_refuge_103 ?_
      refine v_sub [1, 2, 3, 0] rfl ?_
      exact hk x2 x3 (x4 + 1) u10
    · refine v_iload_n C.1.1 2 rfl rfl dX1_refuge_50 ?_
      refine v_iconst C.1.1 (-1) (by decide) dX1_refuge_51 ?_
      refine v_icmp_eq C.1.1 97 (by decide) dX1_refuge_52 (fun _ => ?_) (fun _ => ?_)
      · refine v_iload C.1.1 3 rfl dX1_refuge_97 ?_
        refine v_istore_n C.1.1 [(3, .int x4), (0, .ref p0), (2, .int x2), (4, .int x4)] rfl (by decide) rfl dX1_refuge_99 ?_
        refine v_iinc C.1.1 1 [(4, .int (x4 + 1)), (3, .int x4), (0, .ref p0), (2, .int x2)] 3 rfl (by decide) (by decide) rfl dX1_refuge_100 ?_
        refine v_goto C.1.1 24 (by decide) dX1_refuge_103 ?_
        refine v_sub [2, 3, 1, 0] rfl ?_
        exact hk x2 x4 (x4 + 1) u10
      · refine v_aload_n C.1.1 0 rfl rfl dX1_refuge_55 ?_
        refine v_chk (fun h12 => ?_)
        refine v_hget C.1 (v := va_rf (hR u10 p0 2)) 0 2 (eq_of_beq h12) (by decide) rfl in_X1 (by decide) (Or.inl q311) (fun _ h => h) (hF_r (ci := 0) (eq_of_beq h12) (by decide)) dX1_refuge_56 ?_
        refine v_deref (fun a13 e14 => ?_)
        refine v_chk (fun h15 => ?_)
        refine v_hget C.1 (v := va_rf (hR u10 a13 0)) 1 0 (eq_of_beq h15) (by decide) rfl in_X2 (by decide) (Or.inr ⟨_, q197⟩) (fun _ h => h) (hF_r (ci := 1) (eq_of_beq h15) (by decide)) dX1_refuge_59 ?_
        refine v_deref (fun a16 e17 => ?_)
        refine v_iload C.1.1 3 rfl dX1_refuge_62 ?_
        refine v_chk (fun h20 => ?_)
        refine v_callFH C.1 [.int x4] [] (ctJ2_get t G l hl0 a16 x4 u10) (fun _ _ => cwJ2_getF C.1 q1368 (by decide)) (eq_of_beq h20) (by decide) rfl rfl rfl (by exact Nat.le_of_ble_eq_true rfl) dX1_refuge_64 (fun r19 u18 => ?_)
        refine v_chk (fun h21 => ?_)
        refine v_hcastB C.1 (eq_of_beq h21) q1369 dX1_refuge_69 ?_
        refine v_chk (fun h24 => ?_)
        refine v_callVH C.1 [] [] (ctJ16_intValue t G l hl0 r19 u18) (fun _ _ => cwJ16_intValue C.1 q1370 (by decide)) (recB C.1 (eq_of_beq h24)) rfl rfl (by exact Nat.le_of_ble_eq_true rfl) dX1_refuge_72 (fun r23 u22 => ?_)
        refine v_aload_n C.1.1 0 rfl rfl dX1_refuge_75 ?_
        refine v_chk (fun h25 => ?_)
        refine v_hget C.1 (v := va_rf (hR u22 p0 2)) 0 2 (eq_of_beq h25) (by decide) rfl in_X1 (by decide) (Or.inl q311) (fun _ h => h) (hF_r (ci := 0) (eq_of_beq h25) (by decide)) dX1_refuge_76 ?_
        refine v_deref (fun a26 e27 => ?_)
        refine v_chk (fun h28 => ?_)
        refine v_hget C.1 (v := va_rf (hR u22 a26 0)) 1 0 (eq_of_beq h28) (by decide) rfl in_X2 (by decide) (Or.inr ⟨_, q197⟩) (fun _ h => h) (hF_r (ci := 1) (eq_of_beq h28) (by decide)) dX1_refuge_79 ?_
        refine v_deref (fun a29 e30 => ?_)
        refine v_iload_n C.1.1 2 rfl rfl dX1_refuge_82 ?_
        refine v_chk (fun h33 => ?_)
        refine v_callFH C.1 [.int x3] [.int r23] (ctJ2_get t G l hl0 a29 x3 u22) (fun _ _ => cwJ2_getF C.1 q1368 (by decide)) (eq_of_beq h33) (by decide) rfl rfl rfl (by exact Nat.le_of_ble_eq_true rfl) dX1_refuge_83 (fun r32 u31 => ?_)
        refine v_chk (fun h34 => ?_)
        refine v_hcastB C.1 (eq_of_beq h34) q1369 dX1_refuge_88 ?_
        refine v_chk (fun h37 => ?_)
        refine v_callVH C.1 [] [.int r23] (ctJ16_intValue t G l hl0 r32 u31) (fun _ _ => cwJ16_intValue C.1 q1370 (by decide)) (recB C.1 (eq_of_beq h37)) rfl rfl (by exact Nat.le_of_ble_eq_true rfl) dX1_refuge_91 (fun r36 u35 => ?_)
        refine v_icmp_ge C.1.1 100 (by decide) dX1_refuge_94 (fun _ => ?_) (fun _ => ?_)
        · refine v_iinc C.1.1 1 [(4, .int (x4 + 1)), (0, .ref p0), (2, .int x2), (3, .int x3)] 3 rfl (by decide) (by decide) rfl dX1_refuge_100 ?_
          refine v_goto C.1.1 24 (by decide) dX1_refuge_103 ?_
          refine v_sub [1, 2, 3, 0] rfl ?_
          exact hk x2 x3 (x4 + 1) u35
        · refine v_iload C.1.1 3 rfl dX1_refuge_97 ?_
          refine v_istore_n C.1.1 [(3, .int x4), (0, .ref p0), (2, .int x2), (4, .int x4)] rfl (by decide) rfl dX1_refuge_99 ?_
          refine v_iinc C.1.1 1 [(4, .int (x4 + 1)), (3, .int x4), (0, .ref p0), (2, .int x2)] 3 rfl (by decide) (by decide) rfl dX1_refuge_100 ?_
          refine v_goto C.1.1 24 (by decide) dX1_refuge_103 ?_
          refine v_sub [2, 3, 1, 0] rfl ?_
          exact hk x2 x4 (x4 + 1) u35
def hX1_refuge (p0 : Nat) (p1 : Int32) (u : HS) : Option (OH (PX Int32)) :=
  mchk (hC u p0 == 1) <|
  hx (hX1_aPerson p0 p1 u) fun _ u1 =>
  mchk (hC u1 p0 == 1) <|
  mderef (hR u1 p0 3) fun a4 =>
  mchk (hC u1 a4 == 3) <|
  mderef (hR u1 a4 2) fun a7 =>
  mchk (inA u1 p1 a7 21) <|
  mchk (hC u1 p0 == 1) <|
  hb (hX1_reached p0 (hA u1 a7 p1.toNatClampNeg) u1) fun r11 u10 =>
  ml3 (hX1_refuge_24 p0 p1) FUEL r11 (-1) 0 u10
theorem ctX1_refuge (t : TT) (G : GH) (l : Launch) (hl0 : l.stackTraces = false) (p0 : Nat) (p1 : Int32) (u : HS) : CtX mkI t G l yX1_refuge cX1_refuge 5 (some .int) 10 [.ref p0, .int p1] u (hX1_refuge p0 p1 u) := by
  refine ctX_of [(0, .ref p0), (1, .int p1)] hl0 rfl (Nat.le_of_ble_eq_true rfl) rfl (fun K1 K2 p e s m args below meth c C => ?_)
  unfold hX1_refuge
  refine v_aload_n C.1.1 0 rfl rfl dX1_refuge_0 ?_
  refine v_iload_n C.1.1 1 rfl rfl dX1_refuge_1 ?_
  refine v_chk (fun h2 => ?_)
  refine v_callVX C [.int p1] [] (ctX1_aPerson t G l hl0 p0 p1 u) (fun _ _ => cwX1_aPerson C.1 q1380 (by decide)) (recO C.1 (ci := 0) (eq_of_beq h2) (by decide) rfl) rfl rfl (by exact Nat.le_of_ble_eq_true rfl) dX1_refuge_2 (fun _ u1 => ?_)
  refine v_aload_n C.1.1 0 rfl rfl dX1_refuge_5 ?_
  refine v_aload_n C.1.1 0 rfl rfl dX1_refuge_6 ?_
  refine v_chk (fun h3 => ?_)
  refine v_hget C.1 (v := va_rf (hR u1 p0 3)) 0 3 (eq_of_beq h3) (by decide) rfl in_X1 (by decide) (Or.inl q312) (fun _ h => h) (hF_r (ci := 0) (eq_of_beq h3) (by decide)) dX1_refuge_7 ?_
  refine v_deref (fun a4 e5 => ?_)
  refine v_chk (fun h6 => ?_)
  refine v_hget C.1 (v := va_rf (hR u1 a4 2)) 2 2 (eq_of_beq h6) (by decide) rfl in_X3 (by decide) (Or.inr ⟨_, q259⟩) (fun _ h => h) (hF_r (ci := 2) (eq_of_beq h6) (by decide)) dX1_refuge_10 ?_
  refine v_deref (fun a7 e8 => ?_)
  refine v_iload_n C.1.1 1 rfl rfl dX1_refuge_13 ?_
  refine v_chk (fun h9 => ?_)
  refine v_haiald C.1 h9 dX1_refuge_14 ?_
  refine v_chk (fun h12 => ?_)
  refine v_callVH C.1 [.int (hA u1 a7 p1.toNatClampNeg)] [] (ctX1_reached t G l hl0 p0 (hA u1 a7 p1.toNatClampNeg) u1) (fun _ _ => cwX1_reached C.1 q1584 (by decide)) (recO C.1 (ci := 0) (eq_of_beq h12) (by decide) rfl) rfl rfl (by exact Nat.le_of_ble_eq_true rfl) dX1_refuge_15 (fun r11 u10 => ?_)
  refine v_istore_n C.1.1 [(2, .int r11), (0, .ref p0), (1, .int p1)] rfl (by decide) rfl dX1_refuge_18 ?_
  refine v_iconst C.1.1 (-1) (by decide) dX1_refuge_19 ?_
  refine v_istore_n C.1.1 [(3, .int (-1)), (2, .int r11), (0, .ref p0), (1, .int p1)] rfl (by decide) rfl dX1_refuge_20 ?_
  refine v_iconst C.1.1 0 (by decide) dX1_refuge_21 ?_
  refine v_istore C.1.1 [(4, .int 0), (3, .int (-1)), (2, .int r11), (0, .ref p0), (1, .int p1)] (by decide) rfl dX1_refuge_22 ?_
  refine v_sub [3, 2, 1, 0] rfl ?_
  exact whX1_refuge_24 hl0 C p0 p1 FUEL r11 (-1) 0 u10
theorem cwX1_refuge {t : TT} {G : GH} {l : Launch} {p : Program} {s : State} {m : MethodId} {args : Array Value} {meth : Method} {c : Code} {y0 : MethodName} {cc0 : ByteArray} {nL0 : Nat} {ret0 : Option FieldType} (C : CxH t G l p s m args meth c y0 cc0 nL0 ret0) {index lv mc ms K1 K2 : Nat} (hq : Cond.methodLink y0.cls index yX1_refuge ∈ lw_all) (hR : 10 + 1 ≤ lv) : CallW (rmH lv K1 K2) s args y0.cls RX1 index yX1_refuge cX1_refuge 5 (some .int) (ws_ yX1_refuge cX1_refuge 5 (some .int)) (rmH 10 mc ms) mc ms 1 :=
  cwV 1 C.1.2.2.2.2.1 (lw_V hq q1581 q1582 q121 q1583) rfl rfl rfl (by decide +kernel) ⟨hR, by show 8 + (5 + 11) + 100 * 10 ≤ 100 * lv; omega⟩
def hX1_worst_26 (p0 : Nat) (p1 : Int32) (k : Nat → Int32 → Int32 → Int32 → HS → Option (OH (PX Int32))) (x2 : Nat) (x3 : Int32) (x4 : Int32) (x5 : Int32) (u : HS) : Option (OH (PX Int32)) :=
  if x5 ≤ 0 then
    if p1 = 0 then
      hret (.inl x3) u
    else
      hret (.inl x4) u
  else
    mchk (hC u x2 == 3) <|
    hb (hJ16_bitCount (hI u x2 7) u) fun r3 u2 =>
    mchk (hC u2 x2 == 3) <|
    hb (hX3_morning x2 u2) fun r5 u4 =>
    mchk (hC u4 r5 == 3) <|
    hb (hJ16_bitCount (hI u4 r5 7) u4) fun r9 u8 =>
    mlet (r9 - r3) fun v10 =>
    if x4 < v10 then
      mchk (hC u8 x2 == 3) <|
      mlet ((hI u8 x2 6) - 1) fun v12 =>
      k x2 v12 v10 (x5 + (-1)) u8
    else
      k x2 x3 x4 (x5 + (-1)) u8
theorem whX1_worst_26 {K1 K2 : Nat} {p : Program} {e : Env} {s : State} {m : MethodId} {args : Array Value} {below : List Frame} {meth : Method} {c : Code} (hl0 : l.stackTraces = false) (C : CxX t G l p s m args meth c yX1_worst cX1_worst 8 (some .int)) (p0 : Nat) (p1 : Int32) (n : Nat) (x2 : Nat) (x3 : Int32) (x4 : Int32) (x5 : Int32) (u : HS) : VX mkI t G p l e 423 K1 K2 s m args below meth c 8 26 [(1, .int p1), (2, .ref x2), (3, .int x3), (4, .int x4), (5, .int x5)] [] u (ml4 (hX1_worst_26 p0 p1) n x2 x3 x4 x5 u) := by
  refine vl4 (L := fun x2 x3 x4 x5 => [(1, .int p1), (2, .ref x2), (3, .int x3), (4, .int x4), (5, .int x5)]) (fun k hk x2 x3 x4 x5 u => ?_) n x2 x3 x4 x5 u
  unfold hX1_worst_26
  refine v_iload C.1.1 4 rfl dX1_worst_26 ?_
  refine v_if_le C.1.1 82 (by decide) dX1_worst_28 (fun _ => ?_) (fun _ => ?_)
  · refine v_iload_n C.1.1 0 rfl rfl dX1_worst_82 ?_
    refine v_if_ne C.1.1 90 (by decide) dX1_worst_83 (fun _ => ?_) (fun _ => ?_)
    · refine v_iload_n C.1.1 2 rfl rfl dX1_worst_86 ?_
      refine v_goto C.1.1 92 (by decide) dX1_worst_87 ?_
      exact v_xiret C.1 dX1_worst_92
    · refine v_iload C.1.1 3 rfl dX1_worst_90 ?_
      exact v_xiret C.1 dX1_worst_92
  · refine v_aload_n C.1.1 1 rfl rfl dX1_worst_31 ?_
    refine v_chk (fun h1 => ?_)
    refine v_hget C.1 (v := .int (hI u x2 7)) 2 7 (eq_of_beq h1) (by decide) rfl in_X3 (by decide) (Or.inr ⟨_, q271⟩) (fun _ h => h) (hF_i (ci := 2) (eq_of_beq h1) (by decide)) dX1_worst_32 ?_
    refine v_callSH C.1 [.int (hI u x2 7)] [] (ctJ16_bitCount t G l hl0 (hI u x2 7) u) (fun _ _ => cwJ16_bitCount C.1 q1495 (by decide)) rfl rfl (by exact Nat.le_of_ble_eq_true rfl) dX1_worst_35 (fun r3 u2 => ?_)
    refine v_istore C.1.1 [(6, .int r3), (1, .int p1), (2, .ref x2), (3, .int x3), (4, .int x4), (5, .int x5)] (by decide) rfl dX1_worst_38 ?_
    refine v_aload_n C.1.1 2 rfl rfl dX1_worst_40 ?_
    refine v_chk (fun h6 => ?_)
    refine v_callVH C.1 [] [] (ctX3_morning t G l hl0 x2 u2) (fun _ _ => cwX3_morning C.1 q695 (by decide)) (recO C.1 (ci := 2) (eq_of_beq h6) (by decide) rfl) rfl rfl (by exact Nat.le_of_ble_eq_true rfl) dX1_worst_41 (fun r5 u4 => ?_)
    refine v_chk (fun h7 => ?_)
    refine v_hget C.1 (v := .int (hI u4 r5 7)) 2 7 (eq_of_beq h7) (by decide) rfl in_X3 (by decide) (Or.inr ⟨_, q271⟩) (fun _ h => h) (hF_i (ci := 2) (eq_of_beq h7) (by decide)) dX1_worst_44 ?_
    refine v_callSH C.1 [.int (hI u4 r5 7)] [] (ctJ16_bitCount t G l hl0 (hI u4 r5 7) u4) (fun _ _ => cwJ16_bitCount C.1 q1495 (by decide)) rfl rfl (by exact Nat.le_of_ble_eq_true rfl) dX1_worst_47 (fun r9 u8 => ?_)
    refine v_iload C.1.1 0 rfl dX1_worst_50 ?_
    refine v_isub C.1.1 dX1_worst_52 ?_
    refine v_topi (fun v10 => ?_)
    refine v_istore C.1.1 [(7, .int v10), (6, .int r3), (1, .int p1), (2, .ref x2), (3, .int x3), (4, .int x4), (5, .int x5)] (by decide) rfl dX1_worst_53 ?_
    refine v_iload C.1.1 0 rfl dX1_worst_55 ?_
    refine v_iload C.1.1 5 rfl dX1_worst_57 ?_
    refine v_icmp_gt C.1.1 65 (by decide) dX1_worst_59 (fun _ => ?_) (fun _ => ?_)
    · refine v_aload_n C.1.1 3 rfl rfl dX1_worst_65 ?_
      refine v_chk (fun h11 => ?_)
      refine v_hget C.1 (v := .int (hI u8 x2 6)) 2 6 (eq_of_beq h11) (by decide) rfl in_X3 (by decide) (Or.inr ⟨_, q269⟩) (fun _ h => h) (hF_i (ci := 2) (eq_of_beq h11) (by decide)) dX1_worst_66 ?_
      refine v_iconst C.1.1 1 (by decide) dX1_worst_69 ?_
      refine v_isub C.1.1 dX1_worst_70 ?_
      refine v_topi (fun v12 => ?_)
      refine v_istore_n C.1.1 [(3, .int v12), (7, .int v10), (6, .int r3), (1, .int p1), (2, .ref x2), (4, .int x4), (5, .int x5)] rfl (by decide) rfl dX1_worst_71 ?_
      refine v_iload C.1.1 1 rfl dX1_worst_72 ?_
      refine v_istore C.1.1 [(4, .int v10), (3, .int v12), (7, .int v10), (6, .int r3), (1, .int p1), (2, .ref x2), (5, .int x5)] (by decide) rfl dX1_worst_74 ?_
      refine v_iinc C.1.1 (-1) [(5, .int (x5 + (-1))), (4, .int v10), (3, .int v12), (7, .int v10), (6, .int r3), (1, .int p1), (2, .ref x2)] 6 rfl (by decide) (by decide) rfl dX1_worst_76 ?_
      refine v_goto C.1.1 26 (by decide) dX1_worst_79 ?_
      refine v_sub [5, 6, 2, 1, 0] rfl ?_
      exact hk x2 v12 v10 (x5 + (-1)) u8
    · refine v_goto C.1.1 76 (by decide) dX1_worst_62 ?_
      refine v_iinc C.1.1 (-1) [(5, .int (x5 + (-1))), (7, .int v10), (6, .int r3), (1, .int p1), (2, .ref x2), (3, .int x3), (4, .int x4)] 6 rfl (by decide) (by decide) rfl dX1_worst_76 ?_
      refine v_goto C.1.1 26 (by decide) dX1_worst_79 ?_
      refine v_sub [3, 4, 5, 6, 0] rfl ?_
      exact hk x2 x3 x4 (x5 + (-1)) u8
def hX1_worst (p0 : Nat) (p1 : Int32) (u : HS) : Option (OH (PX Int32)) :=
  hx (hX1_oneOf p1 1 u) fun _ u1 =>
  mchk (hC u1 p0 == 1) <|
  mderef (hR u1 p0 3) fun a3 =>
  mchk (hC u1 a3 == 3) <|
  hb (hX3_copy a3 u1) fun r6 u5 =>
  mchk (hC u5 r6 == 3) <|
  hb (hX3_ahead r6 30 u5) fun r9 u8 =>
  ml4 (hX1_worst_26 p0 p1) FUEL r6 (-1) 0 r9 u8
theorem ctX1_worst (t : TT) (G : GH) (l : Launch) (hl0 : l.stackTraces = false) (p0 : Nat) (p1 : Int32) (u : HS) : CtX mkI t G l yX1_worst cX1_worst 8 (some .int) 423 [.ref p0, .int p1] u (hX1_worst p0 p1 u) := by
  refine ctX_of [(0, .ref p0), (1, .int p1)] hl0 rfl (Nat.le_of_ble_eq_true rfl) rfl (fun K1 K2 p e s m args below meth c C => ?_)
  unfold hX1_worst
  refine v_iload_n C.1.1 1 rfl rfl dX1_worst_0 ?_
  refine v_iconst C.1.1 1 (by decide) dX1_worst_1 ?_
  refine v_callSX C [.int p1, .int 1] [] (ctX1_oneOf t G l hl0 p1 1 u) (fun _ _ => cwX1_oneOf C.1 q1353 (by decide)) rfl rfl (by exact Nat.le_of_ble_eq_true rfl) dX1_worst_2 (fun _ u1 => ?_)
  refine v_aload_n C.1.1 0 rfl rfl dX1_worst_5 ?_
  refine v_chk (fun h2 => ?_)
  refine v_hget C.1 (v := va_rf (hR u1 p0 3)) 0 3 (eq_of_beq h2) (by decide) rfl in_X1 (by decide) (Or.inl q312) (fun _ h => h) (hF_r (ci := 0) (eq_of_beq h2) (by decide)) dX1_worst_6 ?_
  refine v_deref (fun a3 e4 => ?_)
  refine v_chk (fun h7 => ?_)
  refine v_callVH C.1 [] [] (ctX3_copy t G l hl0 a3 u1) (fun _ _ => cwX3_copy C.1 q377 (by decide)) (recO C.1 (ci := 2) (eq_of_beq h7) (by decide) rfl) rfl rfl (by exact Nat.le_of_ble_eq_true rfl) dX1_worst_9 (fun r6 u5 => ?_)
  refine v_astore_n C.1.1 [(2, .ref r6), (0, .ref p0), (1, .int p1)] rfl (by decide) rfl dX1_worst_12 ?_
  refine v_iconst C.1.1 (-1) (by decide) dX1_worst_13 ?_
  refine v_istore_n C.1.1 [(3, .int (-1)), (2, .ref r6), (0, .ref p0), (1, .int p1)] rfl (by decide) rfl dX1_worst_14 ?_
  refine v_iconst C.1.1 0 (by decide) dX1_worst_15 ?_
  refine v_istore C.1.1 [(4, .int 0), (3, .int (-1)), (2, .ref r6), (0, .ref p0), (1, .int p1)] (by decide) rfl dX1_worst_16 ?_
  refine v_aload_n C.1.1 2 rfl rfl dX1_worst_18 ?_
  refine v_bipush C.1.1 30 (by decide) dX1_worst_19 ?_
  refine v_chk (fun h10 => ?_)
  refine v_callVH C.1 [.int 30] [] (ctX3_ahead t G l hl0 r6 30 u5) (fun _ _ => cwX3_ahead C.1 q694 (by decide)) (recO C.1 (ci := 2) (eq_of_beq h10) (by decide) rfl) rfl rfl (by exact Nat.le_of_ble_eq_true rfl) dX1_worst_21 (fun r9 u8 => ?_)
  refine v_istore C.1.1 [(5, .int r9), (4, .int 0), (3, .int (-1)), (2, .ref r6), (0, .ref p0), (1, .int p1)] (by decide) rfl dX1_worst_24 ?_
  refine v_sub [5, 3, 2, 1, 0] rfl ?_
  exact whX1_worst_26 hl0 C p0 p1 FUEL r6 (-1) 0 r9 u8
theorem cwX1_worst {t : TT} {G : GH} {l : Launch} {p : Program} {s : State} {m : MethodId} {args : Array Value} {meth : Method} {c : Code} {y0 : MethodName} {cc0 : ByteArray} {nL0 : Nat} {ret0 : Option FieldType} (C : CxH t G l p s m args meth c y0 cc0 nL0 ret0) {index lv mc ms K1 K2 : Nat} (hq : Cond.methodLink y0.cls index yX1_worst ∈ lw_all) (hR : 423 + 1 ≤ lv) : CallW (rmH lv K1 K2) s args y0.cls RX1 index yX1_worst cX1_worst 8 (some .int) (ws_ yX1_worst cX1_worst 8 (some .int)) (rmH 423 mc ms) mc ms 1 :=
  cwV 1 C.1.2.2.2.2.1 (lw_V hq q1592 q1593 q121 q1594) rfl rfl rfl (by decide +kernel) ⟨hR, by show 8 + (8 + 11) + 100 * 423 ≤ 100 * lv; omega⟩
def hX1_stay_77 (p0 : Nat) (p1 : Int32) (p2 : Int32) (k : Int32 → Int32 → Int32 → HS → Option (OH (PX Int32))) (x3 : Int32) (x4 : Int32) (x5 : Int32) (u : HS) : Option (OH (PX Int32)) :=
  if x4 ≤ x5 then
    hret (.inl (-1)) u
  else
    if x3 = (-1) then
      k x3 x4 (x5 + 1) u
    else
      if x5 < x3 then
        k x3 x4 (x5 + 1) u
      else
        mchk (hC u p0 == 1) <|
        mderef (hR u p0 2) fun a2 =>
        mchk (hC u a2 == 2) <|
        mderef (hR u a2 0) fun a5 =>
        mchk (hC u a5 == 12) <|
        hb (hJ2_get a5 p2 u) fun r8 u7 =>
        mchk (hC u7 r8 == 31) <|
        mchk (hC u7 r8 == 31) <|
        hb (hJ16_intValue r8 u7) fun r12 u11 =>
        if ((r12 + x5) - x3) < 10 then
          k x3 x4 (x5 + 1) u11
        else
          hret (.inl x5) u11
theorem whX1_stay_77 {K1 K2 : Nat} {p : Program} {e : Env} {s : State} {m : MethodId} {args : Array Value} {below : List Frame} {meth : Method} {c : Code} (hl0 : l.stackTraces = false) (C : CxX t G l p s m args meth c yX1_stay cX1_stay 6 (some .int)) (p0 : Nat) (p1 : Int32) (p2 : Int32) (n : Nat) (x3 : Int32) (x4 : Int32) (x5 : Int32) (u : HS) : VX mkI t G p l e 425 K1 K2 s m args below meth c 6 77 [(0, .ref p0), (2, .int p2), (3, .int x3), (4, .int x4), (5, .int x5)] [] u (ml3 (hX1_stay_77 p0 p1 p2) n x3 x4 x5 u) := by
  refine vl3 (L := fun x3 x4 x5 => [(0, .ref p0), (2, .int p2), (3, .int x3), (4, .int x4), (5, .int x5)]) (fun k hk x3 x4 x5 u => ?_) n x3 x4 x5 u
  unfold hX1_stay_77
  refine v_iload C.1.1 4 rfl dX1_stay_77 ?_
  refine v_iload C.1.1 3 rfl dX1_stay_79 ?_
  refine v_icmp_ge C.1.1 133 (by decide) dX1_stay_81 (fun _ => ?_) (fun _ => ?_)
  · refine v_iconst C.1.1 (-1) (by decide) dX1_stay_133 ?_
    exact v_xiret C.1 dX1_stay_134
  · refine v_iload_n C.1.1 2 rfl rfl dX1_stay_84 ?_
    refine v_iconst C.1.1 (-1) (by decide) dX1_stay_85 ?_
    refine v_icmp_eq C.1.1 127 (by decide) dX1_stay_86 (fun _ => ?_) (fun _ => ?_)
    · refine v_iinc C.1.1 1 [(5, .int (x5 + 1)), (0, .ref p0), (2, .int p2), (3, .int x3), (4, .int x4)] 4 rfl (by decide) (by decide) rfl dX1_stay_127 ?_
      refine v_goto C.1.1 77 (by decide) dX1_stay_130 ?_
      refine v_sub [1, 2, 3, 4, 0] rfl ?_
      exact hk x3 x4 (x5 + 1) u
    · refine v_iload_n C.1.1 2 rfl rfl dX1_stay_89 ?_
      refine v_iload C.1.1 4 rfl dX1_stay_90 ?_
      refine v_icmp_gt C.1.1 127 (by decide) dX1_stay_92 (fun _ => ?_) (fun _ => ?_)
      · refine v_iinc C.1.1 1 [(5, .int (x5 + 1)), (0, .ref p0), (2, .int p2), (3, .int x3), (4, .int x4)] 4 rfl (by decide) (by decide) rfl dX1_stay_127 ?_
        refine v_goto C.1.1 77 (by decide) dX1_stay_130 ?_
        refine v_sub [1, 2, 3, 4, 0] rfl ?_
        exact hk x3 x4 (x5 + 1) u
      · refine v_aload_n C.1.1 0 rfl rfl dX1_stay_95 ?_
        refine v_chk (fun h1 => ?_)
        refine v_hget C.1 (v := va_rf (hR u p0 2)) 0 2 (eq_of_beq h1) (by decide) rfl in_X1 (by decide) (Or.inl q311) (fun _ h => h) (hF_r (ci := 0) (eq_of_beq h1) (by decide)) dX1_stay_96 ?_
        refine v_deref (fun a2 e3 => ?_)
        refine v_chk (fun h4 => ?_)
        refine v_hget C.1 (v := va_rf (hR u a2 0)) 1 0 (eq_of_beq h4) (by decide) rfl in_X2 (by decide) (Or.inr ⟨_, q197⟩) (fun _ h => h) (hF_r (ci := 1) (eq_of_beq h4) (by decide)) dX1_stay_99 ?_
        refine v_deref (fun a5 e6 => ?_)
        refine v_iload_n C.1.1 1 rfl rfl dX1_stay_102 ?_
        refine v_chk (fun h9 => ?_)
        refine v_callFH C.1 [.int p2] [] (ctJ2_get t G l hl0 a5 p2 u) (fun _ _ => cwJ2_getF C.1 q1368 (by decide)) (eq_of_beq h9) (by decide) rfl rfl rfl (by exact Nat.le_of_ble_eq_true rfl) dX1_stay_103 (fun r8 u7 => ?_)
        refine v_chk (fun h10 => ?_)
        refine v_hcastB C.1 (eq_of_beq h10) q1369 dX1_stay_108 ?_
        refine v_chk (fun h13 => ?_)
        refine v_callVH C.1 [] [] (ctJ16_intValue t G l hl0 r8 u7) (fun _ _ => cwJ16_intValue C.1 q1370 (by decide)) (recB C.1 (eq_of_beq h13)) rfl rfl (by exact Nat.le_of_ble_eq_true rfl) dX1_stay_111 (fun r12 u11 => ?_)
        refine v_iload C.1.1 4 rfl dX1_stay_114 ?_
        refine v_iadd C.1.1 dX1_stay_116 ?_
        refine v_iload_n C.1.1 2 rfl rfl dX1_stay_117 ?_
        refine v_isub C.1.1 dX1_stay_118 ?_
        refine v_bipush C.1.1 10 (by decide) dX1_stay_119 ?_
        refine v_icmp_lt C.1.1 127 (by decide) dX1_stay_121 (fun _ => ?_) (fun _ => ?_)
        · refine v_iinc C.1.1 1 [(5, .int (x5 + 1)), (0, .ref p0), (2, .int p2), (3, .int x3), (4, .int x4)] 4 rfl (by decide) (by decide) rfl dX1_stay_127 ?_
          refine v_goto C.1.1 77 (by decide) dX1_stay_130 ?_
          refine v_sub [1, 2, 3, 4, 0] rfl ?_
          exact hk x3 x4 (x5 + 1) u11
        · refine v_iload C.1.1 4 rfl dX1_stay_124 ?_
          exact v_xiret C.1 dX1_stay_126
def hX1_stay (p0 : Nat) (p1 : Int32) (p2 : Int32) (u : HS) : Option (OH (PX Int32)) :=
  mchk (hC u p0 == 1) <|
  hx (hX1_aPerson p0 p1 u) fun _ u1 =>
  mchk (hC u1 p0 == 1) <|
  hx (hX1_aPlace p0 p2 u1) fun _ u3 =>
  mchk (hC u3 p0 == 1) <|
  mderef (hR u3 p0 3) fun a6 =>
  mchk (hC u3 a6 == 3) <|
  hb (hX1_isOf (hI u3 a6 7) p1 u3) fun r10 u9 =>
  if r10 = 0 then
    mchk (hC u9 p0 == 1) <|
    mderef (hR u9 p0 2) fun a12 =>
    mchk (hC u9 a12 == 2) <|
    hb (hX2_isSea a12 p2 u9) fun r15 u14 =>
    if r15 = 0 then
      mchk (hC u14 p0 == 1) <|
      hb (hX1_later p0 30 u14) fun r18 u17 =>
      mchk (hC u17 r18 == 3) <|
      mderef (hR u17 r18 0) fun a21 =>
      mchk (inA u17 p1 a21 21) <|
      mlet (hA u17 a21 p1.toNatClampNeg) fun v24 =>
      mchk (hC u17 p0 == 1) <|
      mderef (hR u17 p0 3) fun a26 =>
      mchk (hC u17 a26 == 3) <|
      mchk (hC u17 p0 == 1) <|
      mderef (hR u17 p0 3) fun a30 =>
      mchk (hC u17 a30 == 3) <|
      hb (hX3_ahead a30 30 u17) fun r33 u32 =>
      mlet ((hI u17 a26 6) + r33) fun v35 =>
      mchk (hC u32 p0 == 1) <|
      mderef (hR u32 p0 3) fun a37 =>
      mchk (hC u32 a37 == 3) <|
      mlet (hI u32 a37 6) fun v40 =>
      ml3 (hX1_stay_77 p0 p1 p2) FUEL v24 v35 v40 u32
    else
      hret (.inl (-1)) u14
  else
    hret (.inl (-1)) u9
theorem ctX1_stay (t : TT) (G : GH) (l : Launch) (hl0 : l.stackTraces = false) (p0 : Nat) (p1 : Int32) (p2 : Int32) (u : HS) : CtX mkI t G l yX1_stay cX1_stay 6 (some .int) 425 [.ref p0, .int p1, .int p2] u (hX1_stay p0 p1 p2 u) := by
  refine ctX_of [(0, .ref p0), (1, .int p1), (2, .int p2)] hl0 rfl (Nat.le_of_ble_eq_true rfl) rfl (fun K1 K2 p e s m args below meth c C => ?_)
  unfold hX1_stay
  refine v_aload_n C.1.1 0 rfl rfl dX1_stay_0 ?_
  refine v_iload_n C.1.1 1 rfl rfl dX1_stay_1 ?_
  refine v_chk (fun h2 => ?_)
  refine v_callVX C [.int p1] [] (ctX1_aPerson t G l hl0 p0 p1 u) (fun _ _ => cwX1_aPerson C.1 q1380 (by decide)) (recO C.1 (ci := 0) (eq_of_beq h2) (by decide) rfl) rfl rfl (by exact Nat.le_of_ble_eq_true rfl) dX1_stay_2 (fun _ u1 => ?_)
  refine v_aload_n C.1.1 0 rfl rfl dX1_stay_5 ?_
  refine v_iload_n C.1.1 2 rfl rfl dX1_stay_6 ?_
  refine v_chk (fun h4 => ?_)
  refine v_callVX C [.int p2] [] (ctX1_aPlace t G l hl0 p0 p2 u1) (fun _ _ => cwX1_aPlace C.1 q1363 (by decide)) (recO C.1 (ci := 0) (eq_of_beq h4) (by decide) rfl) rfl rfl (by exact Nat.le_of_ble_eq_true rfl) dX1_stay_7 (fun _ u3 => ?_)
  refine v_aload_n C.1.1 0 rfl rfl dX1_stay_10 ?_
  refine v_chk (fun h5 => ?_)
  refine v_hget C.1 (v := va_rf (hR u3 p0 3)) 0 3 (eq_of_beq h5) (by decide) rfl in_X1 (by decide) (Or.inl q312) (fun _ h => h) (hF_r (ci := 0) (eq_of_beq h5) (by decide)) dX1_stay_11 ?_
  refine v_deref (fun a6 e7 => ?_)
  refine v_chk (fun h8 => ?_)
  refine v_hget C.1 (v := .int (hI u3 a6 7)) 2 7 (eq_of_beq h8) (by decide) rfl in_X3 (by decide) (Or.inr ⟨_, q271⟩) (fun _ h => h) (hF_i (ci := 2) (eq_of_beq h8) (by decide)) dX1_stay_14 ?_
  refine v_iload_n C.1.1 1 rfl rfl dX1_stay_17 ?_
  refine v_callSH C.1 [.int (hI u3 a6 7), .int p1] [] (ctX1_isOf t G l hl0 (hI u3 a6 7) p1 u3) (fun _ _ => cwX1_isOf C.1 q1323 (by decide)) rfl rfl (by exact Nat.le_of_ble_eq_true rfl) dX1_stay_18 (fun r10 u9 => ?_)
  refine v_if_ne C.1.1 35 (by decide) dX1_stay_21 (fun _ => ?_) (fun _ => ?_)
  · refine v_aload_n C.1.1 0 rfl rfl dX1_stay_24 ?_
    refine v_chk (fun h11 => ?_)
    refine v_hget C.1 (v := va_rf (hR u9 p0 2)) 0 2 (eq_of_beq h11) (by decide) rfl in_X1 (by decide) (Or.inl q311) (fun _ h => h) (hF_r (ci := 0) (eq_of_beq h11) (by decide)) dX1_stay_25 ?_
    refine v_deref (fun a12 e13 => ?_)
    refine v_iload_n C.1.1 2 rfl rfl dX1_stay_28 ?_
    refine v_chk (fun h16 => ?_)
    refine v_callVH C.1 [.int p2] [] (ctX2_isSea t G l hl0 a12 p2 u9) (fun _ _ => cwX2_isSea C.1 q1468 (by decide)) (recO C.1 (ci := 1) (eq_of_beq h16) (by decide) rfl) rfl rfl (by exact Nat.le_of_ble_eq_true rfl) dX1_stay_29 (fun r15 u14 => ?_)
    refine v_if_eq C.1.1 37 (by decide) dX1_stay_32 (fun _ => ?_) (fun _ => ?_)
    · refine v_aload_n C.1.1 0 rfl rfl dX1_stay_37 ?_
      refine v_bipush C.1.1 30 (by decide) dX1_stay_38 ?_
      refine v_chk (fun h19 => ?_)
      refine v_callVH C.1 [.int 30] [] (ctX1_later t G l hl0 p0 30 u14) (fun _ _ => cwX1_later C.1 q704 (by decide)) (recO C.1 (ci := 0) (eq_of_beq h19) (by decide) rfl) rfl rfl (by exact Nat.le_of_ble_eq_true rfl) dX1_stay_40 (fun r18 u17 => ?_)
      refine v_chk (fun h20 => ?_)
      refine v_hget C.1 (v := va_rf (hR u17 r18 0)) 2 0 (eq_of_beq h20) (by decide) rfl in_X3 (by decide) (Or.inr ⟨_, q255⟩) (fun _ h => h) (hF_r (ci := 2) (eq_of_beq h20) (by decide)) dX1_stay_43 ?_
      refine v_deref (fun a21 e22 => ?_)
      refine v_iload_n C.1.1 1 rfl rfl dX1_stay_46 ?_
      refine v_chk (fun h23 => ?_)
      refine v_haiald C.1 h23 dX1_stay_47 ?_
      refine v_topi (fun v24 => ?_)
      refine v_istore_n C.1.1 [(3, .int v24), (0, .ref p0), (1, .int p1), (2, .int p2)] rfl (by decide) rfl dX1_stay_48 ?_
      refine v_aload_n C.1.1 1 rfl rfl dX1_stay_49 ?_
      refine v_chk (fun h25 => ?_)
      refine v_hget C.1 (v := va_rf (hR u17 p0 3)) 0 3 (eq_of_beq h25) (by decide) rfl in_X1 (by decide) (Or.inl q312) (fun _ h => h) (hF_r (ci := 0) (eq_of_beq h25) (by decide)) dX1_stay_50 ?_
      refine v_deref (fun a26 e27 => ?_)
      refine v_chk (fun h28 => ?_)
      refine v_hget C.1 (v := .int (hI u17 a26 6)) 2 6 (eq_of_beq h28) (by decide) rfl in_X3 (by decide) (Or.inr ⟨_, q269⟩) (fun _ h => h) (hF_i (ci := 2) (eq_of_beq h28) (by decide)) dX1_stay_53 ?_
      refine v_aload_n C.1.1 1 rfl rfl dX1_stay_56 ?_
      refine v_chk (fun h29 => ?_)
      refine v_hget C.1 (v := va_rf (hR u17 p0 3)) 0 3 (eq_of_beq h29) (by decide) rfl in_X1 (by decide) (Or.inl q312) (fun _ h => h) (hF_r (ci := 0) (eq_of_beq h29) (by decide)) dX1_stay_57 ?_
      refine v_deref (fun a30 e31 => ?_)
      refine v_bipush C.1.1 30 (by decide) dX1_stay_60 ?_
      refine v_chk (fun h34 => ?_)
      refine v_callVH C.1 [.int 30] [.int (hI u17 a26 6)] (ctX3_ahead t G l hl0 a30 30 u17) (fun _ _ => cwX3_ahead C.1 q694 (by decide)) (recO C.1 (ci := 2) (eq_of_beq h34) (by decide) rfl) rfl rfl (by exact Nat.le_of_ble_eq_true rfl) dX1_stay_62 (fun r33 u32 => ?_)
      refine v_iadd C.1.1 dX1_stay_65 ?_
      refine v_topi (fun v35 => ?_)
      refine v_istore C.1.1 [(4, .int v35), (3, .int v24), (0, .ref p0), (1, .int p1), (2, .int p2)] (by decide) rfl dX1_stay_66 ?_
      refine v_aload_n C.1.1 2 rfl rfl dX1_stay_68 ?_
      refine v_chk (fun h36 => ?_)
      refine v_hget C.1 (v := va_rf (hR u32 p0 3)) 0 3 (eq_of_beq h36) (by decide) rfl in_X1 (by decide) (Or.inl q312) (fun _ h => h) (hF_r (ci := 0) (eq_of_beq h36) (by decide)) dX1_stay_69 ?_
      refine v_deref (fun a37 e38 => ?_)
      refine v_chk (fun h39 => ?_)
      refine v_hget C.1 (v := .int (hI u32 a37 6)) 2 6 (eq_of_beq h39) (by decide) rfl in_X3 (by decide) (Or.inr ⟨_, q269⟩) (fun _ h => h) (hF_i (ci := 2) (eq_of_beq h39) (by decide)) dX1_stay_72 ?_
      refine v_topi (fun v40 => ?_)
      refine v_istore C.1.1 [(5, .int v40), (4, .int v35), (3, .int v24), (0, .ref p0), (1, .int p1), (2, .int p2)] (by decide) rfl dX1_stay_75 ?_
      refine v_sub [3, 5, 2, 1, 0] rfl ?_
      exact whX1_stay_77 hl0 C p0 p1 p2 FUEL v24 v35 v40 u32
    · refine v_iconst C.1.1 (-1) (by decide) dX1_stay_35 ?_
      exact v_xiret C.1 dX1_stay_36
  · refine v_iconst C.1.1 (-1) (by decide) dX1_stay_35 ?_
    exact v_xiret C.1 dX1_stay_36
theorem cwX1_stay {t : TT} {G : GH} {l : Launch} {p : Program} {s : State} {m : MethodId} {args : Array Value} {meth : Method} {c : Code} {y0 : MethodName} {cc0 : ByteArray} {nL0 : Nat} {ret0 : Option FieldType} (C : CxH t G l p s m args meth c y0 cc0 nL0 ret0) {index lv mc ms K1 K2 : Nat} (hq : Cond.methodLink y0.cls index yX1_stay ∈ lw_all) (hR : 425 + 1 ≤ lv) : CallW (rmH lv K1 K2) s args y0.cls RX1 index yX1_stay cX1_stay 6 (some .int) (ws_ yX1_stay cX1_stay 6 (some .int)) (rmH 425 mc ms) mc ms 2 :=
  cwV 2 C.1.2.2.2.2.1 (lw_V hq q1599 q1600 q121 q1601) rfl rfl rfl (by decide +kernel) ⟨hR, by show 8 + (6 + 11) + 100 * 425 ≤ 100 * lv; omega⟩
def hX1_steps_41 (p0 : Nat) (p1 : Int32) (p2 : Int32) (k17 : Int32 → Int32 → HS → Option (OH (PX Int32))) (k : Int32 → Int32 → Int32 → Int32 → HS → Option (OH (PX Int32))) (x3 : Int32) (x4 : Int32) (x5 : Int32) (x6 : Int32) (u : HS) : Option (OH (PX Int32)) :=
  mchk (hC u p0 == 1) <|
  mderef (hR u p0 2) fun a2 =>
  mchk (hC u a2 == 2) <|
  hb (hX2_people a2 u) fun r5 u4 =>
  if r5 ≤ x6 then
    k17 x5 (x4 + 1) u4
  else
    hb (hX1_isOf x3 x6 u4) fun r8 u7 =>
    if r8 = 0 then
      k x3 x4 x5 (x6 + 1) u7
    else
      mchk (hC u7 p0 == 1) <|
      mderef (hR u7 p0 2) fun a10 =>
      mchk (hC u7 a10 == 2) <|
      mderef (hR u7 a10 3) fun a13 =>
      mchk (inA u7 x6 a13 21) <|
      mlet (x5 ||| (hA u7 a13 x6.toNatClampNeg)) fun v16 =>
      k x3 x4 v16 (x6 + 1) u7
theorem whX1_steps_41 {K1 K2 : Nat} {p : Program} {e : Env} {s : State} {m : MethodId} {args : Array Value} {below : List Frame} {meth : Method} {c : Code} (hl0 : l.stackTraces = false) (C : CxX t G l p s m args meth c yX1_steps cX1_steps 7 (some .int)) (p0 : Nat) (p1 : Int32) (p2 : Int32) (k17 : Int32 → Int32 → HS → Option (OH (PX Int32))) (hk17 : ∀ (x3 : Int32) (x4 : Int32) (u : HS), VX mkI t G p l e 10 K1 K2 s m args below meth c 7 17 [(0, .ref p0), (2, .int p2), (3, .int x3), (4, .int x4)] [] u (k17 x3 x4 u)) (n : Nat) (x3 : Int32) (x4 : Int32) (x5 : Int32) (x6 : Int32) (u : HS) : VX mkI t G p l e 10 K1 K2 s m args below meth c 7 41 [(0, .ref p0), (2, .int p2), (3, .int x3), (4, .int x4), (5, .int x5), (6, .int x6)] [] u (ml4 (hX1_steps_41 p0 p1 p2 k17) n x3 x4 x5 x6 u) := by
  refine vl4 (L := fun x3 x4 x5 x6 => [(0, .ref p0), (2, .int p2), (3, .int x3), (4, .int x4), (5, .int x5), (6, .int x6)]) (fun k hk x3 x4 x5 x6 u => ?_) n x3 x4 x5 x6 u
  unfold hX1_steps_41
  refine v_iload C.1.1 5 rfl dX1_steps_41 ?_
  refine v_aload_n C.1.1 0 rfl rfl dX1_steps_43 ?_
  refine v_chk (fun h1 => ?_)
  refine v_hget C.1 (v := va_rf (hR u p0 2)) 0 2 (eq_of_beq h1) (by decide) rfl in_X1 (by decide) (Or.inl q311) (fun _ h => h) (hF_r (ci := 0) (eq_of_beq h1) (by decide)) dX1_steps_44 ?_
  refine v_deref (fun a2 e3 => ?_)
  refine v_chk (fun h6 => ?_)
  refine v_callVH C.1 [] [.int x6] (ctX2_people t G l hl0 a2 u) (fun _ _ => cwX2_people C.1 q717 (by decide)) (recO C.1 (ci := 1) (eq_of_beq h6) (by decide) rfl) rfl rfl (by exact Nat.le_of_ble_eq_true rfl) dX1_steps_47 (fun r5 u4 => ?_)
  refine v_icmp_ge C.1.1 83 (by decide) dX1_steps_50 (fun _ => ?_) (fun _ => ?_)
  · refine v_iload C.1.1 4 rfl dX1_steps_83 ?_
    refine v_istore_n C.1.1 [(3, .int x5), (0, .ref p0), (2, .int p2), (4, .int x4), (5, .int x5), (6, .int x6)] rfl (by decide) rfl dX1_steps_85 ?_
    refine v_iinc C.1.1 1 [(4, .int (x4 + 1)), (3, .int x5), (0, .ref p0), (2, .int p2), (5, .int x5), (6, .int x6)] 3 rfl (by decide) (by decide) rfl dX1_steps_86 ?_
    refine v_goto C.1.1 17 (by decide) dX1_steps_89 ?_
    refine v_sub [2, 3, 1, 0] rfl ?_
    exact hk17 x5 (x4 + 1) u4
  · refine v_iload_n C.1.1 2 rfl rfl dX1_steps_53 ?_
    refine v_iload C.1.1 5 rfl dX1_steps_54 ?_
    refine v_callSH C.1 [.int x3, .int x6] [] (ctX1_isOf t G l hl0 x3 x6 u4) (fun _ _ => cwX1_isOf C.1 q1323 (by decide)) rfl rfl (by exact Nat.le_of_ble_eq_true rfl) dX1_steps_56 (fun r8 u7 => ?_)
    refine v_if_eq C.1.1 77 (by decide) dX1_steps_59 (fun _ => ?_) (fun _ => ?_)
    · refine v_iinc C.1.1 1 [(6, .int (x6 + 1)), (0, .ref p0), (2, .int p2), (3, .int x3), (4, .int x4), (5, .int x5)] 5 rfl (by decide) (by decide) rfl dX1_steps_77 ?_
      refine v_goto C.1.1 41 (by decide) dX1_steps_80 ?_
      refine v_sub [1, 2, 3, 4, 5, 0] rfl ?_
      exact hk x3 x4 x5 (x6 + 1) u7
    · refine v_iload C.1.1 4 rfl dX1_steps_62 ?_
      refine v_aload_n C.1.1 0 rfl rfl dX1_steps_64 ?_
      refine v_chk (fun h9 => ?_)
      refine v_hget C.1 (v := va_rf (hR u7 p0 2)) 0 2 (eq_of_beq h9) (by decide) rfl in_X1 (by decide) (Or.inl q311) (fun _ h => h) (hF_r (ci := 0) (eq_of_beq h9) (by decide)) dX1_steps_65 ?_
      refine v_deref (fun a10 e11 => ?_)
      refine v_chk (fun h12 => ?_)
      refine v_hget C.1 (v := va_rf (hR u7 a10 3)) 1 3 (eq_of_beq h12) (by decide) rfl in_X2 (by decide) (Or.inr ⟨_, q209⟩) (fun _ h => h) (hF_r (ci := 1) (eq_of_beq h12) (by decide)) dX1_steps_68 ?_
      refine v_deref (fun a13 e14 => ?_)
      refine v_iload C.1.1 5 rfl dX1_steps_71 ?_
      refine v_chk (fun h15 => ?_)
      refine v_haiald C.1 h15 dX1_steps_73 ?_
      refine v_ior C.1.1 dX1_steps_74 ?_
      refine v_topi (fun v16 => ?_)
      refine v_istore C.1.1 [(5, .int v16), (0, .ref p0), (2, .int p2), (3, .int x3), (4, .int x4), (6, .int x6)] (by decide) rfl dX1_steps_75 ?_
      refine v_iinc C.1.1 1 [(6, .int (x6 + 1)), (5, .int v16), (0, .ref p0), (2, .int p2), (3, .int x3), (4, .int x4)] 5 rfl (by decide) (by decide) rfl dX1_steps_77 ?_
      refine v_goto C.1.1 41 (by decide) dX1_steps_80 ?_
      refine v_sub [2, 3, 4, 5, 1, 0] rfl ?_
      exact hk x3 x4 v16 (x6 + 1) u7
def hX1_steps_17 (p0 : Nat) (p1 : Int32) (p2 : Int32) (k : Int32 → Int32 → HS → Option (OH (PX Int32))) (x3 : Int32) (x4 : Int32) (u : HS) : Option (OH (PX Int32)) :=
  if 9 ≤ x4 then
    hret (.inl (-1)) u
  else
    hb (hX1_isOf x3 p2 u) fun r2 u1 =>
    if r2 = 0 then
      ml4 (hX1_steps_41 p0 p1 p2 k) FUEL x3 x4 x3 0 u1
    else
      hret (.inl x4) u1
theorem whX1_steps_17 {K1 K2 : Nat} {p : Program} {e : Env} {s : State} {m : MethodId} {args : Array Value} {below : List Frame} {meth : Method} {c : Code} (hl0 : l.stackTraces = false) (C : CxX t G l p s m args meth c yX1_steps cX1_steps 7 (some .int)) (p0 : Nat) (p1 : Int32) (p2 : Int32) (n : Nat) (x3 : Int32) (x4 : Int32) (u : HS) : VX mkI t G p l e 10 K1 K2 s m args below meth c 7 17 [(0, .ref p0), (2, .int p2), (3, .int x3), (4, .int x4)] [] u (ml2 (hX1_steps_17 p0 p1 p2) n x3 x4 u) := by
  refine vl2 (L := fun x3 x4 => [(0, .ref p0), (2, .int p2), (3, .int x3), (4, .int x4)]) (fun k hk x3 x4 u => ?_) n x3 x4 u
  unfold hX1_steps_17
  refine v_iload C.1.1 3 rfl dX1_steps_17 ?_
  refine v_bipush C.1.1 9 (by decide) dX1_steps_19 ?_
  refine v_icmp_ge C.1.1 92 (by decide) dX1_steps_21 (fun _ => ?_) (fun _ => ?_)
  · refine v_iconst C.1.1 (-1) (by decide) dX1_steps_92 ?_
    exact v_xiret C.1 dX1_steps_93
  · refine v_iload_n C.1.1 2 rfl rfl dX1_steps_24 ?_
    refine v_iload_n C.1.1 1 rfl rfl dX1_steps_25 ?_
    refine v_callSH C.1 [.int x3, .int p2] [] (ctX1_isOf t G l hl0 x3 p2 u) (fun _ _ => cwX1_isOf C.1 q1323 (by decide)) rfl rfl (by exact Nat.le_of_ble_eq_true rfl) dX1_steps_26 (fun r2 u1 => ?_)
    refine v_if_eq C.1.1 35 (by decide) dX1_steps_29 (fun _ => ?_) (fun _ => ?_)
    · refine v_iload_n C.1.1 2 rfl rfl dX1_steps_35 ?_
      refine v_istore C.1.1 [(5, .int x3), (0, .ref p0), (2, .int p2), (3, .int x3), (4, .int x4)] (by decide) rfl dX1_steps_36 ?_
      refine v_iconst C.1.1 0 (by decide) dX1_steps_38 ?_
      refine v_istore C.1.1 [(6, .int 0), (5, .int x3), (0, .ref p0), (2, .int p2), (3, .int x3), (4, .int x4)] (by decide) rfl dX1_steps_39 ?_
      refine v_sub [2, 3, 4, 5, 1, 0] rfl ?_
      exact whX1_steps_41 hl0 C p0 p1 p2 k hk FUEL x3 x4 x3 0 u1
    · refine v_iload C.1.1 3 rfl dX1_steps_32 ?_
      exact v_xiret C.1 dX1_steps_34
def hX1_steps (p0 : Nat) (p1 : Int32) (p2 : Int32) (u : HS) : Option (OH (PX Int32)) :=
  mchk (hC u p0 == 1) <|
  hx (hX1_aPerson p0 p1 u) fun _ u1 =>
  mchk (hC u1 p0 == 1) <|
  hx (hX1_aPerson p0 p2 u1) fun _ u3 =>
  mlet ((1 : Int32) <<< (p1 &&& 31)) fun v5 =>
  ml2 (hX1_steps_17 p0 p1 p2) FUEL v5 0 u3
theorem ctX1_steps (t : TT) (G : GH) (l : Launch) (hl0 : l.stackTraces = false) (p0 : Nat) (p1 : Int32) (p2 : Int32) (u : HS) : CtX mkI t G l yX1_steps cX1_steps 7 (some .int) 10 [.ref p0, .int p1, .int p2] u (hX1_steps p0 p1 p2 u) := by
  refine ctX_of [(0, .ref p0), (1, .int p1), (2, .int p2)] hl0 rfl (Nat.le_of_ble_eq_true rfl) rfl (fun K1 K2 p e s m args below meth c C => ?_)
  unfold hX1_steps
  refine v_aload_n C.1.1 0 rfl rfl dX1_steps_0 ?_
  refine v_iload_n C.1.1 1 rfl rfl dX1_steps_1 ?_
  refine v_chk (fun h2 => ?_)
  refine v_callVX C [.int p1] [] (ctX1_aPerson t G l hl0 p0 p1 u) (fun _ _ => cwX1_aPerson C.1 q1380 (by decide)) (recO C.1 (ci := 0) (eq_of_beq h2) (by decide) rfl) rfl rfl (by exact Nat.le_of_ble_eq_true rfl) dX1_steps_2 (fun _ u1 => ?_)
  refine v_aload_n C.1.1 0 rfl rfl dX1_steps_5 ?_
  refine v_iload_n C.1.1 2 rfl rfl dX1_steps_6 ?_
  refine v_chk (fun h4 => ?_)
  refine v_callVX C [.int p2] [] (ctX1_aPerson t G l hl0 p0 p2 u1) (fun _ _ => cwX1_aPerson C.1 q1380 (by decide)) (recO C.1 (ci := 0) (eq_of_beq h4) (by decide) rfl) rfl rfl (by exact Nat.le_of_ble_eq_true rfl) dX1_steps_7 (fun _ u3 => ?_)
  refine v_iconst C.1.1 1 (by decide) dX1_steps_10 ?_
  refine v_iload_n C.1.1 1 rfl rfl dX1_steps_11 ?_
  refine v_ishl C.1.1 dX1_steps_12 ?_
  refine v_topi (fun v5 => ?_)
  refine v_istore_n C.1.1 [(3, .int v5), (0, .ref p0), (1, .int p1), (2, .int p2)] rfl (by decide) rfl dX1_steps_13 ?_
  refine v_iconst C.1.1 0 (by decide) dX1_steps_14 ?_
  refine v_istore C.1.1 [(4, .int 0), (3, .int v5), (0, .ref p0), (1, .int p1), (2, .int p2)] (by decide) rfl dX1_steps_15 ?_
  refine v_sub [2, 4, 1, 0] rfl ?_
  exact whX1_steps_17 hl0 C p0 p1 p2 FUEL v5 0 u3
theorem cwX1_steps {t : TT} {G : GH} {l : Launch} {p : Program} {s : State} {m : MethodId} {args : Array Value} {meth : Method} {c : Code} {y0 : MethodName} {cc0 : ByteArray} {nL0 : Nat} {ret0 : Option FieldType} (C : CxH t G l p s m args meth c y0 cc0 nL0 ret0) {index lv mc ms K1 K2 : Nat} (hq : Cond.methodLink y0.cls index yX1_steps ∈ lw_all) (hR : 10 + 1 ≤ lv) : CallW (rmH lv K1 K2) s args y0.cls RX1 index yX1_steps cX1_steps 7 (some .int) (ws_ yX1_steps cX1_steps 7 (some .int)) (rmH 10 mc ms) mc ms 2 :=
  cwV 2 C.1.2.2.2.2.1 (lw_V hq q1606 q1607 q121 q1608) rfl rfl rfl (by decide +kernel) ⟨hR, by show 8 + (7 + 11) + 100 * 10 ≤ 100 * lv; omega⟩
def hX7_joins (p0 : Nat) (p1 : Int32) (p2 : Int32) (u : HS) : Option (OH Int32) :=
  mchk (hC u p0 == 7) <|
  hb (hX7_from p0 p1 u) fun r2 u1 =>
  if r2 = p2 then
    if p1 = p2 then
      hz id 0 u1
    else
      hz id 1 u1
  else
    hz id 0 u1
theorem ctX7_joins (t : TT) (G : GH) (l : Launch) (hl0 : l.stackTraces = false) (p0 : Nat) (p1 : Int32) (p2 : Int32) (u : HS) : CtH mkI t G l yX7_joins cX7_joins 3 (some .boolean) 3 [.ref p0, .int p1, .int p2] u (hX7_joins p0 p1 p2 u) := by
  refine ctH_of [(0, .ref p0), (1, .int p1), (2, .int p2)] hl0 rfl (Nat.le_of_ble_eq_true rfl) rfl (fun K1 K2 p e s m args below meth c C => ?_)
  unfold hX7_joins
  refine v_aload_n C.1 0 rfl rfl dX7_joins_0 ?_
  refine v_iload_n C.1 1 rfl rfl dX7_joins_1 ?_
  refine v_chk (fun h3 => ?_)
  refine v_callVH C [.int p1] [] (ctX7_from t G l hl0 p0 p1 u) (fun _ _ => cwX7_from C q1079 (by decide)) (recO C (ci := 6) (eq_of_beq h3) (by decide) rfl) rfl rfl (by exact Nat.le_of_ble_eq_true rfl) dX7_joins_2 (fun r2 u1 => ?_)
  refine v_iload_n C.1 2 rfl rfl dX7_joins_5 ?_
  refine v_icmp_ne C.1 18 (by decide) dX7_joins_6 (fun _ => ?_) (fun _ => ?_)
  · refine v_iload_n C.1 1 rfl rfl dX7_joins_9 ?_
    refine v_iload_n C.1 2 rfl rfl dX7_joins_10 ?_
    refine v_icmp_eq C.1 18 (by decide) dX7_joins_11 (fun _ => ?_) (fun _ => ?_)
    · refine v_iconst C.1 0 (by decide) dX7_joins_18 ?_
      exact v_hzret C dX7_joins_19
    · refine v_iconst C.1 1 (by decide) dX7_joins_14 ?_
      refine v_goto C.1 19 (by decide) dX7_joins_15 ?_
      exact v_hzret C dX7_joins_19
  · refine v_iconst C.1 0 (by decide) dX7_joins_18 ?_
    exact v_hzret C dX7_joins_19
theorem cwX7_joins {t : TT} {G : GH} {l : Launch} {p : Program} {s : State} {m : MethodId} {args : Array Value} {meth : Method} {c : Code} {y0 : MethodName} {cc0 : ByteArray} {nL0 : Nat} {ret0 : Option FieldType} (C : CxH t G l p s m args meth c y0 cc0 nL0 ret0) {index lv mc ms K1 K2 : Nat} (hq : Cond.methodLink y0.cls index yX7_joins ∈ lw_all) (hR : 3 + 1 ≤ lv) : CallW (rmH lv K1 K2) s args y0.cls RX7 index yX7_joins cX7_joins 3 (some .boolean) (ws_ yX7_joins cX7_joins 3 (some .boolean)) (rmH 3 mc ms) mc ms 2 :=
  cwV 2 C.1.2.2.2.2.1 (lw_V hq q1076 q1077 q147 q1078) rfl rfl rfl (by decide +kernel) ⟨hR, by show 8 + (3 + 11) + 100 * 3 ≤ 100 * lv; omega⟩
def hX2_isJoined_2 (p0 : Nat) (p1 : Int32) (p2 : Int32) (k : Int32 → HS → Option (OH Int32)) (x3 : Int32) (u : HS) : Option (OH Int32) :=
  mchk (hC u p0 == 2) <|
  mderef (hR u p0 2) fun a2 =>
  mchk (hC u a2 == 12) <|
  hb (hJ2_size a2 u) fun r5 u4 =>
  if r5 ≤ x3 then
    hz id 0 u4
  else
    mchk (hC u4 p0 == 2) <|
    mderef (hR u4 p0 2) fun a8 =>
    mchk (hC u4 a8 == 12) <|
    hb (hJ2_get a8 x3 u4) fun r11 u10 =>
    mchk (hC u10 r11 == 7) <|
    mchk (hC u10 r11 == 7) <|
    hb (hX7_joins r11 p1 p2 u10) fun r15 u14 =>
    if r15 = 0 then
      k (x3 + 1) u14
    else
      hz id 1 u14
theorem whX2_isJoined_2 {K1 K2 : Nat} {p : Program} {e : Env} {s : State} {m : MethodId} {args : Array Value} {below : List Frame} {meth : Method} {c : Code} (hl0 : l.stackTraces = false) (C : CxH t G l p s m args meth c yX2_isJoined cX2_isJoined 4 (some .boolean)) (p0 : Nat) (p1 : Int32) (p2 : Int32) (n : Nat) (x3 : Int32) (u : HS) : VH mkI t G p l e 5 K1 K2 s m args below meth c 4 2 [(0, .ref p0), (1, .int p1), (2, .int p2), (3, .int x3)] [] u (ml1 (hX2_isJoined_2 p0 p1 p2) n x3 u) := by
  refine vl1 (L := fun x3 => [(0, .ref p0), (1, .int p1), (2, .int p2), (3, .int x3)]) (fun k hk x3 u => ?_) n x3 u
  unfold hX2_isJoined_2
  refine v_iload_n C.1 3 rfl rfl dX2_isJoined_2 ?_
  refine v_aload_n C.1 0 rfl rfl dX2_isJoined_3 ?_
  refine v_chk (fun h1 => ?_)
  refine v_hget C (v := va_rf (hR u p0 2)) 1 2 (eq_of_beq h1) (by decide) rfl in_X2 (by decide) (Or.inl q204) (fun _ h => h) (hF_r (ci := 1) (eq_of_beq h1) (by decide)) dX2_isJoined_4 ?_
  refine v_deref (fun a2 e3 => ?_)
  refine v_chk (fun h6 => ?_)
  refine v_callFH C [] [.int x3] (ctJ2_size t G l hl0 a2 u) (fun _ _ => cwJ2_sizeF C q503 (by decide)) (eq_of_beq h6) (by decide) rfl rfl rfl (by exact Nat.le_of_ble_eq_true rfl) dX2_isJoined_7 (fun r5 u4 => ?_)
  refine v_icmp_ge C.1 44 (by decide) dX2_isJoined_12 (fun _ => ?_) (fun _ => ?_)
  · refine v_iconst C.1 0 (by decide) dX2_isJoined_44 ?_
    exact v_hzret C dX2_isJoined_45
  · refine v_aload_n C.1 0 rfl rfl dX2_isJoined_15 ?_
    refine v_chk (fun h7 => ?_)
    refine v_hget C (v := va_rf (hR u4 p0 2)) 1 2 (eq_of_beq h7) (by decide) rfl in_X2 (by decide) (Or.inl q204) (fun _ h => h) (hF_r (ci := 1) (eq_of_beq h7) (by decide)) dX2_isJoined_16 ?_
    refine v_deref (fun a8 e9 => ?_)
    refine v_iload_n C.1 3 rfl rfl dX2_isJoined_19 ?_
    refine v_chk (fun h12 => ?_)
    refine v_callFH C [.int x3] [] (ctJ2_get t G l hl0 a8 x3 u4) (fun _ _ => cwJ2_getF C q649 (by decide)) (eq_of_beq h12) (by decide) rfl rfl rfl (by exact Nat.le_of_ble_eq_true rfl) dX2_isJoined_20 (fun r11 u10 => ?_)
    refine v_chk (fun h13 => ?_)
    refine v_hcastS C 6 (eq_of_beq h13) (by decide) rfl q1074 dX2_isJoined_25 ?_
    refine v_iload_n C.1 1 rfl rfl dX2_isJoined_28 ?_
    refine v_iload_n C.1 2 rfl rfl dX2_isJoined_29 ?_
    refine v_chk (fun h16 => ?_)
    refine v_callVH C [.int p1, .int p2] [] (ctX7_joins t G l hl0 r11 p1 p2 u10) (fun _ _ => cwX7_joins C q1075 (by decide)) (recO C (ci := 6) (eq_of_beq h16) (by decide) rfl) rfl rfl (by exact Nat.le_of_ble_eq_true rfl) dX2_isJoined_30 (fun r15 u14 => ?_)
    refine v_if_eq C.1 38 (by decide) dX2_isJoined_33 (fun _ => ?_) (fun _ => ?_)
    · refine v_iinc C.1 1 [(3, .int (x3 + 1)), (0, .ref p0), (1, .int p1), (2, .int p2)] 3 rfl (by decide) (by decide) rfl dX2_isJoined_38 ?_
      refine v_goto C.1 2 (by decide) dX2_isJoined_41 ?_
      refine v_sub [1, 2, 3, 0] rfl ?_
      exact hk (x3 + 1) u14
    · refine v_iconst C.1 1 (by decide) dX2_isJoined_36 ?_
      exact v_hzret C dX2_isJoined_37
def hX2_isJoined (p0 : Nat) (p1 : Int32) (p2 : Int32) (u : HS) : Option (OH Int32) :=
  ml1 (hX2_isJoined_2 p0 p1 p2) FUEL 0 u
theorem ctX2_isJoined (t : TT) (G : GH) (l : Launch) (hl0 : l.stackTraces = false) (p0 : Nat) (p1 : Int32) (p2 : Int32) (u : HS) : CtH mkI t G l yX2_isJoined cX2_isJoined 4 (some .boolean) 5 [.ref p0, .int p1, .int p2] u (hX2_isJoined p0 p1 p2 u) := by
  refine ctH_of [(0, .ref p0), (1, .int p1), (2, .int p2)] hl0 rfl (Nat.le_of_ble_eq_true rfl) rfl (fun K1 K2 p e s m args below meth c C => ?_)
  unfold hX2_isJoined
  refine v_iconst C.1 0 (by decide) dX2_isJoined_0 ?_
  refine v_istore_n C.1 [(3, .int 0), (0, .ref p0), (1, .int p1), (2, .int p2)] rfl (by decide) rfl dX2_isJoined_1 ?_
  refine v_sub [1, 2, 3, 0] rfl ?_
  exact whX2_isJoined_2 hl0 C p0 p1 p2 FUEL 0 u
theorem cwX2_isJoined {t : TT} {G : GH} {l : Launch} {p : Program} {s : State} {m : MethodId} {args : Array Value} {meth : Method} {c : Code} {y0 : MethodName} {cc0 : ByteArray} {nL0 : Nat} {ret0 : Option FieldType} (C : CxH t G l p s m args meth c y0 cc0 nL0 ret0) {index lv mc ms K1 K2 : Nat} (hq : Cond.methodLink y0.cls index yX2_isJoined ∈ lw_all) (hR : 5 + 1 ≤ lv) : CallW (rmH lv K1 K2) s args y0.cls RX2 index yX2_isJoined cX2_isJoined 4 (some .boolean) (ws_ yX2_isJoined cX2_isJoined 4 (some .boolean)) (rmH 5 mc ms) mc ms 2 :=
  cwV 2 C.1.2.2.2.2.1 (lw_V hq q1071 q1072 q122 q1073) rfl rfl rfl (by decide +kernel) ⟨hR, by show 8 + (4 + 11) + 100 * 5 ≤ 100 * lv; omega⟩
def hX5_init (p0 : Nat) (p1 : Nat) (p2 : Int32) (u : HS) : Option (OH Unit) :=
  mchk (hC u p0 == 5) <|
  mlet (uR u p0 11 (some p1)) fun u2 =>
  mlet (hZ u2) fun a3 =>
  addc 1 (cN 1) <|
  mlet (nO u2 1) fun u5 =>
  hb (hX2_init a3 u5) fun _ u6 =>
  mchk (hC u6 p0 == 5) <|
  mlet (uR u6 p0 1 (some a3)) fun u8 =>
  mlet (hZ u8) fun a9 =>
  addc 1 (cN 2) <|
  mlet (nO u8 2) fun u11 =>
  mchk (hC u11 p0 == 5) <|
  mderef (hR u11 p0 11) fun a13 =>
  hb (hX3_init a9 a13 u11) fun _ u15 =>
  mchk (hC u15 p0 == 5) <|
  mlet (uR u15 p0 2 (some a9)) fun u17 =>
  mlet (hZ u17) fun a18 =>
  addc 1 (8) <|
  mlet (nA u17 6 (8)) fun u20 =>
  mlet (hK u20 10) fun a21 =>
  mchk (inA u20 0 a18 26) <|
  mchk (hC u20 a21 == 30) <|
  mlet (uQ u20 a18 (0 : Int32).toNatClampNeg (some a21)) fun u24 =>
  mlet (hK u24 11) fun a27 =>
  mchk (inA u24 1 a18 26) <|
  mchk (hC u24 a27 == 30) <|
  mlet (uQ u24 a18 (1 : Int32).toNatClampNeg (some a27)) fun u30 =>
  mlet (hK u30 12) fun a33 =>
  mchk (inA u30 2 a18 26) <|
  mchk (hC u30 a33 == 30) <|
  mlet (uQ u30 a18 (2 : Int32).toNatClampNeg (some a33)) fun u36 =>
  mlet (hK u36 13) fun a39 =>
  mchk (inA u36 3 a18 26) <|
  mchk (hC u36 a39 == 30) <|
  mlet (uQ u36 a18 (3 : Int32).toNatClampNeg (some a39)) fun u42 =>
  mlet (hK u42 14) fun a45 =>
  mchk (inA u42 4 a18 26) <|
  mchk (hC u42 a45 == 30) <|
  mlet (uQ u42 a18 (4 : Int32).toNatClampNeg (some a45)) fun u48 =>
  mlet (hK u48 15) fun a51 =>
  mchk (inA u48 5 a18 26) <|
  mchk (hC u48 a51 == 30) <|
  mlet (uQ u48 a18 (5 : Int32).toNatClampNeg (some a51)) fun u54 =>
  mlet (hK u54 16) fun a57 =>
  mchk (inA u54 6 a18 26) <|
  mchk (hC u54 a57 == 30) <|
  mlet (uQ u54 a18 (6 : Int32).toNatClampNeg (some a57)) fun u60 =>
  mlet (hK u60 17) fun a63 =>
  mchk (inA u60 7 a18 26) <|
  mchk (hC u60 a63 == 30) <|
  mlet (uQ u60 a18 (7 : Int32).toNatClampNeg (some a63)) fun u66 =>
  mchk (hC u66 p0 == 5) <|
  mlet (uR u66 p0 3 (some a18)) fun u70 =>
  mchk (hC u70 p0 == 5) <|
  mlet (uI u70 p0 0 p2) fun u72 =>
  hret () u72
theorem ctX5_init (t : TT) (G : GH) (l : Launch) (hl0 : l.stackTraces = false) (p0 : Nat) (p1 : Nat) (p2 : Int32) (u : HS) : CtH mkU t G l yX5_init cX5_init 3 none 6 [.ref p0, .ref p1, .int p2] u (hX5_init p0 p1 p2 u) := by
  refine ctH_of [(0, .ref p0), (1, .ref p1), (2, .int p2)] hl0 rfl (Nat.le_of_ble_eq_true rfl) rfl (fun K1 K2 p e s m args below meth c C => ?_)
  unfold hX5_init
  refine v_aload_n C.1 0 rfl rfl dX5_init_0 ?_
  refine v_aload_n C.1 1 rfl rfl dX5_init_1 ?_
  refine v_chk (fun h1 => ?_)
  refine v_hputR C (some p1) 4 11 (eq_of_beq h1) (by decide) rfl in_X5 tyX5 tyX5_ok nmX5 (by decide) (by decide) q860 (fun _ h => h) (Or.inr ⟨rfl, rfl, rfl⟩) rfl rfl dX5_init_2 (fun u2 => ?_)
  refine v_aload_n C.1 0 rfl rfl dX5_init_5 ?_
  refine v_objInit C q832 q161 q162 (by exact Nat.le_of_ble_eq_true rfl) (by exact Nat.le_of_ble_eq_true rfl) dX5_init_6 ?_
  refine v_aload_n C.1 0 rfl rfl dX5_init_9 ?_
  refine v_letE (fun a3 e4 => ?_)
  refine v_hnew C 1 e4 (by decide) rfl in_X2 tyX2 tyX2_ok df_X2 q833 q164 q122 dX5_init_10 (fun u5 => ?_)
  refine v_dup C.1 rfl dX5_init_13 ?_
  refine v_callINH C [] [.ref a3, .ref p0] (ctX2_init t G l hl0 a3 u5) (fun _ _ => cwX2_initN C q834 (by decide)) rfl rfl (by exact Nat.le_of_ble_eq_true rfl) dX5_init_14 (fun _ u6 => ?_)
  refine v_chk (fun h7 => ?_)
  refine v_hputR C (some a3) 4 1 (eq_of_beq h7) (by decide) rfl in_X5 tyX5 tyX5_ok nmX5 (by decide) (by decide) q848 (fun _ h => h) (Or.inr ⟨rfl, rfl, rfl⟩) rfl rfl dX5_init_17 (fun u8 => ?_)
  refine v_aload_n C.1 0 rfl rfl dX5_init_20 ?_
  refine v_letE (fun a9 e10 => ?_)
  refine v_hnew C 2 e10 (by decide) rfl in_X3 tyX3 tyX3_ok df_X3 q835 q247 q126 dX5_init_21 (fun u11 => ?_)
  refine v_dup C.1 rfl dX5_init_24 ?_
  refine v_aload_n C.1 0 rfl rfl dX5_init_25 ?_
  refine v_chk (fun h12 => ?_)
  refine v_hget C (v := va_rf (hR u11 p0 11)) 4 11 (eq_of_beq h12) (by decide) rfl in_X5 (by decide) (Or.inl q860) (fun _ h => h) (hF_r (ci := 4) (eq_of_beq h12) (by decide)) dX5_init_26 ?_
  refine v_deref (fun a13 e14 => ?_)
  refine v_callIH C [.ref a13] [.ref a9, .ref p0] (ctX3_init t G l hl0 a9 a13 u11) (fun _ _ => cwX3_init C q836 (by decide)) rfl rfl (by exact Nat.le_of_ble_eq_true rfl) dX5_init_29 (fun _ u15 => ?_)
  refine v_chk (fun h16 => ?_)
  refine v_hputR C (some a9) 4 2 (eq_of_beq h16) (by decide) rfl in_X5 tyX5 tyX5_ok nmX5 (by decide) (by decide) q849 (fun _ h => h) (Or.inr ⟨rfl, rfl, rfl⟩) rfl rfl dX5_init_32 (fun u17 => ?_)
  refine v_aload_n C.1 0 rfl rfl dX5_init_35 ?_
  refine v_bipush C.1 8 (by decide) dX5_init_36 ?_
  refine v_letE (fun a18 e19 => ?_)
  refine v_hanew C 6 e19 (by decide) q837 (by decide) (by decide) (by decide) dX5_init_38 (fun u20 => ?_)
  refine v_dup C.1 rfl dX5_init_41 ?_
  refine v_iconst C.1 0 (by decide) dX5_init_42 ?_
  refine v_K (fun ek23 _ => ?_)
  refine v_letE (fun a21 e22 => ?_)
  refine v_hldc (q := a21) C rfl 0 (by decide) rfl (by rw [e22, ek23]) dX5_init_43 ?_
  refine v_chk (fun h25 => ?_)
  refine v_chk (fun h26 => ?_)
  refine v_haast C 6 (Or.inr ⟨rfl, eq_of_beq h26⟩) h25 dX5_init_45 (fun u24 => ?_)
  refine v_dup C.1 rfl dX5_init_46 ?_
  refine v_iconst C.1 1 (by decide) dX5_init_47 ?_
  refine v_K (fun ek29 _ => ?_)
  refine v_letE (fun a27 e28 => ?_)
  refine v_hldc (q := a27) C rfl 1 (by decide) rfl (by rw [e28, ek29]) dX5_init_48 ?_
  refine v_chk (fun h31 => ?_)
  refine v_chk (fun h32 => ?_)
  refine v_haast C 6 (Or.inr ⟨rfl, eq_of_beq h32⟩) h31 dX5_init_50 (fun u30 => ?_)
  refine v_dup C.1 rfl dX5_init_51 ?_
  refine v_iconst C.1 2 (by decide) dX5_init_52 ?_
  refine v_K (fun ek35 _ => ?_)
  refine v_letE (fun a33 e34 => ?_)
  refine v_hldc (q := a33) C rfl 2 (by decide) rfl (by rw [e34, ek35]) dX5_init_53 ?_
  refine v_chk (fun h37 => ?_)
  refine v_chk (fun h38 => ?_)
  refine v_haast C 6 (Or.inr ⟨rfl, eq_of_beq h38⟩) h37 dX5_init_55 (fun u36 => ?_)
  refine v_dup C.1 rfl dX5_init_56 ?_
  refine v_iconst C.1 3 (by decide) dX5_init_57 ?_
  refine v_K (fun ek41 _ => ?_)
  refine v_letE (fun a39 e40 => ?_)
  refine v_hldc (q := a39) C rfl 3 (by decide) rfl (by rw [e40, ek41]) dX5_init_58 ?_
  refine v_chk (fun h43 => ?_)
  refine v_chk (fun h44 => ?_)
  refine v_haast C 6 (Or.inr ⟨rfl, eq_of_beq h44⟩) h43 dX5_init_60 (fun u42 => ?_)
  refine v_dup C.1 rfl dX5_init_61 ?_
  refine v_iconst C.1 4 (by decide) dX5_init_62 ?_
  refine v_K (fun ek47 _ => ?_)
  refine v_letE (fun a45 e46 => ?_)
  refine v_hldc (q := a45) C rfl 4 (by decide) rfl (by rw [e46, ek47]) dX5_init_63 ?_
  refine v_chk (fun h49 => ?_)
  refine v_chk (fun h50 => ?_)
  refine v_haast C 6 (Or.inr ⟨rfl, eq_of_beq h50⟩) h49 dX5_init_65 (fun u48 => ?_)
  refine v_dup C.1 rfl dX5_init_66 ?_
  refine v_iconst C.1 5 (by decide) dX5_init_67 ?_
  refine v_K (fun ek53 _ => ?_)
  refine v_letE (fun a51 e52 => ?_)
  refine v_hldc (q := a51) C rfl 5 (by decide) rfl (by rw [e52, ek53]) dX5_init_68 ?_
  refine v_chk (fun h55 => ?_)
  refine v_chk (fun h56 => ?_)
  refine v_haast C 6 (Or.inr ⟨rfl, eq_of_beq h56⟩) h55 dX5_init_70 (fun u54 => ?_)
  refine v_dup C.1 rfl dX5_init_71 ?_
  refine v_bipush C.1 6 (by decide) dX5_init_72 ?_
  refine v_K (fun ek59 _ => ?_)
  refine v_letE (fun a57 e58 => ?_)
  refine v_hldc (q := a57) C rfl 6 (by decide) rfl (by rw [e58, ek59]) dX5_init_74 ?_
  refine v_chk (fun h61 => ?_)
  refine v_chk (fun h62 => ?_)
  refine v_haast C 6 (Or.inr ⟨rfl, eq_of_beq h62⟩) h61 dX5_init_76 (fun u60 => ?_)
  refine v_dup C.1 rfl dX5_init_77 ?_
  refine v_bipush C.1 7 (by decide) dX5_init_78 ?_
  refine v_K (fun ek65 _ => ?_)
  refine v_letE (fun a63 e64 => ?_)
  refine v_hldc (q := a63) C rfl 7 (by decide) rfl (by rw [e64, ek65]) dX5_init_80 ?_
  refine v_chk (fun h67 => ?_)
  refine v_chk (fun h68 => ?_)
  refine v_haast C 6 (Or.inr ⟨rfl, eq_of_beq h68⟩) h67 dX5_init_82 (fun u66 => ?_)
  refine v_chk (fun h69 => ?_)
  refine v_hputR C (some a18) 4 3 (eq_of_beq h69) (by decide) rfl in_X5 tyX5 tyX5_ok nmX5 (by decide) (by decide) q851 (fun _ h => h) (Or.inr ⟨rfl, rfl, rfl⟩) rfl rfl dX5_init_83 (fun u70 => ?_)
  refine v_aload_n C.1 0 rfl rfl dX5_init_86 ?_
  refine v_iload_n C.1 2 rfl rfl dX5_init_87 ?_
  refine v_chk (fun h71 => ?_)
  refine v_hputI C 4 0 (eq_of_beq h71) (by decide) rfl in_X5 tyX5 tyX5_ok nmX5 (by decide) (by decide) q847 (fun _ h => h) (Or.inr ⟨rfl, rfl, rfl⟩) ⟨rfl, rfl⟩ dX5_init_88 (fun u72 => ?_)
  exact v_hvret C dX5_init_91
theorem cwX5_init {t : TT} {G : GH} {l : Launch} {p : Program} {s : State} {m : MethodId} {args : Array Value} {meth : Method} {c : Code} {y0 : MethodName} {cc0 : ByteArray} {nL0 : Nat} {ret0 : Option FieldType} (C : CxH t G l p s m args meth c y0 cc0 nL0 ret0) {index lv mc ms K1 K2 : Nat} (hq : Cond.methodLink y0.cls index yX5_init ∈ lw_all) (hR : 6 + 1 ≤ lv) : CallB (rmH lv K1 K2) s args y0.cls index yX5_init cX5_init 3 none (ws_ yX5_init cX5_init 3 none) (rmH 6 mc ms) mc ms 2 ∧ yX5_init.name = "<init>" ∧ (Cond.instanceMethod yX5_init).before args s = true :=
  cwI 2 C.1.2.2.2.2.1 (lw_meth q831) rfl rfl rfl (C.1.2.2.2.2.1 _ q132) (C.1.2.2.2.2.1 _ hq) (C.1.2.2.2.2.1 _ q830) rfl (by decide +kernel) ⟨hR, by show 8 + (3 + 11) + 100 * 6 ≤ 100 * lv; omega⟩
def hX5_here (p0 : Nat) (u : HS) : Option (OH Int32) :=
  mchk (hC u p0 == 5) <|
  mchk (hC u p0 == 5) <|
  if (hI u p0 0) ≤ (hI u p0 4) then
    hret (-1) u
  else
    mchk (hC u p0 == 5) <|
    mderef (hR u p0 11) fun a4 =>
    mchk (hC u a4 == 1) <|
    mderef (hR u a4 4) fun a7 =>
    mchk (hC u p0 == 5) <|
    mchk (inA u (hI u p0 4) a7 23) <|
    hret ((hA u a7 (hI u p0 4).toNatClampNeg) &&& 255) u
theorem ctX5_here (t : TT) (G : GH) (l : Launch) (hl0 : l.stackTraces = false) (p0 : Nat) (u : HS) : CtH mkI t G l yX5_here cX5_here 1 (some .int) 2 [.ref p0] u (hX5_here p0 u) := by
  refine ctH_of [(0, .ref p0)] hl0 rfl (Nat.le_of_ble_eq_true rfl) rfl (fun K1 K2 p e s m args below meth c C => ?_)
  unfold hX5_here
  refine v_aload_n C.1 0 rfl rfl dX5_here_0 ?_
  refine v_chk (fun h1 => ?_)
  refine v_hget C (v := .int (hI u p0 4)) 4 4 (eq_of_beq h1) (by decide) rfl in_X5 (by decide) (Or.inl q852) (fun _ h => h) (hF_i (ci := 4) (eq_of_beq h1) (by decide)) dX5_here_1 ?_
  refine v_aload_n C.1 0 rfl rfl dX5_here_4 ?_
  refine v_chk (fun h2 => ?_)
  refine v_hget C (v := .int (hI u p0 0)) 4 0 (eq_of_beq h2) (by decide) rfl in_X5 (by decide) (Or.inl q847) (fun _ h => h) (hF_i (ci := 4) (eq_of_beq h2) (by decide)) dX5_here_5 ?_
  refine v_icmp_ge C.1 30 (by decide) dX5_here_8 (fun _ => ?_) (fun _ => ?_)
  · refine v_iconst C.1 (-1) (by decide) dX5_here_30 ?_
    exact v_hiret C dX5_here_31
  · refine v_aload_n C.1 0 rfl rfl dX5_here_11 ?_
    refine v_chk (fun h3 => ?_)
    refine v_hget C (v := va_rf (hR u p0 11)) 4 11 (eq_of_beq h3) (by decide) rfl in_X5 (by decide) (Or.inl q860) (fun _ h => h) (hF_r (ci := 4) (eq_of_beq h3) (by decide)) dX5_here_12 ?_
    refine v_deref (fun a4 e5 => ?_)
    refine v_chk (fun h6 => ?_)
    refine v_hget C (v := va_rf (hR u a4 4)) 0 4 (eq_of_beq h6) (by decide) rfl in_X1 (by decide) (Or.inr ⟨_, q313⟩) (fun _ h => h) (hF_r (ci := 0) (eq_of_beq h6) (by decide)) dX5_here_15 ?_
    refine v_deref (fun a7 e8 => ?_)
    refine v_aload_n C.1 0 rfl rfl dX5_here_18 ?_
    refine v_chk (fun h9 => ?_)
    refine v_hget C (v := .int (hI u p0 4)) 4 4 (eq_of_beq h9) (by decide) rfl in_X5 (by decide) (Or.inl q852) (fun _ h => h) (hF_i (ci := 4) (eq_of_beq h9) (by decide)) dX5_here_19 ?_
    refine v_chk (fun h10 => ?_)
    refine v_habald C h10 dX5_here_22 ?_
    refine v_sipush C.1 255 (by decide) dX5_here_23 ?_
    refine v_iand C.1 dX5_here_26 ?_
    refine v_goto C.1 31 (by decide) dX5_here_27 ?_
    exact v_hiret C dX5_here_31
theorem cwX5_here {t : TT} {G : GH} {l : Launch} {p : Program} {s : State} {m : MethodId} {args : Array Value} {meth : Method} {c : Code} {y0 : MethodName} {cc0 : ByteArray} {nL0 : Nat} {ret0 : Option FieldType} (C : CxH t G l p s m args meth c y0 cc0 nL0 ret0) {index lv mc ms K1 K2 : Nat} (hq : Cond.methodLink y0.cls index yX5_here ∈ lw_all) (hR : 2 + 1 ≤ lv) : CallW (rmH lv K1 K2) s args y0.cls RX5 index yX5_here cX5_here 1 (some .int) (ws_ yX5_here cX5_here 1 (some .int)) (rmH 2 mc ms) mc ms 0 :=
  cwV 0 C.1.2.2.2.2.1 (lw_V hq q896 qs13 q132 q897) rfl rfl rfl (by decide +kernel) ⟨hR, by show 8 + (1 + 11) + 100 * 2 ≤ 100 * lv; omega⟩
def hX5_isLetter (p0 : Nat) (u : HS) : Option (OH Int32) :=
  mchk (hC u p0 == 5) <|
  hb (hX5_here p0 u) fun r2 u1 =>
  hb (hX1_in r2 97 122 u1) fun r5 u4 =>
  hz id r5 u4
theorem ctX5_isLetter (t : TT) (G : GH) (l : Launch) (hl0 : l.stackTraces = false) (p0 : Nat) (u : HS) : CtH mkI t G l yX5_isLetter cX5_isLetter 1 (some .boolean) 3 [.ref p0] u (hX5_isLetter p0 u) := by
  refine ctH_of [(0, .ref p0)] hl0 rfl (Nat.le_of_ble_eq_true rfl) rfl (fun K1 K2 p e s m args below meth c C => ?_)
  unfold hX5_isLetter
  refine v_aload_n C.1 0 rfl rfl dX5_isLetter_0 ?_
  refine v_chk (fun h3 => ?_)
  refine v_callVH C [] [] (ctX5_here t G l hl0 p0 u) (fun _ _ => cwX5_here C q894 (by decide)) (recO C (ci := 4) (eq_of_beq h3) (by decide) rfl) rfl rfl (by exact Nat.le_of_ble_eq_true rfl) dX5_isLetter_1 (fun r2 u1 => ?_)
  refine v_bipush C.1 97 (by decide) dX5_isLetter_4 ?_
  refine v_bipush C.1 122 (by decide) dX5_isLetter_6 ?_
  refine v_callSNH C [.int r2, .int 97, .int 122] [] (ctX1_in t G l hl0 r2 97 122 u1) (fun _ _ => cwX1_inN C q902 (by decide)) rfl rfl (by exact Nat.le_of_ble_eq_true rfl) dX5_isLetter_8 (fun r5 u4 => ?_)
  exact v_hzret C dX5_isLetter_11
theorem cwX5_isLetter {t : TT} {G : GH} {l : Launch} {p : Program} {s : State} {m : MethodId} {args : Array Value} {meth : Method} {c : Code} {y0 : MethodName} {cc0 : ByteArray} {nL0 : Nat} {ret0 : Option FieldType} (C : CxH t G l p s m args meth c y0 cc0 nL0 ret0) {index lv mc ms K1 K2 : Nat} (hq : Cond.methodLink y0.cls index yX5_isLetter ∈ lw_all) (hR : 3 + 1 ≤ lv) : CallW (rmH lv K1 K2) s args y0.cls RX5 index yX5_isLetter cX5_isLetter 1 (some .boolean) (ws_ yX5_isLetter cX5_isLetter 1 (some .boolean)) (rmH 3 mc ms) mc ms 0 :=
  cwV 0 C.1.2.2.2.2.1 (lw_V hq q900 qs14 q132 q901) rfl rfl rfl (by decide +kernel) ⟨hR, by show 8 + (1 + 11) + 100 * 3 ≤ 100 * lv; omega⟩
def hX5_isDigit (p0 : Nat) (u : HS) : Option (OH Int32) :=
  mchk (hC u p0 == 5) <|
  hb (hX5_here p0 u) fun r2 u1 =>
  hb (hX1_in r2 48 57 u1) fun r5 u4 =>
  hz id r5 u4
theorem ctX5_isDigit (t : TT) (G : GH) (l : Launch) (hl0 : l.stackTraces = false) (p0 : Nat) (u : HS) : CtH mkI t G l yX5_isDigit cX5_isDigit 1 (some .boolean) 3 [.ref p0] u (hX5_isDigit p0 u) := by
  refine ctH_of [(0, .ref p0)] hl0 rfl (Nat.le_of_ble_eq_true rfl) rfl (fun K1 K2 p e s m args below meth c C => ?_)
  unfold hX5_isDigit
  refine v_aload_n C.1 0 rfl rfl dX5_isDigit_0 ?_
  refine v_chk (fun h3 => ?_)
  refine v_callVH C [] [] (ctX5_here t G l hl0 p0 u) (fun _ _ => cwX5_here C q894 (by decide)) (recO C (ci := 4) (eq_of_beq h3) (by decide) rfl) rfl rfl (by exact Nat.le_of_ble_eq_true rfl) dX5_isDigit_1 (fun r2 u1 => ?_)
  refine v_bipush C.1 48 (by decide) dX5_isDigit_4 ?_
  refine v_bipush C.1 57 (by decide) dX5_isDigit_6 ?_
  refine v_callSNH C [.int r2, .int 48, .int 57] [] (ctX1_in t G l hl0 r2 48 57 u1) (fun _ _ => cwX1_inN C q902 (by decide)) rfl rfl (by exact Nat.le_of_ble_eq_true rfl) dX5_isDigit_8 (fun r5 u4 => ?_)
  exact v_hzret C dX5_isDigit_11
theorem cwX5_isDigit {t : TT} {G : GH} {l : Launch} {p : Program} {s : State} {m : MethodId} {args : Array Value} {meth : Method} {c : Code} {y0 : MethodName} {cc0 : ByteArray} {nL0 : Nat} {ret0 : Option FieldType} (C : CxH t G l p s m args meth c y0 cc0 nL0 ret0) {index lv mc ms K1 K2 : Nat} (hq : Cond.methodLink y0.cls index yX5_isDigit ∈ lw_all) (hR : 3 + 1 ≤ lv) : CallW (rmH lv K1 K2) s args y0.cls RX5 index yX5_isDigit cX5_isDigit 1 (some .boolean) (ws_ yX5_isDigit cX5_isDigit 1 (some .boolean)) (rmH 3 mc ms) mc ms 0 :=
  cwV 0 C.1.2.2.2.2.1 (lw_V hq q905 qs15 q132 q906) rfl rfl rfl (by decide +kernel) ⟨hR, by show 8 + (1 + 11) + 100 * 3 ≤ 100 * lv; omega⟩
def hJ8_isLatin1 (p0 : Nat) (u : HS) : Option (OH Int32) :=
  if (1 : Int32) = 0 then
    hz id 0 u
  else
    mchk (hC u p0 == 30) <|
    if (hI u p0 1) = 0 then
      hz id 1 u
    else
      hz id 0 u
theorem ctJ8_isLatin1 (t : TT) (G : GH) (l : Launch) (hl0 : l.stackTraces = false) (p0 : Nat) (u : HS) : CtH mkI t G l yJ8_isLatin1 cJ8_isLatin1 1 (some .boolean) 2 [.ref p0] u (hJ8_isLatin1 p0 u) := by
  refine ctH_of [(0, .ref p0)] hl0 rfl (Nat.le_of_ble_eq_true rfl) rfl (fun K1 K2 p e s m args below meth c C => ?_)
  unfold hJ8_isLatin1
  refine v_gets C C.2.1.comp q922 (fun _ h => h) dJ8_isLatin1_0 ?_
  refine v_if_eq C.1 17 (by decide) dJ8_isLatin1_3 (fun _ => ?_) (fun _ => ?_)
  · refine v_iconst C.1 0 (by decide) dJ8_isLatin1_17 ?_
    exact v_hzret C dJ8_isLatin1_18
  · refine v_aload_n C.1 0 rfl rfl dJ8_isLatin1_6 ?_
    refine v_chk (fun h1 => ?_)
    refine v_hgetS C (v := .int (hI u p0 1)) 1 (eq_of_beq h1) (Or.inr ⟨rfl, rfl⟩) q2383 dJ8_isLatin1_7 ?_
    refine v_if_ne C.1 17 (by decide) dJ8_isLatin1_10 (fun _ => ?_) (fun _ => ?_)
    · refine v_iconst C.1 1 (by decide) dJ8_isLatin1_13 ?_
      refine v_goto C.1 18 (by decide) dJ8_isLatin1_14 ?_
      exact v_hzret C dJ8_isLatin1_18
    · refine v_iconst C.1 0 (by decide) dJ8_isLatin1_17 ?_
      exact v_hzret C dJ8_isLatin1_18
theorem cwJ8_isLatin1 {t : TT} {G : GH} {l : Launch} {p : Program} {s : State} {m : MethodId} {args : Array Value} {meth : Method} {c : Code} {y0 : MethodName} {cc0 : ByteArray} {nL0 : Nat} {ret0 : Option FieldType} (C : CxH t G l p s m args meth c y0 cc0 nL0 ret0) {index lv mc ms K1 K2 : Nat} (hq : Cond.methodLink y0.cls index yJ8_isLatin1 ∈ lw_all) (hR : 2 + 1 ≤ lv) : CallW (rmH lv K1 K2) s args y0.cls RJ8 index yJ8_isLatin1 cJ8_isLatin1 1 (some .boolean) (ws_ yJ8_isLatin1 cJ8_isLatin1 1 (some .boolean)) (rmH 2 mc ms) mc ms 0 :=
  cwV 0 C.1.2.2.2.2.1 (lw_V hq q919 q920 q134 q921) rfl rfl rfl (by decide +kernel) ⟨hR, by show 8 + (1 + 11) + 100 * 2 ≤ 100 * lv; omega⟩
def hJ8_coder (p0 : Nat) (u : HS) : Option (OH Int32) :=
  if (1 : Int32) = 0 then
    hret 1 u
  else
    mchk (hC u p0 == 30) <|
    mchk (isB (hI u p0 1)) <|
    hret (hI u p0 1) u
theorem ctJ8_coder (t : TT) (G : GH) (l : Launch) (hl0 : l.stackTraces = false) (p0 : Nat) (u : HS) : CtH mkI t G l yJ8_coder cJ8_coder 1 (some .byte) 2 [.ref p0] u (hJ8_coder p0 u) := by
  refine ctH_of [(0, .ref p0)] hl0 rfl (Nat.le_of_ble_eq_true rfl) rfl (fun K1 K2 p e s m args below meth c C => ?_)
  unfold hJ8_coder
  refine v_gets C C.2.1.comp q922 (fun _ h => h) dJ8_coder_0 ?_
  refine v_if_eq C.1 13 (by decide) dJ8_coder_3 (fun _ => ?_) (fun _ => ?_)
  · refine v_iconst C.1 1 (by decide) dJ8_coder_13 ?_
    exact v_hbret C rfl dJ8_coder_14
  · refine v_aload_n C.1 0 rfl rfl dJ8_coder_6 ?_
    refine v_chk (fun h1 => ?_)
    refine v_hgetS C (v := .int (hI u p0 1)) 1 (eq_of_beq h1) (Or.inr ⟨rfl, rfl⟩) q2383 dJ8_coder_7 ?_
    refine v_goto C.1 14 (by decide) dJ8_coder_10 ?_
    refine v_chk (fun h2 => ?_)
    exact v_hbret C (isB_byte h2) dJ8_coder_14
theorem cwJ8_coder {t : TT} {G : GH} {l : Launch} {p : Program} {s : State} {m : MethodId} {args : Array Value} {meth : Method} {c : Code} {y0 : MethodName} {cc0 : ByteArray} {nL0 : Nat} {ret0 : Option FieldType} (C : CxH t G l p s m args meth c y0 cc0 nL0 ret0) {index lv mc ms K1 K2 : Nat} (hq : Cond.methodLink y0.cls index yJ8_coder ∈ lw_all) (hR : 2 + 1 ≤ lv) : CallW (rmH lv K1 K2) s args y0.cls RJ8 index yJ8_coder cJ8_coder 1 (some .byte) (ws_ yJ8_coder cJ8_coder 1 (some .byte)) (rmH 2 mc ms) mc ms 0 :=
  cwV 0 C.1.2.2.2.2.1 (lw_V hq q929 q930 q134 q931) rfl rfl rfl (by decide +kernel) ⟨hR, by show 8 + (1 + 11) + 100 * 2 ≤ 100 * lv; omega⟩
def hJ8_length (p0 : Nat) (u : HS) : Option (OH Int32) :=
  mchk (hC u p0 == 30) <|
  mderef (hR u p0 0) fun a2 =>
  mchk (hC u a2 == 33) <|
  mchk (hC u p0 == 30) <|
  hb (hJ8_coder p0 u) fun r6 u5 =>
  hret ((Int32.ofNat (hN u a2)) >>> (r6 &&& 31)) u5
theorem ctJ8_length (t : TT) (G : GH) (l : Launch) (hl0 : l.stackTraces = false) (p0 : Nat) (u : HS) : CtH mkI t G l yJ8_length cJ8_length 1 (some .int) 3 [.ref p0] u (hJ8_length p0 u) := by
  refine ctH_of [(0, .ref p0)] hl0 rfl (Nat.le_of_ble_eq_true rfl) rfl (fun K1 K2 p e s m args below meth c C => ?_)
  unfold hJ8_length
  refine v_aload_n C.1 0 rfl rfl dJ8_length_0 ?_
  refine v_chk (fun h1 => ?_)
  refine v_hgetS C (v := va_rf (hR u p0 0)) 0 (eq_of_beq h1) (Or.inl ⟨rfl, rfl⟩) q2384 dJ8_length_1 ?_
  refine v_deref (fun a2 e3 => ?_)
  refine v_chk (fun h4 => ?_)
  refine v_salen C (Or.inl (eq_of_beq h4)) dJ8_length_4 ?_
  refine v_aload_n C.1 0 rfl rfl dJ8_length_5 ?_
  refine v_chk (fun h7 => ?_)
  refine v_callVH C [] [.int (Int32.ofNat (hN u a2))] (ctJ8_coder t G l hl0 p0 u) (fun _ _ => cwJ8_coder C q928 (by decide)) (recS C (eq_of_beq h7)) rfl rfl (by exact Nat.le_of_ble_eq_true rfl) dJ8_length_6 (fun r6 u5 => ?_)
  refine v_ishr C.1 dJ8_length_9 ?_
  exact v_hiret C dJ8_length_10
theorem cwJ8_length {t : TT} {G : GH} {l : Launch} {p : Program} {s : State} {m : MethodId} {args : Array Value} {meth : Method} {c : Code} {y0 : MethodName} {cc0 : ByteArray} {nL0 : Nat} {ret0 : Option FieldType} (C : CxH t G l p s m args meth c y0 cc0 nL0 ret0) {index lv mc ms K1 K2 : Nat} (hq : Cond.methodLink y0.cls index yJ8_length ∈ lw_all) (hR : 3 + 1 ≤ lv) : CallW (rmH lv K1 K2) s args y0.cls RJ8 index yJ8_length cJ8_length 1 (some .int) (ws_ yJ8_length cJ8_length 1 (some .int)) (rmH 3 mc ms) mc ms 0 :=
  cwV 0 C.1.2.2.2.2.1 (lw_V hq q925 q926 q134 q927) rfl rfl rfl (by decide +kernel) ⟨hR, by show 8 + (1 + 11) + 100 * 3 ≤ 100 * lv; omega⟩
def hJ9_canEncode (p0 : Int32) (u : HS) : Option (OH Int32) :=
  if p0 < 0 then
    hz id 0 u
  else
    if 255 < p0 then
      hz id 0 u
    else
      hz id 1 u
theorem ctJ9_canEncode (t : TT) (G : GH) (l : Launch) (hl0 : l.stackTraces = false) (p0 : Int32) (u : HS) : CtH mkI t G l yJ9_canEncode cJ9_canEncode 1 (some .boolean) 2 [.int p0] u (hJ9_canEncode p0 u) := by
  refine ctH_of [(0, .int p0)] hl0 rfl (Nat.le_of_ble_eq_true rfl) rfl (fun K1 K2 p e s m args below meth c C => ?_)
  unfold hJ9_canEncode
  refine v_iload_n C.1 0 rfl rfl dJ9_canEncode_0 ?_
  refine v_if_lt C.1 15 (by decide) dJ9_canEncode_1 (fun _ => ?_) (fun _ => ?_)
  · refine v_iconst C.1 0 (by decide) dJ9_canEncode_15 ?_
    exact v_hzret C dJ9_canEncode_16
  · refine v_iload_n C.1 0 rfl rfl dJ9_canEncode_4 ?_
    refine v_sipush C.1 255 (by decide) dJ9_canEncode_5 ?_
    refine v_icmp_gt C.1 15 (by decide) dJ9_canEncode_8 (fun _ => ?_) (fun _ => ?_)
    · refine v_iconst C.1 0 (by decide) dJ9_canEncode_15 ?_
      exact v_hzret C dJ9_canEncode_16
    · refine v_iconst C.1 1 (by decide) dJ9_canEncode_11 ?_
      refine v_goto C.1 16 (by decide) dJ9_canEncode_12 ?_
      exact v_hzret C dJ9_canEncode_16
theorem cwJ9_canEncode {t : TT} {G : GH} {l : Launch} {p : Program} {s : State} {m : MethodId} {args : Array Value} {meth : Method} {c : Code} {y0 : MethodName} {cc0 : ByteArray} {nL0 : Nat} {ret0 : Option FieldType} (C : CxH t G l p s m args meth c y0 cc0 nL0 ret0) {index lv mc ms K1 K2 : Nat} (hq : Cond.methodLink y0.cls index yJ9_canEncode ∈ lw_all) (hR : 2 + 1 ≤ lv) : CallB (rmH lv K1 K2) s args y0.cls index yJ9_canEncode cJ9_canEncode 1 (some .boolean) (ws_ yJ9_canEncode cJ9_canEncode 1 (some .boolean)) (rmH 2 mc ms) mc ms 1 ∧ (Cond.static yJ9_canEncode).before args s = true :=
  ⟨callB_of 1 C.1.2.2.2.2.1 (lw_meth q937) rfl rfl rfl (C.1.2.2.2.2.1 _ q135) (C.1.2.2.2.2.1 _ hq) (by decide +kernel) ⟨hR, by show 8 + (1 + 11) + 100 * 2 ≤ 100 * lv; omega⟩, C.1.2.2.2.2.1 _ q936⟩
def hJ9_indexOfChar_7 (p0 : Nat) (p1 : Int32) (p2 : Int32) (p3 : Int32) (k : Int32 → Int32 → HS → Option (OH Int32)) (x4 : Int32) (x5 : Int32) (u : HS) : Option (OH Int32) :=
  if p3 ≤ x5 then
    hret (-1) u
  else
    mchk (inA u x5 p0 23) <|
    if (hA u p0 x5.toNatClampNeg) = x4 then
      hret x5 u
    else
      k x4 (x5 + 1) u
theorem whJ9_indexOfChar_7 {K1 K2 : Nat} {p : Program} {e : Env} {s : State} {m : MethodId} {args : Array Value} {below : List Frame} {meth : Method} {c : Code} (hl0 : l.stackTraces = false) (C : CxH t G l p s m args meth c yJ9_indexOfChar cJ9_indexOfChar 6 (some .int)) (p0 : Nat) (p1 : Int32) (p2 : Int32) (p3 : Int32) (n : Nat) (x4 : Int32) (x5 : Int32) (u : HS) : VH mkI t G p l e 2 K1 K2 s m args below meth c 6 7 [(0, .ref p0), (3, .int p3), (4, .int x4), (5, .int x5)] [] u (ml2 (hJ9_indexOfChar_7 p0 p1 p2 p3) n x4 x5 u) := by
  refine vl2 (L := fun x4 x5 => [(0, .ref p0), (3, .int p3), (4, .int x4), (5, .int x5)]) (fun k hk x4 x5 u => ?_) n x4 x5 u
  unfold hJ9_indexOfChar_7
  refine v_iload C.1 3 rfl dJ9_indexOfChar_7 ?_
  refine v_iload_n C.1 1 rfl rfl dJ9_indexOfChar_9 ?_
  refine v_icmp_ge C.1 31 (by decide) dJ9_indexOfChar_10 (fun _ => ?_) (fun _ => ?_)
  · refine v_iconst C.1 (-1) (by decide) dJ9_indexOfChar_31 ?_
    exact v_hiret C dJ9_indexOfChar_32
  · refine v_aload_n C.1 0 rfl rfl dJ9_indexOfChar_13 ?_
    refine v_iload C.1 3 rfl dJ9_indexOfChar_14 ?_
    refine v_chk (fun h1 => ?_)
    refine v_habald C h1 dJ9_indexOfChar_16 ?_
    refine v_iload C.1 2 rfl dJ9_indexOfChar_17 ?_
    refine v_icmp_ne C.1 25 (by decide) dJ9_indexOfChar_19 (fun _ => ?_) (fun _ => ?_)
    · refine v_iload C.1 3 rfl dJ9_indexOfChar_22 ?_
      exact v_hiret C dJ9_indexOfChar_24
    · refine v_iinc C.1 1 [(5, .int (x5 + 1)), (0, .ref p0), (3, .int p3), (4, .int x4)] 3 rfl (by decide) (by decide) rfl dJ9_indexOfChar_25 ?_
      refine v_goto C.1 7 (by decide) dJ9_indexOfChar_28 ?_
      refine v_sub [1, 2, 3, 0] rfl ?_
      exact hk x4 (x5 + 1) u
def hJ9_indexOfChar (p0 : Nat) (p1 : Int32) (p2 : Int32) (p3 : Int32) (u : HS) : Option (OH Int32) :=
  mlet ((Int32.toInt8 p1).toInt32) fun v1 =>
  ml2 (hJ9_indexOfChar_7 p0 p1 p2 p3) FUEL v1 p2 u
theorem ctJ9_indexOfChar (t : TT) (G : GH) (l : Launch) (hl0 : l.stackTraces = false) (p0 : Nat) (p1 : Int32) (p2 : Int32) (p3 : Int32) (u : HS) : CtH mkI t G l yJ9_indexOfChar cJ9_indexOfChar 6 (some .int) 2 [.ref p0, .int p1, .int p2, .int p3] u (hJ9_indexOfChar p0 p1 p2 p3 u) := by
  refine ctH_of [(0, .ref p0), (1, .int p1), (2, .int p2), (3, .int p3)] hl0 rfl (Nat.le_of_ble_eq_true rfl) rfl (fun K1 K2 p e s m args below meth c C => ?_)
  unfold hJ9_indexOfChar
  refine v_iload_n C.1 1 rfl rfl dJ9_indexOfChar_0 ?_
  refine v_i2b C.1 dJ9_indexOfChar_1 ?_
  refine v_topi (fun v1 => ?_)
  refine v_istore C.1 [(4, .int v1), (0, .ref p0), (1, .int p1), (2, .int p2), (3, .int p3)] (by decide) rfl dJ9_indexOfChar_2 ?_
  refine v_iload_n C.1 3 rfl rfl dJ9_indexOfChar_4 ?_
  refine v_istore C.1 [(5, .int p2), (4, .int v1), (0, .ref p0), (1, .int p1), (2, .int p2), (3, .int p3)] (by decide) rfl dJ9_indexOfChar_5 ?_
  refine v_sub [2, 5, 1, 0] rfl ?_
  exact whJ9_indexOfChar_7 hl0 C p0 p1 p2 p3 FUEL v1 p2 u
theorem cwJ9_indexOfChar {t : TT} {G : GH} {l : Launch} {p : Program} {s : State} {m : MethodId} {args : Array Value} {meth : Method} {c : Code} {y0 : MethodName} {cc0 : ByteArray} {nL0 : Nat} {ret0 : Option FieldType} (C : CxH t G l p s m args meth c y0 cc0 nL0 ret0) {index lv mc ms K1 K2 : Nat} (hq : Cond.methodLink y0.cls index yJ9_indexOfChar ∈ lw_all) (hR : 2 + 1 ≤ lv) : CallB (rmH lv K1 K2) s args y0.cls index yJ9_indexOfChar cJ9_indexOfChar 6 (some .int) (ws_ yJ9_indexOfChar cJ9_indexOfChar 6 (some .int)) (rmH 2 mc ms) mc ms 4 ∧ (Cond.static yJ9_indexOfChar).before args s = true :=
  ⟨callB_of 4 C.1.2.2.2.2.1 (lw_meth q942) rfl rfl rfl (C.1.2.2.2.2.1 _ q135) (C.1.2.2.2.2.1 _ hq) (by decide +kernel) ⟨hR, by show 8 + (6 + 11) + 100 * 2 ≤ 100 * lv; omega⟩, C.1.2.2.2.2.1 _ q941⟩
def hJ9_indexOf (p0 : Nat) (p1 : Int32) (p2 : Int32) (p3 : Int32) (u : HS) : Option (OH Int32) :=
  hb (hJ9_canEncode p1 u) fun r2 u1 =>
  if r2 = 0 then
    hret (-1) u1
  else
    mlet (iMax p2 0) fun v3 =>
    mchk (hC u1 p0 == 23) <|
    mlet (iMin p3 (Int32.ofNat (hN u1 p0))) fun v5 =>
    if v3 < v5 then
      hb (hJ9_indexOfChar p0 p1 v3 v5 u1) fun r7 u6 =>
      hret r7 u6
    else
      hret (-1) u1
theorem ctJ9_indexOf (t : TT) (G : GH) (l : Launch) (hl0 : l.stackTraces = false) (p0 : Nat) (p1 : Int32) (p2 : Int32) (p3 : Int32) (u : HS) : CtH mkI t G l yJ9_indexOf cJ9_indexOf 4 (some .int) 3 [.ref p0, .int p1, .int p2, .int p3] u (hJ9_indexOf p0 p1 p2 p3 u) := by
  refine ctH_of [(0, .ref p0), (1, .int p1), (2, .int p2), (3, .int p3)] hl0 rfl (Nat.le_of_ble_eq_true rfl) rfl (fun K1 K2 p e s m args below meth c C => ?_)
  unfold hJ9_indexOf
  refine v_iload_n C.1 1 rfl rfl dJ9_indexOf_0 ?_
  refine v_callSH C [.int p1] [] (ctJ9_canEncode t G l hl0 p1 u) (fun _ _ => cwJ9_canEncode C q935 (by decide)) rfl rfl (by exact Nat.le_of_ble_eq_true rfl) dJ9_indexOf_1 (fun r2 u1 => ?_)
  refine v_if_ne C.1 9 (by decide) dJ9_indexOf_4 (fun _ => ?_) (fun _ => ?_)
  · refine v_iconst C.1 (-1) (by decide) dJ9_indexOf_7 ?_
    exact v_hiret C dJ9_indexOf_8
  · refine v_iload_n C.1 2 rfl rfl dJ9_indexOf_9 ?_
    refine v_iconst C.1 0 (by decide) dJ9_indexOf_10 ?_
    refine v_mmax C q938 q409 q133 q410 (by exact Nat.le_of_ble_eq_true rfl) (by exact Nat.le_of_ble_eq_true rfl) dJ9_indexOf_11 ?_
    refine v_topi (fun v3 => ?_)
    refine v_istore_n C.1 [(2, .int v3), (0, .ref p0), (1, .int p1), (3, .int p3)] rfl (by decide) rfl dJ9_indexOf_14 ?_
    refine v_iload_n C.1 3 rfl rfl dJ9_indexOf_15 ?_
    refine v_aload_n C.1 1 rfl rfl dJ9_indexOf_16 ?_
    refine v_chk (fun h4 => ?_)
    refine v_halen C 3 (by decide) (eq_of_beq h4) dJ9_indexOf_17 ?_
    refine v_mmin C q939 q445 q133 q446 (by exact Nat.le_of_ble_eq_true rfl) (by exact Nat.le_of_ble_eq_true rfl) dJ9_indexOf_18 ?_
    refine v_topi (fun v5 => ?_)
    refine v_istore_n C.1 [(3, .int v5), (2, .int v3), (0, .ref p0), (1, .int p1)] rfl (by decide) rfl dJ9_indexOf_21 ?_
    refine v_iload_n C.1 1 rfl rfl dJ9_indexOf_22 ?_
    refine v_iload_n C.1 0 rfl rfl dJ9_indexOf_23 ?_
    refine v_icmp_lt C.1 29 (by decide) dJ9_indexOf_24 (fun _ => ?_) (fun _ => ?_)
    · refine v_aload_n C.1 2 rfl rfl dJ9_indexOf_29 ?_
      refine v_iload_n C.1 3 rfl rfl dJ9_indexOf_30 ?_
      refine v_iload_n C.1 1 rfl rfl dJ9_indexOf_31 ?_
      refine v_iload_n C.1 0 rfl rfl dJ9_indexOf_32 ?_
      refine v_callSH C [.ref p0, .int p1, .int v3, .int v5] [] (ctJ9_indexOfChar t G l hl0 p0 p1 v3 v5 u1) (fun _ _ => cwJ9_indexOfChar C q940 (by decide)) rfl rfl (by exact Nat.le_of_ble_eq_true rfl) dJ9_indexOf_33 (fun r7 u6 => ?_)
      exact v_hiret C dJ9_indexOf_36
    · refine v_iconst C.1 (-1) (by decide) dJ9_indexOf_27 ?_
      exact v_hiret C dJ9_indexOf_28
theorem cwJ9_indexOf {t : TT} {G : GH} {l : Launch} {p : Program} {s : State} {m : MethodId} {args : Array Value} {meth : Method} {c : Code} {y0 : MethodName} {cc0 : ByteArray} {nL0 : Nat} {ret0 : Option FieldType} (C : CxH t G l p s m args meth c y0 cc0 nL0 ret0) {index lv mc ms K1 K2 : Nat} (hq : Cond.methodLink y0.cls index yJ9_indexOf ∈ lw_all) (hR : 3 + 1 ≤ lv) : CallB (rmH lv K1 K2) s args y0.cls index yJ9_indexOf cJ9_indexOf 4 (some .int) (ws_ yJ9_indexOf cJ9_indexOf 4 (some .int)) (rmH 3 mc ms) mc ms 4 ∧ (Cond.static yJ9_indexOf).before args s = true :=
  ⟨callB_of 4 C.1.2.2.2.2.1 (lw_meth q934) rfl rfl rfl (C.1.2.2.2.2.1 _ q135) (C.1.2.2.2.2.1 _ hq) (by decide +kernel) ⟨hR, by show 8 + (4 + 11) + 100 * 3 ≤ 100 * lv; omega⟩, C.1.2.2.2.2.1 _ q933⟩
def hJ8_indexOf_2 (p0 : Nat) (p1 : Int32) (p2 : Int32) (u : HS) : Option (OH Int32) :=
  mchk (hC u p0 == 30) <|
  hb (hJ8_isLatin1 p0 u) fun r2 u1 =>
  if r2 = 0 then
    mchk (hC u1 p0 == 30) <|
    mderef (hR u1 p0 0) fun a5 =>
    mchk (hC u1 p0 == 30) <|
    hb (hJ8_length p0 u1) fun r8 u7 =>
    none
  else
    mchk (hC u1 p0 == 30) <|
    mderef (hR u1 p0 0) fun a5 =>
    mchk (hC u1 p0 == 30) <|
    hb (hJ8_length p0 u1) fun r8 u7 =>
    hb (hJ9_indexOf a5 p1 p2 r8 u7) fun r11 u10 =>
    hret r11 u10
theorem ctJ8_indexOf_2 (t : TT) (G : GH) (l : Launch) (hl0 : l.stackTraces = false) (p0 : Nat) (p1 : Int32) (p2 : Int32) (u : HS) : CtH mkI t G l yJ8_indexOf_2 cJ8_indexOf_2 3 (some .int) 4 [.ref p0, .int p1, .int p2] u (hJ8_indexOf_2 p0 p1 p2 u) := by
  refine ctH_of [(0, .ref p0), (1, .int p1), (2, .int p2)] hl0 rfl (Nat.le_of_ble_eq_true rfl) rfl (fun K1 K2 p e s m args below meth c C => ?_)
  unfold hJ8_indexOf_2
  refine v_aload_n C.1 0 rfl rfl dJ8_indexOf_2_0 ?_
  refine v_chk (fun h3 => ?_)
  refine v_callVH C [] [] (ctJ8_isLatin1 t G l hl0 p0 u) (fun _ _ => cwJ8_isLatin1 C q918 (by decide)) (recS C (eq_of_beq h3)) rfl rfl (by exact Nat.le_of_ble_eq_true rfl) dJ8_indexOf_2_1 (fun r2 u1 => ?_)
  refine v_if_eq C.1 23 (by decide) dJ8_indexOf_2_4 (fun _ => ?_) (fun _ => ?_)
  · refine v_aload_n C.1 0 rfl rfl dJ8_indexOf_2_23 ?_
    refine v_chk (fun h4 => ?_)
    refine v_hgetS C (v := va_rf (hR u1 p0 0)) 0 (eq_of_beq h4) (Or.inl ⟨rfl, rfl⟩) q2384 dJ8_indexOf_2_24 ?_
    refine v_deref (fun a5 e6 => ?_)
    refine v_iload_n C.1 1 rfl rfl dJ8_indexOf_2_27 ?_
    refine v_iload_n C.1 2 rfl rfl dJ8_indexOf_2_28 ?_
    refine v_aload_n C.1 0 rfl rfl dJ8_indexOf_2_29 ?_
    refine v_chk (fun h9 => ?_)
    refine v_callVH C [] [.int p2, .int p1, .ref a5] (ctJ8_length t G l hl0 p0 u1) (fun _ _ => cwJ8_length C q924 (by decide)) (recS C (eq_of_beq h9)) rfl rfl (by exact Nat.le_of_ble_eq_true rfl) dJ8_indexOf_2_30 (fun r8 u7 => ?_)
    exact v_none
  · refine v_aload_n C.1 0 rfl rfl dJ8_indexOf_2_7 ?_
    refine v_chk (fun h4 => ?_)
    refine v_hgetS C (v := va_rf (hR u1 p0 0)) 0 (eq_of_beq h4) (Or.inl ⟨rfl, rfl⟩) q2384 dJ8_indexOf_2_8 ?_
    refine v_deref (fun a5 e6 => ?_)
    refine v_iload_n C.1 1 rfl rfl dJ8_indexOf_2_11 ?_
    refine v_iload_n C.1 2 rfl rfl dJ8_indexOf_2_12 ?_
    refine v_aload_n C.1 0 rfl rfl dJ8_indexOf_2_13 ?_
    refine v_chk (fun h9 => ?_)
    refine v_callVH C [] [.int p2, .int p1, .ref a5] (ctJ8_length t G l hl0 p0 u1) (fun _ _ => cwJ8_length C q924 (by decide)) (recS C (eq_of_beq h9)) rfl rfl (by exact Nat.le_of_ble_eq_true rfl) dJ8_indexOf_2_14 (fun r8 u7 => ?_)
    refine v_callSH C [.ref a5, .int p1, .int p2, .int r8] [] (ctJ9_indexOf t G l hl0 a5 p1 p2 r8 u7) (fun _ _ => cwJ9_indexOf C q932 (by decide)) rfl rfl (by exact Nat.le_of_ble_eq_true rfl) dJ8_indexOf_2_17 (fun r11 u10 => ?_)
    refine v_goto C.1 36 (by decide) dJ8_indexOf_2_20 ?_
    exact v_hiret C dJ8_indexOf_2_36
theorem cwJ8_indexOf_2 {t : TT} {G : GH} {l : Launch} {p : Program} {s : State} {m : MethodId} {args : Array Value} {meth : Method} {c : Code} {y0 : MethodName} {cc0 : ByteArray} {nL0 : Nat} {ret0 : Option FieldType} (C : CxH t G l p s m args meth c y0 cc0 nL0 ret0) {index lv mc ms K1 K2 : Nat} (hq : Cond.methodLink y0.cls index yJ8_indexOf_2 ∈ lw_all) (hR : 4 + 1 ≤ lv) : CallW (rmH lv K1 K2) s args y0.cls RJ8 index yJ8_indexOf_2 cJ8_indexOf_2 3 (some .int) (ws_ yJ8_indexOf_2 cJ8_indexOf_2 3 (some .int)) (rmH 4 mc ms) mc ms 2 :=
  cwV 2 C.1.2.2.2.2.1 (lw_V hq q915 q916 q134 q917) rfl rfl rfl (by decide +kernel) ⟨hR, by show 8 + (3 + 11) + 100 * 4 ≤ 100 * lv; omega⟩
end
