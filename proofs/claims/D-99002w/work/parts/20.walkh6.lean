/-! walks in mode H, printed by tools/genh.py -/
set_option maxRecDepth 100000
section
variable {t : TT} {G : GH} {l : Launch}
def hX1_listsBy_85 (p0 : Nat) (p1 : Int32) (p2 : Int32) (k38 : Nat → Int32 → Nat → Int32 → HS → Option (OH (Option Nat))) (x3 : Nat) (x4 : Int32) (x5 : Nat) (x6 : Int32) (u : HS) : Option (OH (Option Nat)) :=
  mchk (hC u x3 == 3) <|
  hb (hX3_list x3 u) fun r2 u1 =>
  mchk (inA u1 x6 x5 21) <|
  mlet (uA u1 x5 x6.toNatClampNeg r2) fun u4 =>
  k38 x3 x4 x5 (x6 + 1) u4
theorem whX1_listsBy_85 {K1 K2 : Nat} {p : Program} {e : Env} {s : State} {m : MethodId} {args : Array Value} {below : List Frame} {meth : Method} {c : Code} (hl0 : l.stackTraces = false) (C : CxH t G l p s m args meth c yX1_listsBy cX1_listsBy 7 (some (.array .int))) (p0 : Nat) (p1 : Int32) (p2 : Int32) (k38 : Nat → Int32 → Nat → Int32 → HS → Option (OH (Option Nat))) (hk38 : ∀ (x3 : Nat) (x4 : Int32) (x5 : Nat) (x6 : Int32) (u : HS), VH mkO t G p l e 423 K1 K2 s m args below meth c 7 38 [(1, .int p1), (2, .int p2), (3, .ref x3), (4, .int x4), (5, .ref x5), (6, .int x6)] [] u (k38 x3 x4 x5 x6 u)) (x3 : Nat) (x4 : Int32) (x5 : Nat) (x6 : Int32) (u : HS) : VH mkO t G p l e 423 K1 K2 s m args below meth c 7 85 [(1, .int p1), (2, .int p2), (3, .ref x3), (4, .int x4), (5, .ref x5), (6, .int x6)] [] u (hX1_listsBy_85 p0 p1 p2 k38 x3 x4 x5 x6 u) := by
  unfold hX1_listsBy_85
  refine v_aload C.1 4 rfl dX1_listsBy_85 ?_
  refine v_iload C.1 5 rfl dX1_listsBy_87 ?_
  refine v_aload_n C.1 2 rfl rfl dX1_listsBy_89 ?_
  refine v_chk (fun h3 => ?_)
  refine v_callVH C [] [.int x6, .ref x5] (ctX3_list t G l hl0 x3 u) (fun _ _ => cwX3_list C q712 (by decide)) (recO C (ci := 2) (eq_of_beq h3) (by decide) rfl) rfl rfl (by exact Nat.le_of_ble_eq_true rfl) dX1_listsBy_90 (fun r2 u1 => ?_)
  refine v_chk (fun h5 => ?_)
  refine v_haiast C h5 dX1_listsBy_93 (fun u4 => ?_)
  refine v_iinc C.1 1 [(6, .int (x6 + 1)), (1, .int p1), (2, .int p2), (3, .ref x3), (4, .int x4), (5, .ref x5)] 5 rfl (by decide) (by decide) rfl dX1_listsBy_94 ?_
  refine v_goto C.1 38 (by decide) dX1_listsBy_97 ?_
  refine v_sub [1, 2, 3, 4, 5, 0] rfl ?_
  exact hk38 x3 x4 x5 (x6 + 1) u4
def hX1_listsBy_73 (p0 : Nat) (p1 : Int32) (p2 : Int32) (k38 : Nat → Int32 → Nat → Int32 → HS → Option (OH (Option Nat))) (x3 : Nat) (x4 : Int32) (x5 : Nat) (x6 : Int32) (u : HS) : Option (OH (Option Nat)) :=
  if x4 ≤ x6 then
    hX1_listsBy_85 p0 p1 p2 k38 x3 x4 x5 x6 u
  else
    mchk (hC u x3 == 3) <|
    hb (hX3_morning x3 u) fun r2 u1 =>
    hX1_listsBy_85 p0 p1 p2 k38 x3 x4 x5 x6 u1
theorem whX1_listsBy_73 {K1 K2 : Nat} {p : Program} {e : Env} {s : State} {m : MethodId} {args : Array Value} {below : List Frame} {meth : Method} {c : Code} (hl0 : l.stackTraces = false) (C : CxH t G l p s m args meth c yX1_listsBy cX1_listsBy 7 (some (.array .int))) (p0 : Nat) (p1 : Int32) (p2 : Int32) (k38 : Nat → Int32 → Nat → Int32 → HS → Option (OH (Option Nat))) (hk38 : ∀ (x3 : Nat) (x4 : Int32) (x5 : Nat) (x6 : Int32) (u : HS), VH mkO t G p l e 423 K1 K2 s m args below meth c 7 38 [(1, .int p1), (2, .int p2), (3, .ref x3), (4, .int x4), (5, .ref x5), (6, .int x6)] [] u (k38 x3 x4 x5 x6 u)) (x3 : Nat) (x4 : Int32) (x5 : Nat) (x6 : Int32) (u : HS) : VH mkO t G p l e 423 K1 K2 s m args below meth c 7 73 [(1, .int p1), (2, .int p2), (3, .ref x3), (4, .int x4), (5, .ref x5), (6, .int x6)] [] u (hX1_listsBy_73 p0 p1 p2 k38 x3 x4 x5 x6 u) := by
  unfold hX1_listsBy_73
  refine v_iload C.1 5 rfl dX1_listsBy_73 ?_
  refine v_iload C.1 3 rfl dX1_listsBy_75 ?_
  refine v_icmp_ge C.1 85 (by decide) dX1_listsBy_77 (fun _ => ?_) (fun _ => ?_)
  · exact whX1_listsBy_85 hl0 C p0 p1 p2 k38 hk38 x3 x4 x5 x6 u
  · refine v_aload_n C.1 2 rfl rfl dX1_listsBy_80 ?_
    refine v_chk (fun h3 => ?_)
    refine v_callVH C [] [] (ctX3_morning t G l hl0 x3 u) (fun _ _ => cwX3_morning C q695 (by decide)) (recO C (ci := 2) (eq_of_beq h3) (by decide) rfl) rfl rfl (by exact Nat.le_of_ble_eq_true rfl) dX1_listsBy_81 (fun r2 u1 => ?_)
    refine v_pop C.1 rfl dX1_listsBy_84 ?_
    exact whX1_listsBy_85 hl0 C p0 p1 p2 k38 hk38 x3 x4 x5 x6 u1
def hX1_listsBy_38 (p0 : Nat) (p1 : Int32) (p2 : Int32) (k : Nat → Int32 → Nat → Int32 → HS → Option (OH (Option Nat))) (x3 : Nat) (x4 : Int32) (x5 : Nat) (x6 : Int32) (u : HS) : Option (OH (Option Nat)) :=
  if 30 ≤ x6 then
    hret (some x5) u
  else
    if p1 = (-1) then
      hX1_listsBy_73 p0 p1 p2 k x3 x4 x5 x6 u
    else
      if x6 = p2 then
        mchk (hC u x3 == 3) <|
        hb (hX3_isListed x3 p1 u) fun r2 u1 =>
        if r2 = 0 then
          mchk (hC u1 x3 == 3) <|
          hb (hX3_write x3 p1 (-2) u1) fun _ u4 =>
          hX1_listsBy_73 p0 p1 p2 k x3 x4 x5 x6 u4
        else
          hret none u1
      else
        hX1_listsBy_73 p0 p1 p2 k x3 x4 x5 x6 u
theorem whX1_listsBy_38 {K1 K2 : Nat} {p : Program} {e : Env} {s : State} {m : MethodId} {args : Array Value} {below : List Frame} {meth : Method} {c : Code} (hl0 : l.stackTraces = false) (C : CxH t G l p s m args meth c yX1_listsBy cX1_listsBy 7 (some (.array .int))) (p0 : Nat) (p1 : Int32) (p2 : Int32) (n : Nat) (x3 : Nat) (x4 : Int32) (x5 : Nat) (x6 : Int32) (u : HS) : VH mkO t G p l e 423 K1 K2 s m args below meth c 7 38 [(1, .int p1), (2, .int p2), (3, .ref x3), (4, .int x4), (5, .ref x5), (6, .int x6)] [] u (ml4 (hX1_listsBy_38 p0 p1 p2) n x3 x4 x5 x6 u) := by
  refine vl4 (L := fun x3 x4 x5 x6 => [(1, .int p1), (2, .int p2), (3, .ref x3), (4, .int x4), (5, .ref x5), (6, .int x6)]) (fun k hk x3 x4 x5 x6 u => ?_) n x3 x4 x5 x6 u
  unfold hX1_listsBy_38
  refine v_iload C.1 5 rfl dX1_listsBy_38 ?_
  refine v_bipush C.1 30 (by decide) dX1_listsBy_40 ?_
  refine v_icmp_ge C.1 100 (by decide) dX1_listsBy_42 (fun _ => ?_) (fun _ => ?_)
  · refine v_aload C.1 4 rfl dX1_listsBy_100 ?_
    exact v_horet C (Or.inr ⟨_, rfl⟩) (some x5) rfl dX1_listsBy_102
  · refine v_iload_n C.1 0 rfl rfl dX1_listsBy_45 ?_
    refine v_iconst C.1 (-1) (by decide) dX1_listsBy_46 ?_
    refine v_icmp_eq C.1 73 (by decide) dX1_listsBy_47 (fun _ => ?_) (fun _ => ?_)
    · exact whX1_listsBy_73 hl0 C p0 p1 p2 k hk x3 x4 x5 x6 u
    · refine v_iload C.1 5 rfl dX1_listsBy_50 ?_
      refine v_iload_n C.1 1 rfl rfl dX1_listsBy_52 ?_
      refine v_icmp_ne C.1 73 (by decide) dX1_listsBy_53 (fun _ => ?_) (fun _ => ?_)
      · refine v_aload_n C.1 2 rfl rfl dX1_listsBy_56 ?_
        refine v_iload_n C.1 0 rfl rfl dX1_listsBy_57 ?_
        refine v_chk (fun h3 => ?_)
        refine v_callVH C [.int p1] [] (ctX3_isListed t G l hl0 x3 p1 u) (fun _ _ => cwX3_isListed C q1408 (by decide)) (recO C (ci := 2) (eq_of_beq h3) (by decide) rfl) rfl rfl (by exact Nat.le_of_ble_eq_true rfl) dX1_listsBy_58 (fun r2 u1 => ?_)
        refine v_if_eq C.1 66 (by decide) dX1_listsBy_61 (fun _ => ?_) (fun _ => ?_)
        · refine v_aload_n C.1 2 rfl rfl dX1_listsBy_66 ?_
          refine v_iload_n C.1 0 rfl rfl dX1_listsBy_67 ?_
          refine v_bipush C.1 (-2) (by decide) dX1_listsBy_68 ?_
          refine v_chk (fun h5 => ?_)
          refine v_callVH C [.int p1, .int (-2)] [] (ctX3_write t G l hl0 x3 p1 (-2) u1) (fun _ _ => cwX3_write C q1409 (by decide)) (recO C (ci := 2) (eq_of_beq h5) (by decide) rfl) rfl rfl (by exact Nat.le_of_ble_eq_true rfl) dX1_listsBy_70 (fun _ u4 => ?_)
          exact whX1_listsBy_73 hl0 C p0 p1 p2 k hk x3 x4 x5 x6 u4
        · refine v_null C dX1_listsBy_64 ?_
          exact v_horet C (Or.inr ⟨_, rfl⟩) none rfl dX1_listsBy_65
      · exact whX1_listsBy_73 hl0 C p0 p1 p2 k hk x3 x4 x5 x6 u
def hX1_listsBy_29 (p0 : Nat) (p1 : Int32) (p2 : Int32) (x3 : Nat) (x4 : Int32) (u : HS) : Option (OH (Option Nat)) :=
  mlet (hZ u) fun a1 =>
  addc 1 (30) <|
  mlet (nA u 1 (30)) fun u3 =>
  ml4 (hX1_listsBy_38 p0 p1 p2) FUEL x3 x4 a1 0 u3
theorem whX1_listsBy_29 {K1 K2 : Nat} {p : Program} {e : Env} {s : State} {m : MethodId} {args : Array Value} {below : List Frame} {meth : Method} {c : Code} (hl0 : l.stackTraces = false) (C : CxH t G l p s m args meth c yX1_listsBy cX1_listsBy 7 (some (.array .int))) (p0 : Nat) (p1 : Int32) (p2 : Int32) (x3 : Nat) (x4 : Int32) (u : HS) : VH mkO t G p l e 423 K1 K2 s m args below meth c 7 29 [(1, .int p1), (2, .int p2), (3, .ref x3), (4, .int x4)] [] u (hX1_listsBy_29 p0 p1 p2 x3 x4 u) := by
  unfold hX1_listsBy_29
  refine v_bipush C.1 30 (by decide) dX1_listsBy_29 ?_
  refine v_letE (fun a1 e2 => ?_)
  refine v_hnewa C 1 e2 (by decide) rfl q195 (by decide) (by decide) (by decide) dX1_listsBy_31 (fun u3 => ?_)
  refine v_astore C.1 [(5, .ref a1), (1, .int p1), (2, .int p2), (3, .ref x3), (4, .int x4)] (by decide) rfl dX1_listsBy_33 ?_
  refine v_iconst C.1 0 (by decide) dX1_listsBy_35 ?_
  refine v_istore C.1 [(6, .int 0), (5, .ref a1), (1, .int p1), (2, .int p2), (3, .ref x3), (4, .int x4)] (by decide) rfl dX1_listsBy_36 ?_
  refine v_sub [2, 3, 4, 5, 1, 0] rfl ?_
  exact whX1_listsBy_38 hl0 C p0 p1 p2 FUEL x3 x4 a1 0 u3
def hX1_listsBy (p0 : Nat) (p1 : Int32) (p2 : Int32) (u : HS) : Option (OH (Option Nat)) :=
  mchk (hC u p0 == 1) <|
  mderef (hR u p0 3) fun a2 =>
  mchk (hC u a2 == 3) <|
  hb (hX3_copy a2 u) fun r5 u4 =>
  mchk (hC u4 r5 == 3) <|
  hb (hX3_ahead r5 30 u4) fun r8 u7 =>
  if p1 = (-1) then
    hX1_listsBy_29 p0 p1 p2 r5 r8 u7
  else
    if p2 < r8 then
      hX1_listsBy_29 p0 p1 p2 r5 r8 u7
    else
      hret none u7
theorem ctX1_listsBy (t : TT) (G : GH) (l : Launch) (hl0 : l.stackTraces = false) (p0 : Nat) (p1 : Int32) (p2 : Int32) (u : HS) : CtH mkO t G l yX1_listsBy cX1_listsBy 7 (some (.array .int)) 423 [.ref p0, .int p1, .int p2] u (hX1_listsBy p0 p1 p2 u) := by
  refine ctH_of [(0, .ref p0), (1, .int p1), (2, .int p2)] hl0 rfl (Nat.le_of_ble_eq_true rfl) rfl (fun K1 K2 p e s m args below meth c C => ?_)
  unfold hX1_listsBy
  refine v_aload_n C.1 0 rfl rfl dX1_listsBy_0 ?_
  refine v_chk (fun h1 => ?_)
  refine v_hget C (v := va_rf (hR u p0 3)) 0 3 (eq_of_beq h1) (by decide) rfl in_X1 (by decide) (Or.inl q312) (fun _ h => h) (hF_r (ci := 0) (eq_of_beq h1) (by decide)) dX1_listsBy_1 ?_
  refine v_deref (fun a2 e3 => ?_)
  refine v_chk (fun h6 => ?_)
  refine v_callVH C [] [] (ctX3_copy t G l hl0 a2 u) (fun _ _ => cwX3_copy C q377 (by decide)) (recO C (ci := 2) (eq_of_beq h6) (by decide) rfl) rfl rfl (by exact Nat.le_of_ble_eq_true rfl) dX1_listsBy_4 (fun r5 u4 => ?_)
  refine v_astore_n C.1 [(3, .ref r5), (0, .ref p0), (1, .int p1), (2, .int p2)] rfl (by decide) rfl dX1_listsBy_7 ?_
  refine v_aload_n C.1 0 rfl rfl dX1_listsBy_8 ?_
  refine v_bipush C.1 30 (by decide) dX1_listsBy_9 ?_
  refine v_chk (fun h9 => ?_)
  refine v_callVH C [.int 30] [] (ctX3_ahead t G l hl0 r5 30 u4) (fun _ _ => cwX3_ahead C q694 (by decide)) (recO C (ci := 2) (eq_of_beq h9) (by decide) rfl) rfl rfl (by exact Nat.le_of_ble_eq_true rfl) dX1_listsBy_11 (fun r8 u7 => ?_)
  refine v_istore C.1 [(4, .int r8), (3, .ref r5), (0, .ref p0), (1, .int p1), (2, .int p2)] (by decide) rfl dX1_listsBy_14 ?_
  refine v_iload_n C.1 3 rfl rfl dX1_listsBy_16 ?_
  refine v_iconst C.1 (-1) (by decide) dX1_listsBy_17 ?_
  refine v_icmp_eq C.1 29 (by decide) dX1_listsBy_18 (fun _ => ?_) (fun _ => ?_)
  · refine v_sub [3, 4, 1, 0] rfl ?_
    exact whX1_listsBy_29 hl0 C p0 p1 p2 r5 r8 u7
  · refine v_iload_n C.1 4 rfl rfl dX1_listsBy_21 ?_
    refine v_iload C.1 0 rfl dX1_listsBy_22 ?_
    refine v_icmp_lt C.1 29 (by decide) dX1_listsBy_24 (fun _ => ?_) (fun _ => ?_)
    · refine v_sub [3, 4, 1, 0] rfl ?_
      exact whX1_listsBy_29 hl0 C p0 p1 p2 r5 r8 u7
    · refine v_null C dX1_listsBy_27 ?_
      exact v_horet C (Or.inr ⟨_, rfl⟩) none rfl dX1_listsBy_28
theorem cwX1_listsBy {t : TT} {G : GH} {l : Launch} {p : Program} {s : State} {m : MethodId} {args : Array Value} {meth : Method} {c : Code} {y0 : MethodName} {cc0 : ByteArray} {nL0 : Nat} {ret0 : Option FieldType} (C : CxH t G l p s m args meth c y0 cc0 nL0 ret0) {index lv mc ms K1 K2 : Nat} (hq : Cond.methodLink y0.cls index yX1_listsBy ∈ lw_all) (hR : 423 + 1 ≤ lv) : CallW (rmH lv K1 K2) s args y0.cls RX1 index yX1_listsBy cX1_listsBy 7 (some (.array .int)) (ws_ yX1_listsBy cX1_listsBy 7 (some (.array .int))) (rmH 423 mc ms) mc ms 2 :=
  cwV 2 C.1.2.2.2.2.1 (lw_V hq q1512 qs45 q121 q1513) rfl rfl rfl (by decide +kernel) ⟨hR, by show 8 + (7 + 11) + 100 * 423 ≤ 100 * lv; omega⟩
def hX1_isSo_2 (p0 : Nat) (p1 : Nat) (k : Int32 → HS → Option (OH Int32)) (x2 : Int32) (u : HS) : Option (OH Int32) :=
  mchk (hC u p0 == 1) <|
  mderef (hR u p0 9) fun a2 =>
  mchk (hC u a2 == 12) <|
  hb (hJ2_size a2 u) fun r5 u4 =>
  if r5 ≤ x2 then
    hz id 1 u4
  else
    mchk (hC u4 p0 == 1) <|
    mderef (hR u4 p0 9) fun a8 =>
    mchk (hC u4 a8 == 12) <|
    hb (hJ2_get a8 x2 u4) fun r11 u10 =>
    mchk (hC u10 r11 == 21) <|
    mchk (inA u10 1 r11 21) <|
    mchk (inA u10 (hA u10 r11 (1 : Int32).toNatClampNeg) p1 21) <|
    mchk (inA u10 0 r11 21) <|
    mchk (inA u10 2 r11 21) <|
    if (((hA u10 p1 (hA u10 r11 (1 : Int32).toNatClampNeg).toNatClampNeg) >>> ((hA u10 r11 (0 : Int32).toNatClampNeg) &&& 31)) &&& 1) = (hA u10 r11 (2 : Int32).toNatClampNeg) then
      k (x2 + 1) u10
    else
      hz id 0 u10
theorem whX1_isSo_2 {K1 K2 : Nat} {p : Program} {e : Env} {s : State} {m : MethodId} {args : Array Value} {below : List Frame} {meth : Method} {c : Code} (hl0 : l.stackTraces = false) (C : CxH t G l p s m args meth c yX1_isSo cX1_isSo 4 (some .boolean)) (p0 : Nat) (p1 : Nat) (n : Nat) (x2 : Int32) (u : HS) : VH mkI t G p l e 5 K1 K2 s m args below meth c 4 2 [(0, .ref p0), (1, .ref p1), (2, .int x2)] [] u (ml1 (hX1_isSo_2 p0 p1) n x2 u) := by
  refine vl1 (L := fun x2 => [(0, .ref p0), (1, .ref p1), (2, .int x2)]) (fun k hk x2 u => ?_) n x2 u
  unfold hX1_isSo_2
  refine v_iload_n C.1 2 rfl rfl dX1_isSo_2 ?_
  refine v_aload_n C.1 0 rfl rfl dX1_isSo_3 ?_
  refine v_chk (fun h1 => ?_)
  refine v_hget C (v := va_rf (hR u p0 9)) 0 9 (eq_of_beq h1) (by decide) rfl in_X1 (by decide) (Or.inl q319) (fun _ h => h) (hF_r (ci := 0) (eq_of_beq h1) (by decide)) dX1_isSo_4 ?_
  refine v_deref (fun a2 e3 => ?_)
  refine v_chk (fun h6 => ?_)
  refine v_callFH C [] [.int x2] (ctJ2_size t G l hl0 a2 u) (fun _ _ => cwJ2_sizeF C q453 (by decide)) (eq_of_beq h6) (by decide) rfl rfl rfl (by exact Nat.le_of_ble_eq_true rfl) dX1_isSo_7 (fun r5 u4 => ?_)
  refine v_icmp_ge C.1 54 (by decide) dX1_isSo_12 (fun _ => ?_) (fun _ => ?_)
  · refine v_iconst C.1 1 (by decide) dX1_isSo_54 ?_
    exact v_hzret C dX1_isSo_55
  · refine v_aload_n C.1 0 rfl rfl dX1_isSo_15 ?_
    refine v_chk (fun h7 => ?_)
    refine v_hget C (v := va_rf (hR u4 p0 9)) 0 9 (eq_of_beq h7) (by decide) rfl in_X1 (by decide) (Or.inl q319) (fun _ h => h) (hF_r (ci := 0) (eq_of_beq h7) (by decide)) dX1_isSo_16 ?_
    refine v_deref (fun a8 e9 => ?_)
    refine v_iload_n C.1 2 rfl rfl dX1_isSo_19 ?_
    refine v_chk (fun h12 => ?_)
    refine v_callFH C [.int x2] [] (ctJ2_get t G l hl0 a8 x2 u4) (fun _ _ => cwJ2_getF C q1368 (by decide)) (eq_of_beq h12) (by decide) rfl rfl rfl (by exact Nat.le_of_ble_eq_true rfl) dX1_isSo_20 (fun r11 u10 => ?_)
    refine v_chk (fun h13 => ?_)
    refine v_hcastI C (eq_of_beq h13) q1518 dX1_isSo_25 ?_
    refine v_astore_n C.1 [(3, .ref r11), (0, .ref p0), (1, .ref p1), (2, .int x2)] rfl (by decide) rfl dX1_isSo_28 ?_
    refine v_aload_n C.1 2 rfl rfl dX1_isSo_29 ?_
    refine v_aload_n C.1 0 rfl rfl dX1_isSo_30 ?_
    refine v_iconst C.1 1 (by decide) dX1_isSo_31 ?_
    refine v_chk (fun h14 => ?_)
    refine v_haiald C h14 dX1_isSo_32 ?_
    refine v_chk (fun h15 => ?_)
    refine v_haiald C h15 dX1_isSo_33 ?_
    refine v_aload_n C.1 0 rfl rfl dX1_isSo_34 ?_
    refine v_iconst C.1 0 (by decide) dX1_isSo_35 ?_
    refine v_chk (fun h16 => ?_)
    refine v_haiald C h16 dX1_isSo_36 ?_
    refine v_ishr C.1 dX1_isSo_37 ?_
    refine v_iconst C.1 1 (by decide) dX1_isSo_38 ?_
    refine v_iand C.1 dX1_isSo_39 ?_
    refine v_aload_n C.1 0 rfl rfl dX1_isSo_40 ?_
    refine v_iconst C.1 2 (by decide) dX1_isSo_41 ?_
    refine v_chk (fun h17 => ?_)
    refine v_haiald C h17 dX1_isSo_42 ?_
    refine v_icmp_eq C.1 48 (by decide) dX1_isSo_43 (fun _ => ?_) (fun _ => ?_)
    · refine v_iinc C.1 1 [(2, .int (x2 + 1)), (3, .ref r11), (0, .ref p0), (1, .ref p1)] 3 rfl (by decide) (by decide) rfl dX1_isSo_48 ?_
      refine v_goto C.1 2 (by decide) dX1_isSo_51 ?_
      refine v_sub [2, 3, 0] rfl ?_
      exact hk (x2 + 1) u10
    · refine v_iconst C.1 0 (by decide) dX1_isSo_46 ?_
      exact v_hzret C dX1_isSo_47
def hX1_isSo (p0 : Nat) (p1 : Nat) (u : HS) : Option (OH Int32) :=
  ml1 (hX1_isSo_2 p0 p1) FUEL 0 u
theorem ctX1_isSo (t : TT) (G : GH) (l : Launch) (hl0 : l.stackTraces = false) (p0 : Nat) (p1 : Nat) (u : HS) : CtH mkI t G l yX1_isSo cX1_isSo 4 (some .boolean) 5 [.ref p0, .ref p1] u (hX1_isSo p0 p1 u) := by
  refine ctH_of [(0, .ref p0), (1, .ref p1)] hl0 rfl (Nat.le_of_ble_eq_true rfl) rfl (fun K1 K2 p e s m args below meth c C => ?_)
  unfold hX1_isSo
  refine v_iconst C.1 0 (by decide) dX1_isSo_0 ?_
  refine v_istore_n C.1 [(2, .int 0), (0, .ref p0), (1, .ref p1)] rfl (by decide) rfl dX1_isSo_1 ?_
  refine v_sub [1, 2, 0] rfl ?_
  exact whX1_isSo_2 hl0 C p0 p1 FUEL 0 u
theorem cwX1_isSo {t : TT} {G : GH} {l : Launch} {p : Program} {s : State} {m : MethodId} {args : Array Value} {meth : Method} {c : Code} {y0 : MethodName} {cc0 : ByteArray} {nL0 : Nat} {ret0 : Option FieldType} (C : CxH t G l p s m args meth c y0 cc0 nL0 ret0) {index lv mc ms K1 K2 : Nat} (hq : Cond.methodLink y0.cls index yX1_isSo ∈ lw_all) (hR : 5 + 1 ≤ lv) : CallW (rmH lv K1 K2) s args y0.cls RX1 index yX1_isSo cX1_isSo 4 (some .boolean) (ws_ yX1_isSo cX1_isSo 4 (some .boolean)) (rmH 5 mc ms) mc ms 1 :=
  cwV 1 C.1.2.2.2.2.1 (lw_V hq q1516 qs46 q121 q1517) rfl rfl rfl (by decide +kernel) ⟨hR, by show 8 + (4 + 11) + 100 * 5 ≤ 100 * lv; omega⟩
def hX1_scribe_51 (p0 : Nat) (p1 : Int32) (k36 : Int32 → Int32 → Int32 → HS → Option (OH (PX Int32))) (k : Int32 → Int32 → Int32 → Int32 → HS → Option (OH (PX Int32))) (x2 : Int32) (x3 : Int32) (x4 : Int32) (x5 : Int32) (u : HS) : Option (OH (PX Int32)) :=
  if 10 ≤ x5 then
    k36 x2 x3 (x4 + 1) u
  else
    mchk (hC u p0 == 1) <|
    hb (hX1_listsBy p0 x4 x5 u) fun r2 u1 =>
    mnull r2 (
        k x2 x3 x4 (x5 + 1) u1
      ) fun a4 =>
      mchk (hC u1 p0 == 1) <|
      hb (hX1_isSo p0 a4 u1) fun r7 u6 =>
      if r7 = 0 then
        k x2 x3 x4 (x5 + 1) u6
      else
        if x2 = 0 then
          mlet (((100 : Int32) * x4) + x5) fun v9 =>
          k (x2 + 1) v9 x4 (x5 + 1) u6
        else
          k (x2 + 1) x3 x4 (x5 + 1) u6
theorem whX1_scribe_51 {K1 K2 : Nat} {p : Program} {e : Env} {s : State} {m : MethodId} {args : Array Value} {below : List Frame} {meth : Method} {c : Code} (hl0 : l.stackTraces = false) (C : CxX t G l p s m args meth c yX1_scribe cX1_scribe 7 (some .int)) (p0 : Nat) (p1 : Int32) (k36 : Int32 → Int32 → Int32 → HS → Option (OH (PX Int32))) (hk36 : ∀ (x2 : Int32) (x3 : Int32) (x4 : Int32) (u : HS), VX mkI t G p l e 424 K1 K2 s m args below meth c 7 36 [(0, .ref p0), (1, .int p1), (2, .int x2), (3, .int x3), (4, .int x4)] [] u (k36 x2 x3 x4 u)) (n : Nat) (x2 : Int32) (x3 : Int32) (x4 : Int32) (x5 : Int32) (u : HS) : VX mkI t G p l e 424 K1 K2 s m args below meth c 7 51 [(0, .ref p0), (1, .int p1), (2, .int x2), (3, .int x3), (4, .int x4), (5, .int x5)] [] u (ml4 (hX1_scribe_51 p0 p1 k36) n x2 x3 x4 x5 u) := by
  refine vl4 (L := fun x2 x3 x4 x5 => [(0, .ref p0), (1, .int p1), (2, .int x2), (3, .int x3), (4, .int x4), (5, .int x5)]) (fun k hk x2 x3 x4 x5 u => ?_) n x2 x3 x4 x5 u
  unfold hX1_scribe_51
  refine v_iload C.1.1 5 rfl dX1_scribe_51 ?_
  refine v_bipush C.1.1 10 (by decide) dX1_scribe_53 ?_
  refine v_icmp_ge C.1.1 107 (by decide) dX1_scribe_55 (fun _ => ?_) (fun _ => ?_)
  · refine v_iinc C.1.1 1 [(4, .int (x4 + 1)), (0, .ref p0), (1, .int p1), (2, .int x2), (3, .int x3), (5, .int x5)] 4 rfl (by decide) (by decide) rfl dX1_scribe_107 ?_
    refine v_goto C.1.1 36 (by decide) dX1_scribe_110 ?_
    refine v_sub [1, 2, 3, 4, 0] rfl ?_
    exact hk36 x2 x3 (x4 + 1) u
  · refine v_aload_n C.1.1 0 rfl rfl dX1_scribe_58 ?_
    refine v_iload C.1.1 4 rfl dX1_scribe_59 ?_
    refine v_iload C.1.1 5 rfl dX1_scribe_61 ?_
    refine v_chk (fun h3 => ?_)
    refine v_callVH C.1 [.int x4, .int x5] [] (ctX1_listsBy t G l hl0 p0 x4 x5 u) (fun _ _ => cwX1_listsBy C.1 q1510 (by decide)) (recO C.1 (ci := 0) (eq_of_beq h3) (by decide) rfl) rfl rfl (by exact Nat.le_of_ble_eq_true rfl) dX1_scribe_63 (fun r2 u1 => ?_)
    refine v_astoreO C.1.1 [(6, va_rf r2), (0, .ref p0), (1, .int p1), (2, .int x2), (3, .int x3), (4, .int x4), (5, .int x5)] (by decide) rfl dX1_scribe_66 ?_
    refine v_aloadO C.1.1 0 rfl dX1_scribe_68 ?_
    refine v_ifnull C.1 101 (by decide) dX1_scribe_70 (fun e5 => ?_) (fun a4 e5 => ?_)
    · subst e5
      refine v_iinc C.1.1 1 [(5, .int (x5 + 1)), (6, .null), (0, .ref p0), (1, .int p1), (2, .int x2), (3, .int x3), (4, .int x4)] 6 rfl (by decide) (by decide) rfl dX1_scribe_101 ?_
      refine v_goto C.1.1 51 (by decide) dX1_scribe_104 ?_
      refine v_sub [2, 3, 4, 5, 6, 0] rfl ?_
      exact hk x2 x3 x4 (x5 + 1) u1
    · subst e5
      refine v_aload_n C.1.1 1 rfl rfl dX1_scribe_73 ?_
      refine v_aload C.1.1 0 rfl dX1_scribe_74 ?_
      refine v_chk (fun h8 => ?_)
      refine v_callVH C.1 [.ref a4] [] (ctX1_isSo t G l hl0 p0 a4 u1) (fun _ _ => cwX1_isSo C.1 q1514 (by decide)) (recO C.1 (ci := 0) (eq_of_beq h8) (by decide) rfl) rfl rfl (by exact Nat.le_of_ble_eq_true rfl) dX1_scribe_76 (fun r7 u6 => ?_)
      refine v_if_ne C.1.1 85 (by decide) dX1_scribe_79 (fun _ => ?_) (fun _ => ?_)
      · refine v_goto C.1.1 101 (by decide) dX1_scribe_82 ?_
        refine v_iinc C.1.1 1 [(5, .int (x5 + 1)), (6, .ref a4), (0, .ref p0), (1, .int p1), (2, .int x2), (3, .int x3), (4, .int x4)] 6 rfl (by decide) (by decide) rfl dX1_scribe_101 ?_
        refine v_goto C.1.1 51 (by decide) dX1_scribe_104 ?_
        refine v_sub [2, 3, 4, 5, 6, 0] rfl ?_
        exact hk x2 x3 x4 (x5 + 1) u6
      · refine v_iload_n C.1.1 3 rfl rfl dX1_scribe_85 ?_
        refine v_if_ne C.1.1 98 (by decide) dX1_scribe_86 (fun _ => ?_) (fun _ => ?_)
        · refine v_bipush C.1.1 100 (by decide) dX1_scribe_89 ?_
          refine v_iload C.1.1 5 rfl dX1_scribe_91 ?_
          refine v_imul C.1.1 dX1_scribe_93 ?_
          refine v_iload C.1.1 6 rfl dX1_scribe_94 ?_
          refine v_iadd C.1.1 dX1_scribe_96 ?_
          refine v_topi (fun v9 => ?_)
          refine v_istore_n C.1.1 [(3, .int v9), (6, .ref a4), (0, .ref p0), (1, .int p1), (2, .int x2), (4, .int x4), (5, .int x5)] rfl (by decide) rfl dX1_scribe_97 ?_
          refine v_iinc C.1.1 1 [(2, .int (x2 + 1)), (3, .int v9), (6, .ref a4), (0, .ref p0), (1, .int p1), (4, .int x4), (5, .int x5)] 4 rfl (by decide) (by decide) rfl dX1_scribe_98 ?_
          refine v_iinc C.1.1 1 [(5, .int (x5 + 1)), (2, .int (x2 + 1)), (3, .int v9), (6, .ref a4), (0, .ref p0), (1, .int p1), (4, .int x4)] 6 rfl (by decide) (by decide) rfl dX1_scribe_101 ?_
          refine v_goto C.1.1 51 (by decide) dX1_scribe_104 ?_
          refine v_sub [4, 5, 1, 2, 6, 0] rfl ?_
          exact hk (x2 + 1) v9 x4 (x5 + 1) u6
        · refine v_iinc C.1.1 1 [(2, .int (x2 + 1)), (6, .ref a4), (0, .ref p0), (1, .int p1), (3, .int x3), (4, .int x4), (5, .int x5)] 3 rfl (by decide) (by decide) rfl dX1_scribe_98 ?_
          refine v_iinc C.1.1 1 [(5, .int (x5 + 1)), (2, .int (x2 + 1)), (6, .ref a4), (0, .ref p0), (1, .int p1), (3, .int x3), (4, .int x4)] 6 rfl (by decide) (by decide) rfl dX1_scribe_101 ?_
          refine v_goto C.1.1 51 (by decide) dX1_scribe_104 ?_
          refine v_sub [3, 4, 1, 5, 6, 0] rfl ?_
          exact hk (x2 + 1) x3 x4 (x5 + 1) u6
def hX1_scribe_36 (p0 : Nat) (p1 : Int32) (k : Int32 → Int32 → Int32 → HS → Option (OH (PX Int32))) (x2 : Int32) (x3 : Int32) (x4 : Int32) (u : HS) : Option (OH (PX Int32)) :=
  mchk (hC u p0 == 1) <|
  mderef (hR u p0 2) fun a2 =>
  mchk (hC u a2 == 2) <|
  hb (hX2_people a2 u) fun r5 u4 =>
  if r5 ≤ x4 then
    if p1 = 0 then
      hret (.inl x2) u4
    else
      hret (.inl x3) u4
  else
    ml4 (hX1_scribe_51 p0 p1 k) FUEL x2 x3 x4 0 u4
theorem whX1_scribe_36 {K1 K2 : Nat} {p : Program} {e : Env} {s : State} {m : MethodId} {args : Array Value} {below : List Frame} {meth : Method} {c : Code} (hl0 : l.stackTraces = false) (C : CxX t G l p s m args meth c yX1_scribe cX1_scribe 7 (some .int)) (p0 : Nat) (p1 : Int32) (n : Nat) (x2 : Int32) (x3 : Int32) (x4 : Int32) (u : HS) : VX mkI t G p l e 424 K1 K2 s m args below meth c 7 36 [(0, .ref p0), (1, .int p1), (2, .int x2), (3, .int x3), (4, .int x4)] [] u (ml3 (hX1_scribe_36 p0 p1) n x2 x3 x4 u) := by
  refine vl3 (L := fun x2 x3 x4 => [(0, .ref p0), (1, .int p1), (2, .int x2), (3, .int x3), (4, .int x4)]) (fun k hk x2 x3 x4 u => ?_) n x2 x3 x4 u
  unfold hX1_scribe_36
  refine v_iload C.1.1 4 rfl dX1_scribe_36 ?_
  refine v_aload_n C.1.1 0 rfl rfl dX1_scribe_38 ?_
  refine v_chk (fun h1 => ?_)
  refine v_hget C.1 (v := va_rf (hR u p0 2)) 0 2 (eq_of_beq h1) (by decide) rfl in_X1 (by decide) (Or.inl q311) (fun _ h => h) (hF_r (ci := 0) (eq_of_beq h1) (by decide)) dX1_scribe_39 ?_
  refine v_deref (fun a2 e3 => ?_)
  refine v_chk (fun h6 => ?_)
  refine v_callVH C.1 [] [.int x4] (ctX2_people t G l hl0 a2 u) (fun _ _ => cwX2_people C.1 q717 (by decide)) (recO C.1 (ci := 1) (eq_of_beq h6) (by decide) rfl) rfl rfl (by exact Nat.le_of_ble_eq_true rfl) dX1_scribe_42 (fun r5 u4 => ?_)
  refine v_icmp_ge C.1.1 113 (by decide) dX1_scribe_45 (fun _ => ?_) (fun _ => ?_)
  · refine v_iload_n C.1.1 1 rfl rfl dX1_scribe_113 ?_
    refine v_if_ne C.1.1 121 (by decide) dX1_scribe_114 (fun _ => ?_) (fun _ => ?_)
    · refine v_iload_n C.1.1 2 rfl rfl dX1_scribe_117 ?_
      refine v_goto C.1.1 122 (by decide) dX1_scribe_118 ?_
      exact v_xiret C.1 dX1_scribe_122
    · refine v_iload_n C.1.1 3 rfl rfl dX1_scribe_121 ?_
      exact v_xiret C.1 dX1_scribe_122
  · refine v_iconst C.1.1 0 (by decide) dX1_scribe_48 ?_
    refine v_istore C.1.1 [(5, .int 0), (0, .ref p0), (1, .int p1), (2, .int x2), (3, .int x3), (4, .int x4)] (by decide) rfl dX1_scribe_49 ?_
    refine v_sub [1, 2, 3, 4, 5, 0] rfl ?_
    exact whX1_scribe_51 hl0 C p0 p1 k hk FUEL x2 x3 x4 0 u4
def hX1_scribe (p0 : Nat) (p1 : Int32) (u : HS) : Option (OH (PX Int32)) :=
  hx (hX1_oneOf p1 2 u) fun _ u1 =>
  if p1 = 2 then
    mchk (hC u1 p0 == 1) <|
    hb (hX1_listsBy p0 (-1) 0 u1) fun r3 u2 =>
    mderef r3 fun a5 =>
    mchk (hC u2 p0 == 1) <|
    hb (hX1_isSo p0 a5 u2) fun r8 u7 =>
    if r8 = 0 then
      hret (.inl 0) u7
    else
      hret (.inl 1) u7
  else
    ml3 (hX1_scribe_36 p0 p1) FUEL 0 (-1) 0 u1
theorem ctX1_scribe (t : TT) (G : GH) (l : Launch) (hl0 : l.stackTraces = false) (p0 : Nat) (p1 : Int32) (u : HS) : CtX mkI t G l yX1_scribe cX1_scribe 7 (some .int) 424 [.ref p0, .int p1] u (hX1_scribe p0 p1 u) := by
  refine ctX_of [(0, .ref p0), (1, .int p1)] hl0 rfl (Nat.le_of_ble_eq_true rfl) rfl (fun K1 K2 p e s m args below meth c C => ?_)
  unfold hX1_scribe
  refine v_iload_n C.1.1 1 rfl rfl dX1_scribe_0 ?_
  refine v_iconst C.1.1 2 (by decide) dX1_scribe_1 ?_
  refine v_callSX C [.int p1, .int 2] [] (ctX1_oneOf t G l hl0 p1 2 u) (fun _ _ => cwX1_oneOf C.1 q1353 (by decide)) rfl rfl (by exact Nat.le_of_ble_eq_true rfl) dX1_scribe_2 (fun _ u1 => ?_)
  refine v_iload_n C.1.1 1 rfl rfl dX1_scribe_5 ?_
  refine v_iconst C.1.1 2 (by decide) dX1_scribe_6 ?_
  refine v_icmp_ne C.1.1 29 (by decide) dX1_scribe_7 (fun _ => ?_) (fun _ => ?_)
  · refine v_aload_n C.1.1 0 rfl rfl dX1_scribe_10 ?_
    refine v_aload_n C.1.1 0 rfl rfl dX1_scribe_11 ?_
    refine v_iconst C.1.1 (-1) (by decide) dX1_scribe_12 ?_
    refine v_iconst C.1.1 0 (by decide) dX1_scribe_13 ?_
    refine v_chk (fun h4 => ?_)
    refine v_callVH C.1 [.int (-1), .int 0] [.ref p0] (ctX1_listsBy t G l hl0 p0 (-1) 0 u1) (fun _ _ => cwX1_listsBy C.1 q1510 (by decide)) (recO C.1 (ci := 0) (eq_of_beq h4) (by decide) rfl) rfl rfl (by exact Nat.le_of_ble_eq_true rfl) dX1_scribe_14 (fun r3 u2 => ?_)
    refine v_deref (fun a5 e6 => ?_)
    refine v_chk (fun h9 => ?_)
    refine v_callVH C.1 [.ref a5] [] (ctX1_isSo t G l hl0 p0 a5 u2) (fun _ _ => cwX1_isSo C.1 q1514 (by decide)) (recO C.1 (ci := 0) (eq_of_beq h9) (by decide) rfl) rfl rfl (by exact Nat.le_of_ble_eq_true rfl) dX1_scribe_17 (fun r8 u7 => ?_)
    refine v_if_eq C.1.1 27 (by decide) dX1_scribe_20 (fun _ => ?_) (fun _ => ?_)
    · refine v_iconst C.1.1 0 (by decide) dX1_scribe_27 ?_
      exact v_xiret C.1 dX1_scribe_28
    · refine v_iconst C.1.1 1 (by decide) dX1_scribe_23 ?_
      refine v_goto C.1.1 28 (by decide) dX1_scribe_24 ?_
      exact v_xiret C.1 dX1_scribe_28
  · refine v_iconst C.1.1 0 (by decide) dX1_scribe_29 ?_
    refine v_istore_n C.1.1 [(2, .int 0), (0, .ref p0), (1, .int p1)] rfl (by decide) rfl dX1_scribe_30 ?_
    refine v_iconst C.1.1 (-1) (by decide) dX1_scribe_31 ?_
    refine v_istore_n C.1.1 [(3, .int (-1)), (2, .int 0), (0, .ref p0), (1, .int p1)] rfl (by decide) rfl dX1_scribe_32 ?_
    refine v_iconst C.1.1 0 (by decide) dX1_scribe_33 ?_
    refine v_istore C.1.1 [(4, .int 0), (3, .int (-1)), (2, .int 0), (0, .ref p0), (1, .int p1)] (by decide) rfl dX1_scribe_34 ?_
    refine v_sub [3, 4, 2, 1, 0] rfl ?_
    exact whX1_scribe_36 hl0 C p0 p1 FUEL 0 (-1) 0 u1
theorem cwX1_scribe {t : TT} {G : GH} {l : Launch} {p : Program} {s : State} {m : MethodId} {args : Array Value} {meth : Method} {c : Code} {y0 : MethodName} {cc0 : ByteArray} {nL0 : Nat} {ret0 : Option FieldType} (C : CxH t G l p s m args meth c y0 cc0 nL0 ret0) {index lv mc ms K1 K2 : Nat} (hq : Cond.methodLink y0.cls index yX1_scribe ∈ lw_all) (hR : 424 + 1 ≤ lv) : CallW (rmH lv K1 K2) s args y0.cls RX1 index yX1_scribe cX1_scribe 7 (some .int) (ws_ yX1_scribe cX1_scribe 7 (some .int)) (rmH 424 mc ms) mc ms 1 :=
  cwV 1 C.1.2.2.2.2.1 (lw_V hq q1507 q1508 q121 q1509) rfl rfl rfl (by decide +kernel) ⟨hR, by show 8 + (7 + 11) + 100 * 424 ≤ 100 * lv; omega⟩
def hX1_tells_174 (p0 : Nat) (p1 : Int32) (k88 : Nat → Int32 → Int32 → Int32 → HS → Option (OH (PX Int32))) (k101 : Nat → Int32 → Int32 → Int32 → Int32 → Int32 → HS → Option (OH (PX Int32))) (x2 : Nat) (x3 : Int32) (x4 : Int32) (x5 : Int32) (x6 : Int32) (x7 : Int32) (x8 : Int32) (u : HS) : Option (OH (PX Int32)) :=
  if x8 = 0 then
    k101 x2 x3 x4 x5 x6 (x7 + 1) u
  else
    k101 x2 x3 x4 x5 (x6 + 1) (x7 + 1) u
theorem whX1_tells_174 {K1 K2 : Nat} {p : Program} {e : Env} {s : State} {m : MethodId} {args : Array Value} {below : List Frame} {meth : Method} {c : Code} (hl0 : l.stackTraces = false) (C : CxX t G l p s m args meth c yX1_tells cX1_tells 10 (some .int)) (p0 : Nat) (p1 : Int32) (k88 : Nat → Int32 → Int32 → Int32 → HS → Option (OH (PX Int32))) (k101 : Nat → Int32 → Int32 → Int32 → Int32 → Int32 → HS → Option (OH (PX Int32))) (hk88 : ∀ (x2 : Nat) (x3 : Int32) (x4 : Int32) (x5 : Int32) (u : HS), VX mkI t G p l e 424 K1 K2 s m args below meth c 10 88 [(1, .int p1), (2, .ref x2), (3, .int x3), (4, .int x4), (5, .int x5)] [] u (k88 x2 x3 x4 x5 u)) (hk101 : ∀ (x2 : Nat) (x3 : Int32) (x4 : Int32) (x5 : Int32) (x6 : Int32) (x7 : Int32) (u : HS), VX mkI t G p l e 424 K1 K2 s m args below meth c 10 101 [(1, .int p1), (2, .ref x2), (3, .int x3), (4, .int x4), (5, .int x5), (6, .int x6), (7, .int x7)] [] u (k101 x2 x3 x4 x5 x6 x7 u)) (x2 : Nat) (x3 : Int32) (x4 : Int32) (x5 : Int32) (x6 : Int32) (x7 : Int32) (x8 : Int32) (u : HS) : VX mkI t G p l e 424 K1 K2 s m args below meth c 10 174 [(1, .int p1), (2, .ref x2), (3, .int x3), (4, .int x4), (5, .int x5), (6, .int x6), (7, .int x7), (8, .int x8)] [] u (hX1_tells_174 p0 p1 k88 k101 x2 x3 x4 x5 x6 x7 x8 u) := by
  unfold hX1_tells_174
  refine v_iload C.1.1 7 rfl dX1_tells_174 ?_
  refine v_if_eq C.1.1 182 (by decide) dX1_tells_176 (fun _ => ?_) (fun _ => ?_)
  · refine v_iinc C.1.1 1 [(7, .int (x7 + 1)), (1, .int p1), (2, .ref x2), (3, .int x3), (4, .int x4), (5, .int x5), (6, .int x6), (8, .int x8)] 6 rfl (by decide) (by decide) rfl dX1_tells_182 ?_
    refine v_goto C.1.1 101 (by decide) dX1_tells_185 ?_
    refine v_sub [1, 2, 3, 4, 5, 6, 0] rfl ?_
    exact hk101 x2 x3 x4 x5 x6 (x7 + 1) u
  · refine v_iinc C.1.1 1 [(6, .int (x6 + 1)), (1, .int p1), (2, .ref x2), (3, .int x3), (4, .int x4), (5, .int x5), (7, .int x7), (8, .int x8)] 5 rfl (by decide) (by decide) rfl dX1_tells_179 ?_
    refine v_iinc C.1.1 1 [(7, .int (x7 + 1)), (6, .int (x6 + 1)), (1, .int p1), (2, .ref x2), (3, .int x3), (4, .int x4), (5, .int x5), (8, .int x8)] 6 rfl (by decide) (by decide) rfl dX1_tells_182 ?_
    refine v_goto C.1.1 101 (by decide) dX1_tells_185 ?_
    refine v_sub [2, 3, 4, 5, 6, 1, 0] rfl ?_
    exact hk101 x2 x3 x4 x5 (x6 + 1) (x7 + 1) u
def hX1_tells_118 (p0 : Nat) (p1 : Int32) (k88 : Nat → Int32 → Int32 → Int32 → HS → Option (OH (PX Int32))) (k101 : Nat → Int32 → Int32 → Int32 → Int32 → Int32 → HS → Option (OH (PX Int32))) (k : Nat → Int32 → Int32 → Int32 → Int32 → Int32 → Int32 → Int32 → HS → Option (OH (PX Int32))) (x2 : Nat) (x3 : Int32) (x4 : Int32) (x5 : Int32) (x6 : Int32) (x7 : Int32) (x8 : Int32) (x9 : Int32) (u : HS) : Option (OH (PX Int32)) :=
  if x7 ≤ x9 then
    hX1_tells_174 p0 p1 k88 k101 x2 x3 x4 x5 x6 x7 x8 u
  else
    if x8 = 0 then
      hX1_tells_174 p0 p1 k88 k101 x2 x3 x4 x5 x6 x7 x8 u
    else
      mchk (hC u x2 == 12) <|
      hb (hJ2_get x2 x9 u) fun r2 u1 =>
      mchk (hC u1 r2 == 21) <|
      mchk (inA u1 x5 r2 21) <|
      mchk (hC u1 x2 == 12) <|
      hb (hJ2_get x2 x7 u1) fun r7 u6 =>
      mchk (hC u6 r7 == 21) <|
      mchk (inA u6 x5 r7 21) <|
      if (hA u1 r2 x5.toNatClampNeg) = (hA u6 r7 x5.toNatClampNeg) then
        k x2 x3 x4 x5 x6 x7 0 (x9 + 1) u6
      else
        k x2 x3 x4 x5 x6 x7 1 (x9 + 1) u6
theorem whX1_tells_118 {K1 K2 : Nat} {p : Program} {e : Env} {s : State} {m : MethodId} {args : Array Value} {below : List Frame} {meth : Method} {c : Code} (hl0 : l.stackTraces = false) (C : CxX t G l p s m args meth c yX1_tells cX1_tells 10 (some .int)) (p0 : Nat) (p1 : Int32) (k88 : Nat → Int32 → Int32 → Int32 → HS → Option (OH (PX Int32))) (k101 : Nat → Int32 → Int32 → Int32 → Int32 → Int32 → HS → Option (OH (PX Int32))) (hk88 : ∀ (x2 : Nat) (x3 : Int32) (x4 : Int32) (x5 : Int32) (u : HS), VX mkI t G p l e 424 K1 K2 s m args below meth c 10 88 [(1, .int p1), (2, .ref x2), (3, .int x3), (4, .int x4), (5, .int x5)] [] u (k88 x2 x3 x4 x5 u)) (hk101 : ∀ (x2 : Nat) (x3 : Int32) (x4 : Int32) (x5 : Int32) (x6 : Int32) (x7 : Int32) (u : HS), VX mkI t G p l e 424 K1 K2 s m args below meth c 10 101 [(1, .int p1), (2, .ref x2), (3, .int x3), (4, .int x4), (5, .int x5), (6, .int x6), (7, .int x7)] [] u (k101 x2 x3 x4 x5 x6 x7 u)) (n : Nat) (x2 : Nat) (x3 : Int32) (x4 : Int32) (x5 : Int32) (x6 : Int32) (x7 : Int32) (x8 : Int32) (x9 : Int32) (u : HS) : VX mkI t G p l e 424 K1 K2 s m args below meth c 10 118 [(1, .int p1), (2, .ref x2), (3, .int x3), (4, .int x4), (5, .int x5), (6, .int x6), (7, .int x7), (8, .int x8), (9, .int x9)] [] u (ml8 (hX1_tells_118 p0 p1 k88 k101) n x2 x3 x4 x5 x6 x7 x8 x9 u) := by
  refine vl8 (L := fun x2 x3 x4 x5 x6 x7 x8 x9 => [(1, .int p1), (2, .ref x2), (3, .int x3), (4, .int x4), (5, .int x5), (6, .int x6), (7, .int x7), (8, .int x8), (9, .int x9)]) (fun k hk x2 x3 x4 x5 x6 x7 x8 x9 u => ?_) n x2 x3 x4 x5 x6 x7 x8 x9 u
  unfold hX1_tells_118
  refine v_iload C.1.1 8 rfl dX1_tells_118 ?_
  refine v_iload C.1.1 6 rfl dX1_tells_120 ?_
  refine v_icmp_ge C.1.1 174 (by decide) dX1_tells_122 (fun _ => ?_) (fun _ => ?_)
  · refine v_sub [0, 1, 2, 3, 4, 5, 6, 7] rfl ?_
    exact whX1_tells_174 hl0 C p0 p1 k88 k101 hk88 hk101 x2 x3 x4 x5 x6 x7 x8 u
  · refine v_iload C.1.1 7 rfl dX1_tells_125 ?_
    refine v_if_eq C.1.1 174 (by decide) dX1_tells_127 (fun _ => ?_) (fun _ => ?_)
    · refine v_sub [0, 1, 2, 3, 4, 5, 6, 7] rfl ?_
      exact whX1_tells_174 hl0 C p0 p1 k88 k101 hk88 hk101 x2 x3 x4 x5 x6 x7 x8 u
    · refine v_aload_n C.1.1 1 rfl rfl dX1_tells_130 ?_
      refine v_iload C.1.1 8 rfl dX1_tells_131 ?_
      refine v_chk (fun h3 => ?_)
      refine v_callFH C.1 [.int x9] [] (ctJ2_get t G l hl0 x2 x9 u) (fun _ _ => cwJ2_getF C.1 q1368 (by decide)) (eq_of_beq h3) (by decide) rfl rfl rfl (by exact Nat.le_of_ble_eq_true rfl) dX1_tells_133 (fun r2 u1 => ?_)
      refine v_chk (fun h4 => ?_)
      refine v_hcastI C.1 (eq_of_beq h4) q1518 dX1_tells_138 ?_
      refine v_iload C.1.1 4 rfl dX1_tells_141 ?_
      refine v_chk (fun h5 => ?_)
      refine v_haiald C.1 h5 dX1_tells_143 ?_
      refine v_aload_n C.1.1 1 rfl rfl dX1_tells_144 ?_
      refine v_iload C.1.1 6 rfl dX1_tells_145 ?_
      refine v_chk (fun h8 => ?_)
      refine v_callFH C.1 [.int x7] [.int (hA u1 r2 x5.toNatClampNeg)] (ctJ2_get t G l hl0 x2 x7 u1) (fun _ _ => cwJ2_getF C.1 q1368 (by decide)) (eq_of_beq h8) (by decide) rfl rfl rfl (by exact Nat.le_of_ble_eq_true rfl) dX1_tells_147 (fun r7 u6 => ?_)
      refine v_chk (fun h9 => ?_)
      refine v_hcastI C.1 (eq_of_beq h9) q1518 dX1_tells_152 ?_
      refine v_iload C.1.1 4 rfl dX1_tells_155 ?_
      refine v_chk (fun h10 => ?_)
      refine v_haiald C.1 h10 dX1_tells_157 ?_
      refine v_icmp_eq C.1.1 165 (by decide) dX1_tells_158 (fun _ => ?_) (fun _ => ?_)
      · refine v_iconst C.1.1 0 (by decide) dX1_tells_165 ?_
        refine v_istore C.1.1 [(8, .int 0), (1, .int p1), (2, .ref x2), (3, .int x3), (4, .int x4), (5, .int x5), (6, .int x6), (7, .int x7), (9, .int x9)] (by decide) rfl dX1_tells_166 ?_
        refine v_iinc C.1.1 1 [(9, .int (x9 + 1)), (8, .int 0), (1, .int p1), (2, .ref x2), (3, .int x3), (4, .int x4), (5, .int x5), (6, .int x6), (7, .int x7)] 8 rfl (by decide) (by decide) rfl dX1_tells_168 ?_
        refine v_goto C.1.1 118 (by decide) dX1_tells_171 ?_
        refine v_sub [2, 3, 4, 5, 6, 7, 8, 1, 0] rfl ?_
        exact hk x2 x3 x4 x5 x6 x7 0 (x9 + 1) u6
      · refine v_iconst C.1.1 1 (by decide) dX1_tells_161 ?_
        refine v_goto C.1.1 166 (by decide) dX1_tells_162 ?_
        refine v_istore C.1.1 [(8, .int 1), (1, .int p1), (2, .ref x2), (3, .int x3), (4, .int x4), (5, .int x5), (6, .int x6), (7, .int x7), (9, .int x9)] (by decide) rfl dX1_tells_166 ?_
        refine v_iinc C.1.1 1 [(9, .int (x9 + 1)), (8, .int 1), (1, .int p1), (2, .ref x2), (3, .int x3), (4, .int x4), (5, .int x5), (6, .int x6), (7, .int x7)] 8 rfl (by decide) (by decide) rfl dX1_tells_168 ?_
        refine v_goto C.1.1 118 (by decide) dX1_tells_171 ?_
        refine v_sub [2, 3, 4, 5, 6, 7, 8, 1, 0] rfl ?_
        exact hk x2 x3 x4 x5 x6 x7 1 (x9 + 1) u6
def hX1_tells_101 (p0 : Nat) (p1 : Int32) (k88 : Nat → Int32 → Int32 → Int32 → HS → Option (OH (PX Int32))) (k : Nat → Int32 → Int32 → Int32 → Int32 → Int32 → HS → Option (OH (PX Int32))) (x2 : Nat) (x3 : Int32) (x4 : Int32) (x5 : Int32) (x6 : Int32) (x7 : Int32) (u : HS) : Option (OH (PX Int32)) :=
  mchk (hC u x2 == 12) <|
  hb (hJ2_size x2 u) fun r2 u1 =>
  if r2 ≤ x7 then
    if x4 < x6 then
      k88 x2 x5 x6 (x5 + 1) u1
    else
      k88 x2 x3 x4 (x5 + 1) u1
  else
    ml8 (hX1_tells_118 p0 p1 k88 k) FUEL x2 x3 x4 x5 x6 x7 1 0 u1
theorem whX1_tells_101 {K1 K2 : Nat} {p : Program} {e : Env} {s : State} {m : MethodId} {args : Array Value} {below : List Frame} {meth : Method} {c : Code} (hl0 : l.stackTraces = false) (C : CxX t G l p s m args meth c yX1_tells cX1_tells 10 (some .int)) (p0 : Nat) (p1 : Int32) (k88 : Nat → Int32 → Int32 → Int32 → HS → Option (OH (PX Int32))) (hk88 : ∀ (x2 : Nat) (x3 : Int32) (x4 : Int32) (x5 : Int32) (u : HS), VX mkI t G p l e 424 K1 K2 s m args below meth c 10 88 [(1, .int p1), (2, .ref x2), (3, .int x3), (4, .int x4), (5, .int x5)] [] u (k88 x2 x3 x4 x5 u)) (n : Nat) (x2 : Nat) (x3 : Int32) (x4 : Int32) (x5 : Int32) (x6 : Int32) (x7 : Int32) (u : HS) : VX mkI t G p l e 424 K1 K2 s m args below meth c 10 101 [(1, .int p1), (2, .ref x2), (3, .int x3), (4, .int x4), (5, .int x5), (6, .int x6), (7, .int x7)] [] u (ml6 (hX1_tells_101 p0 p1 k88) n x2 x3 x4 x5 x6 x7 u) := by
  refine vl6 (L := fun x2 x3 x4 x5 x6 x7 => [(1, .int p1), (2, .ref x2), (3, .int x3), (4, .int x4), (5, .int x5), (6, .int x6), (7, .int x7)]) (fun k hk x2 x3 x4 x5 x6 x7 u => ?_) n x2 x3 x4 x5 x6 x7 u
  unfold hX1_tells_101
  refine v_iload C.1.1 6 rfl dX1_tells_101 ?_
  refine v_aload_n C.1.1 1 rfl rfl dX1_tells_103 ?_
  refine v_chk (fun h3 => ?_)
  refine v_callFH C.1 [] [.int x7] (ctJ2_size t G l hl0 x2 u) (fun _ _ => cwJ2_sizeF C.1 q453 (by decide)) (eq_of_beq h3) (by decide) rfl rfl rfl (by exact Nat.le_of_ble_eq_true rfl) dX1_tells_104 (fun r2 u1 => ?_)
  refine v_icmp_ge C.1.1 188 (by decide) dX1_tells_109 (fun _ => ?_) (fun _ => ?_)
  · refine v_iload C.1.1 5 rfl dX1_tells_188 ?_
    refine v_iload C.1.1 3 rfl dX1_tells_190 ?_
    refine v_icmp_gt C.1.1 198 (by decide) dX1_tells_192 (fun _ => ?_) (fun _ => ?_)
    · refine v_iload C.1.1 4 rfl dX1_tells_198 ?_
      refine v_istore_n C.1.1 [(3, .int x5), (1, .int p1), (2, .ref x2), (4, .int x4), (5, .int x5), (6, .int x6), (7, .int x7)] rfl (by decide) rfl dX1_tells_200 ?_
      refine v_iload C.1.1 5 rfl dX1_tells_201 ?_
      refine v_istore C.1.1 [(4, .int x6), (3, .int x5), (1, .int p1), (2, .ref x2), (5, .int x5), (6, .int x6), (7, .int x7)] (by decide) rfl dX1_tells_203 ?_
      refine v_iinc C.1.1 1 [(5, .int (x5 + 1)), (4, .int x6), (3, .int x5), (1, .int p1), (2, .ref x2), (6, .int x6), (7, .int x7)] 4 rfl (by decide) (by decide) rfl dX1_tells_205 ?_
      refine v_goto C.1.1 88 (by decide) dX1_tells_208 ?_
      refine v_sub [3, 4, 2, 1, 0] rfl ?_
      exact hk88 x2 x5 x6 (x5 + 1) u1
    · refine v_goto C.1.1 205 (by decide) dX1_tells_195 ?_
      refine v_iinc C.1.1 1 [(5, .int (x5 + 1)), (1, .int p1), (2, .ref x2), (3, .int x3), (4, .int x4), (6, .int x6), (7, .int x7)] 4 rfl (by decide) (by decide) rfl dX1_tells_205 ?_
      refine v_goto C.1.1 88 (by decide) dX1_tells_208 ?_
      refine v_sub [1, 2, 3, 4, 0] rfl ?_
      exact hk88 x2 x3 x4 (x5 + 1) u1
  · refine v_iconst C.1.1 1 (by decide) dX1_tells_112 ?_
    refine v_istore C.1.1 [(8, .int 1), (1, .int p1), (2, .ref x2), (3, .int x3), (4, .int x4), (5, .int x5), (6, .int x6), (7, .int x7)] (by decide) rfl dX1_tells_113 ?_
    refine v_iconst C.1.1 0 (by decide) dX1_tells_115 ?_
    refine v_istore C.1.1 [(9, .int 0), (8, .int 1), (1, .int p1), (2, .ref x2), (3, .int x3), (4, .int x4), (5, .int x5), (6, .int x6), (7, .int x7)] (by decide) rfl dX1_tells_116 ?_
    refine v_sub [2, 3, 4, 5, 6, 7, 8, 1, 0] rfl ?_
    exact whX1_tells_118 hl0 C p0 p1 k88 k hk88 hk FUEL x2 x3 x4 x5 x6 x7 1 0 u1
def hX1_tells_88 (p0 : Nat) (p1 : Int32) (k : Nat → Int32 → Int32 → Int32 → HS → Option (OH (PX Int32))) (x2 : Nat) (x3 : Int32) (x4 : Int32) (x5 : Int32) (u : HS) : Option (OH (PX Int32)) :=
  if 30 ≤ x5 then
    if p1 = 0 then
      hret (.inl x3) u
    else
      hret (.inl x4) u
  else
    ml6 (hX1_tells_101 p0 p1 k) FUEL x2 x3 x4 x5 0 0 u
theorem whX1_tells_88 {K1 K2 : Nat} {p : Program} {e : Env} {s : State} {m : MethodId} {args : Array Value} {below : List Frame} {meth : Method} {c : Code} (hl0 : l.stackTraces = false) (C : CxX t G l p s m args meth c yX1_tells cX1_tells 10 (some .int)) (p0 : Nat) (p1 : Int32) (n : Nat) (x2 : Nat) (x3 : Int32) (x4 : Int32) (x5 : Int32) (u : HS) : VX mkI t G p l e 424 K1 K2 s m args below meth c 10 88 [(1, .int p1), (2, .ref x2), (3, .int x3), (4, .int x4), (5, .int x5)] [] u (ml4 (hX1_tells_88 p0 p1) n x2 x3 x4 x5 u) := by
  refine vl4 (L := fun x2 x3 x4 x5 => [(1, .int p1), (2, .ref x2), (3, .int x3), (4, .int x4), (5, .int x5)]) (fun k hk x2 x3 x4 x5 u => ?_) n x2 x3 x4 x5 u
  unfold hX1_tells_88
  refine v_iload C.1.1 4 rfl dX1_tells_88 ?_
  refine v_bipush C.1.1 30 (by decide) dX1_tells_90 ?_
  refine v_icmp_ge C.1.1 211 (by decide) dX1_tells_92 (fun _ => ?_) (fun _ => ?_)
  · refine v_iload_n C.1.1 0 rfl rfl dX1_tells_211 ?_
    refine v_if_ne C.1.1 219 (by decide) dX1_tells_212 (fun _ => ?_) (fun _ => ?_)
    · refine v_iload_n C.1.1 2 rfl rfl dX1_tells_215 ?_
      refine v_goto C.1.1 221 (by decide) dX1_tells_216 ?_
      exact v_xiret C.1 dX1_tells_221
    · refine v_iload C.1.1 3 rfl dX1_tells_219 ?_
      exact v_xiret C.1 dX1_tells_221
  · refine v_iconst C.1.1 0 (by decide) dX1_tells_95 ?_
    refine v_istore C.1.1 [(6, .int 0), (1, .int p1), (2, .ref x2), (3, .int x3), (4, .int x4), (5, .int x5)] (by decide) rfl dX1_tells_96 ?_
    refine v_iconst C.1.1 0 (by decide) dX1_tells_98 ?_
    refine v_istore C.1.1 [(7, .int 0), (6, .int 0), (1, .int p1), (2, .ref x2), (3, .int x3), (4, .int x4), (5, .int x5)] (by decide) rfl dX1_tells_99 ?_
    refine v_sub [2, 3, 4, 5, 6, 1, 0] rfl ?_
    exact whX1_tells_101 hl0 C p0 p1 k hk FUEL x2 x3 x4 x5 0 0 u
def hX1_tells_29 (p0 : Nat) (p1 : Int32) (k15 : Nat → Int32 → HS → Option (OH (PX Int32))) (k : Nat → Int32 → Int32 → HS → Option (OH (PX Int32))) (x2 : Nat) (x3 : Int32) (x4 : Int32) (u : HS) : Option (OH (PX Int32)) :=
  if 10 ≤ x4 then
    k15 x2 (x3 + 1) u
  else
    mchk (hC u p0 == 1) <|
    hb (hX1_listsBy p0 x3 x4 u) fun r2 u1 =>
    mnull r2 (
        k x2 x3 (x4 + 1) u1
      ) fun a4 =>
      mchk (hC u1 p0 == 1) <|
      hb (hX1_isSo p0 a4 u1) fun r7 u6 =>
      if r7 = 0 then
        k x2 x3 (x4 + 1) u6
      else
        mchk (hC u6 x2 == 12) <|
        hb (hJ2_add x2 a4 u6) fun r10 u9 =>
        k x2 x3 (x4 + 1) u9
theorem whX1_tells_29 {K1 K2 : Nat} {p : Program} {e : Env} {s : State} {m : MethodId} {args : Array Value} {below : List Frame} {meth : Method} {c : Code} (hl0 : l.stackTraces = false) (C : CxX t G l p s m args meth c yX1_tells cX1_tells 10 (some .int)) (p0 : Nat) (p1 : Int32) (k15 : Nat → Int32 → HS → Option (OH (PX Int32))) (hk15 : ∀ (x2 : Nat) (x3 : Int32) (u : HS), VX mkI t G p l e 424 K1 K2 s m args below meth c 10 15 [(0, .ref p0), (1, .int p1), (2, .ref x2), (3, .int x3)] [] u (k15 x2 x3 u)) (n : Nat) (x2 : Nat) (x3 : Int32) (x4 : Int32) (u : HS) : VX mkI t G p l e 424 K1 K2 s m args below meth c 10 29 [(0, .ref p0), (1, .int p1), (2, .ref x2), (3, .int x3), (4, .int x4)] [] u (ml3 (hX1_tells_29 p0 p1 k15) n x2 x3 x4 u) := by
  refine vl3 (L := fun x2 x3 x4 => [(0, .ref p0), (1, .int p1), (2, .ref x2), (3, .int x3), (4, .int x4)]) (fun k hk x2 x3 x4 u => ?_) n x2 x3 x4 u
  unfold hX1_tells_29
  refine v_iload C.1.1 4 rfl dX1_tells_29 ?_
  refine v_bipush C.1.1 10 (by decide) dX1_tells_31 ?_
  refine v_icmp_ge C.1.1 74 (by decide) dX1_tells_33 (fun _ => ?_) (fun _ => ?_)
  · refine v_iinc C.1.1 1 [(3, .int (x3 + 1)), (0, .ref p0), (1, .int p1), (2, .ref x2), (4, .int x4)] 3 rfl (by decide) (by decide) rfl dX1_tells_74 ?_
    refine v_goto C.1.1 15 (by decide) dX1_tells_77 ?_
    refine v_sub [1, 2, 3, 0] rfl ?_
    exact hk15 x2 (x3 + 1) u
  · refine v_aload_n C.1.1 0 rfl rfl dX1_tells_36 ?_
    refine v_iload_n C.1.1 3 rfl rfl dX1_tells_37 ?_
    refine v_iload C.1.1 4 rfl dX1_tells_38 ?_
    refine v_chk (fun h3 => ?_)
    refine v_callVH C.1 [.int x3, .int x4] [] (ctX1_listsBy t G l hl0 p0 x3 x4 u) (fun _ _ => cwX1_listsBy C.1 q1510 (by decide)) (recO C.1 (ci := 0) (eq_of_beq h3) (by decide) rfl) rfl rfl (by exact Nat.le_of_ble_eq_true rfl) dX1_tells_40 (fun r2 u1 => ?_)
    refine v_astoreO C.1.1 [(5, va_rf r2), (0, .ref p0), (1, .int p1), (2, .ref x2), (3, .int x3), (4, .int x4)] (by decide) rfl dX1_tells_43 ?_
    refine v_aloadO C.1.1 0 rfl dX1_tells_45 ?_
    refine v_ifnull C.1 68 (by decide) dX1_tells_47 (fun e5 => ?_) (fun a4 e5 => ?_)
    · subst e5
      refine v_iinc C.1.1 1 [(4, .int (x4 + 1)), (5, .null), (0, .ref p0), (1, .int p1), (2, .ref x2), (3, .int x3)] 5 rfl (by decide) (by decide) rfl dX1_tells_68 ?_
      refine v_goto C.1.1 29 (by decide) dX1_tells_71 ?_
      refine v_sub [2, 3, 4, 5, 0] rfl ?_
      exact hk x2 x3 (x4 + 1) u1
    · subst e5
      refine v_aload_n C.1.1 1 rfl rfl dX1_tells_50 ?_
      refine v_aload C.1.1 0 rfl dX1_tells_51 ?_
      refine v_chk (fun h8 => ?_)
      refine v_callVH C.1 [.ref a4] [] (ctX1_isSo t G l hl0 p0 a4 u1) (fun _ _ => cwX1_isSo C.1 q1514 (by decide)) (recO C.1 (ci := 0) (eq_of_beq h8) (by decide) rfl) rfl rfl (by exact Nat.le_of_ble_eq_true rfl) dX1_tells_53 (fun r7 u6 => ?_)
      refine v_if_eq C.1.1 68 (by decide) dX1_tells_56 (fun _ => ?_) (fun _ => ?_)
      · refine v_iinc C.1.1 1 [(4, .int (x4 + 1)), (5, .ref a4), (0, .ref p0), (1, .int p1), (2, .ref x2), (3, .int x3)] 5 rfl (by decide) (by decide) rfl dX1_tells_68 ?_
        refine v_goto C.1.1 29 (by decide) dX1_tells_71 ?_
        refine v_sub [2, 3, 4, 5, 0] rfl ?_
        exact hk x2 x3 (x4 + 1) u6
      · refine v_aload_n C.1.1 3 rfl rfl dX1_tells_59 ?_
        refine v_aload C.1.1 0 rfl dX1_tells_60 ?_
        refine v_chk (fun h11 => ?_)
        refine v_callFH C.1 [.ref a4] [] (ctJ2_add t G l hl0 x2 a4 u6) (fun _ _ => cwJ2_addF C.1 q384 (by decide)) (eq_of_beq h11) (by decide) rfl rfl rfl (by exact Nat.le_of_ble_eq_true rfl) dX1_tells_62 (fun r10 u9 => ?_)
        refine v_pop C.1.1 rfl dX1_tells_67 ?_
        refine v_iinc C.1.1 1 [(4, .int (x4 + 1)), (5, .ref a4), (0, .ref p0), (1, .int p1), (2, .ref x2), (3, .int x3)] 5 rfl (by decide) (by decide) rfl dX1_tells_68 ?_
        refine v_goto C.1.1 29 (by decide) dX1_tells_71 ?_
        refine v_sub [2, 3, 4, 5, 0] rfl ?_
        exact hk x2 x3 (x4 + 1) u9
def hX1_tells_15 (p0 : Nat) (p1 : Int32) (k : Nat → Int32 → HS → Option (OH (PX Int32))) (x2 : Nat) (x3 : Int32) (u : HS) : Option (OH (PX Int32)) :=
  mchk (hC u p0 == 1) <|
  mderef (hR u p0 2) fun a2 =>
  mchk (hC u a2 == 2) <|
  hb (hX2_people a2 u) fun r5 u4 =>
  if r5 ≤ x3 then
    ml4 (hX1_tells_88 p0 p1) FUEL x2 (-1) 0 0 u4
  else
    ml3 (hX1_tells_29 p0 p1 k) FUEL x2 x3 0 u4
theorem whX1_tells_15 {K1 K2 : Nat} {p : Program} {e : Env} {s : State} {m : MethodId} {args : Array Value} {below : List Frame} {meth : Method} {c : Code} (hl0 : l.stackTraces = false) (C : CxX t G l p s m args meth c yX1_tells cX1_tells 10 (some .int)) (p0 : Nat) (p1 : Int32) (n : Nat) (x2 : Nat) (x3 : Int32) (u : HS) : VX mkI t G p l e 424 K1 K2 s m args below meth c 10 15 [(0, .ref p0), (1, .int p1), (2, .ref x2), (3, .int x3)] [] u (ml2 (hX1_tells_15 p0 p1) n x2 x3 u) := by
  refine vl2 (L := fun x2 x3 => [(0, .ref p0), (1, .int p1), (2, .ref x2), (3, .int x3)]) (fun k hk x2 x3 u => ?_) n x2 x3 u
  unfold hX1_tells_15
  refine v_iload_n C.1.1 3 rfl rfl dX1_tells_15 ?_
  refine v_aload_n C.1.1 0 rfl rfl dX1_tells_16 ?_
  refine v_chk (fun h1 => ?_)
  refine v_hget C.1 (v := va_rf (hR u p0 2)) 0 2 (eq_of_beq h1) (by decide) rfl in_X1 (by decide) (Or.inl q311) (fun _ h => h) (hF_r (ci := 0) (eq_of_beq h1) (by decide)) dX1_tells_17 ?_
  refine v_deref (fun a2 e3 => ?_)
  refine v_chk (fun h6 => ?_)
  refine v_callVH C.1 [] [.int x3] (ctX2_people t G l hl0 a2 u) (fun _ _ => cwX2_people C.1 q717 (by decide)) (recO C.1 (ci := 1) (eq_of_beq h6) (by decide) rfl) rfl rfl (by exact Nat.le_of_ble_eq_true rfl) dX1_tells_20 (fun r5 u4 => ?_)
  refine v_icmp_ge C.1.1 80 (by decide) dX1_tells_23 (fun _ => ?_) (fun _ => ?_)
  · refine v_iconst C.1.1 (-1) (by decide) dX1_tells_80 ?_
    refine v_istore_n C.1.1 [(3, .int (-1)), (0, .ref p0), (1, .int p1), (2, .ref x2)] rfl (by decide) rfl dX1_tells_81 ?_
    refine v_iconst C.1.1 0 (by decide) dX1_tells_82 ?_
    refine v_istore C.1.1 [(4, .int 0), (3, .int (-1)), (0, .ref p0), (1, .int p1), (2, .ref x2)] (by decide) rfl dX1_tells_83 ?_
    refine v_iconst C.1.1 0 (by decide) dX1_tells_85 ?_
    refine v_istore C.1.1 [(5, .int 0), (4, .int 0), (3, .int (-1)), (0, .ref p0), (1, .int p1), (2, .ref x2)] (by decide) rfl dX1_tells_86 ?_
    refine v_sub [4, 5, 2, 1, 0] rfl ?_
    exact whX1_tells_88 hl0 C p0 p1 FUEL x2 (-1) 0 0 u4
  · refine v_iconst C.1.1 0 (by decide) dX1_tells_26 ?_
    refine v_istore C.1.1 [(4, .int 0), (0, .ref p0), (1, .int p1), (2, .ref x2), (3, .int x3)] (by decide) rfl dX1_tells_27 ?_
    refine v_sub [1, 2, 3, 4, 0] rfl ?_
    exact whX1_tells_29 hl0 C p0 p1 k hk FUEL x2 x3 0 u4
def hX1_tells (p0 : Nat) (p1 : Int32) (u : HS) : Option (OH (PX Int32)) :=
  hx (hX1_oneOf p1 1 u) fun _ u1 =>
  mlet (hZ u1) fun a2 =>
  addc 1 (cN 11) <|
  mlet (nO u1 11) fun u4 =>
  hb (hJ2_init a2 u4) fun _ u5 =>
  ml2 (hX1_tells_15 p0 p1) FUEL a2 0 u5
theorem ctX1_tells (t : TT) (G : GH) (l : Launch) (hl0 : l.stackTraces = false) (p0 : Nat) (p1 : Int32) (u : HS) : CtX mkI t G l yX1_tells cX1_tells 10 (some .int) 424 [.ref p0, .int p1] u (hX1_tells p0 p1 u) := by
  refine ctX_of [(0, .ref p0), (1, .int p1)] hl0 rfl (Nat.le_of_ble_eq_true rfl) rfl (fun K1 K2 p e s m args below meth c C => ?_)
  unfold hX1_tells
  refine v_iload_n C.1.1 1 rfl rfl dX1_tells_0 ?_
  refine v_iconst C.1.1 1 (by decide) dX1_tells_1 ?_
  refine v_callSX C [.int p1, .int 1] [] (ctX1_oneOf t G l hl0 p1 1 u) (fun _ _ => cwX1_oneOf C.1 q1353 (by decide)) rfl rfl (by exact Nat.le_of_ble_eq_true rfl) dX1_tells_2 (fun _ u1 => ?_)
  refine v_letE (fun a2 e3 => ?_)
  refine v_hnew C.1 11 e3 (by decide) rfl in_J2 tyJ2 tyJ2_ok df_J2 q304 q170 q125 dX1_tells_5 (fun u4 => ?_)
  refine v_dup C.1.1 rfl dX1_tells_8 ?_
  refine v_callIH C.1 [] [.ref a2] (ctJ2_init t G l hl0 a2 u4) (fun _ _ => cwJ2_init C.1 q305 (by decide)) rfl rfl (by exact Nat.le_of_ble_eq_true rfl) dX1_tells_9 (fun _ u5 => ?_)
  refine v_astore_n C.1.1 [(2, .ref a2), (0, .ref p0), (1, .int p1)] rfl (by decide) rfl dX1_tells_12 ?_
  refine v_iconst C.1.1 0 (by decide) dX1_tells_13 ?_
  refine v_istore_n C.1.1 [(3, .int 0), (2, .ref a2), (0, .ref p0), (1, .int p1)] rfl (by decide) rfl dX1_tells_14 ?_
  refine v_sub [2, 3, 1, 0] rfl ?_
  exact whX1_tells_15 hl0 C p0 p1 FUEL a2 0 u5
theorem cwX1_tells {t : TT} {G : GH} {l : Launch} {p : Program} {s : State} {m : MethodId} {args : Array Value} {meth : Method} {c : Code} {y0 : MethodName} {cc0 : ByteArray} {nL0 : Nat} {ret0 : Option FieldType} (C : CxH t G l p s m args meth c y0 cc0 nL0 ret0) {index lv mc ms K1 K2 : Nat} (hq : Cond.methodLink y0.cls index yX1_tells ∈ lw_all) (hR : 424 + 1 ≤ lv) : CallW (rmH lv K1 K2) s args y0.cls RX1 index yX1_tells cX1_tells 10 (some .int) (ws_ yX1_tells cX1_tells 10 (some .int)) (rmH 424 mc ms) mc ms 1 :=
  cwV 1 C.1.2.2.2.2.1 (lw_V hq q1523 q1524 q121 q1525) rfl rfl rfl (by decide +kernel) ⟨hR, by show 8 + (10 + 11) + 100 * 424 ≤ 100 * lv; omega⟩
def hX1_goods_4 (p0 : Nat) (p1 : Int32) (k : Int32 → Int32 → HS → Option (OH Int32)) (x2 : Int32) (x3 : Int32) (u : HS) : Option (OH Int32) :=
  mchk (hC u p0 == 1) <|
  mderef (hR u p0 2) fun a2 =>
  mchk (hC u a2 == 2) <|
  hb (hX2_people a2 u) fun r5 u4 =>
  if r5 ≤ x3 then
    hret x2 u4
  else
    hb (hX1_isOf p1 x3 u4) fun r8 u7 =>
    if r8 = 0 then
      k x2 (x3 + 1) u7
    else
      mchk (hC u7 p0 == 1) <|
      mderef (hR u7 p0 2) fun a10 =>
      mchk (hC u7 a10 == 2) <|
      mderef (hR u7 a10 1) fun a13 =>
      mchk (hC u7 a13 == 12) <|
      hb (hJ2_get a13 x3 u7) fun r16 u15 =>
      mchk (hC u15 r16 == 31) <|
      mchk (hC u15 r16 == 31) <|
      hb (hJ16_intValue r16 u15) fun r20 u19 =>
      mlet (x2 + r20) fun v22 =>
      k v22 (x3 + 1) u19
theorem whX1_goods_4 {K1 K2 : Nat} {p : Program} {e : Env} {s : State} {m : MethodId} {args : Array Value} {below : List Frame} {meth : Method} {c : Code} (hl0 : l.stackTraces = false) (C : CxH t G l p s m args meth c yX1_goods cX1_goods 4 (some .int)) (p0 : Nat) (p1 : Int32) (n : Nat) (x2 : Int32) (x3 : Int32) (u : HS) : VH mkI t G p l e 5 K1 K2 s m args below meth c 4 4 [(0, .ref p0), (1, .int p1), (2, .int x2), (3, .int x3)] [] u (ml2 (hX1_goods_4 p0 p1) n x2 x3 u) := by
  refine vl2 (L := fun x2 x3 => [(0, .ref p0), (1, .int p1), (2, .int x2), (3, .int x3)]) (fun k hk x2 x3 u => ?_) n x2 x3 u
  unfold hX1_goods_4
  refine v_iload_n C.1 3 rfl rfl dX1_goods_4 ?_
  refine v_aload_n C.1 0 rfl rfl dX1_goods_5 ?_
  refine v_chk (fun h1 => ?_)
  refine v_hget C (v := va_rf (hR u p0 2)) 0 2 (eq_of_beq h1) (by decide) rfl in_X1 (by decide) (Or.inl q311) (fun _ h => h) (hF_r (ci := 0) (eq_of_beq h1) (by decide)) dX1_goods_6 ?_
  refine v_deref (fun a2 e3 => ?_)
  refine v_chk (fun h6 => ?_)
  refine v_callVH C [] [.int x3] (ctX2_people t G l hl0 a2 u) (fun _ _ => cwX2_people C q717 (by decide)) (recO C (ci := 1) (eq_of_beq h6) (by decide) rfl) rfl rfl (by exact Nat.le_of_ble_eq_true rfl) dX1_goods_9 (fun r5 u4 => ?_)
  refine v_icmp_ge C.1 51 (by decide) dX1_goods_12 (fun _ => ?_) (fun _ => ?_)
  · refine v_iload_n C.1 2 rfl rfl dX1_goods_51 ?_
    exact v_hiret C dX1_goods_52
  · refine v_iload_n C.1 1 rfl rfl dX1_goods_15 ?_
    refine v_iload_n C.1 3 rfl rfl dX1_goods_16 ?_
    refine v_callSH C [.int p1, .int x3] [] (ctX1_isOf t G l hl0 p1 x3 u4) (fun _ _ => cwX1_isOf C q1323 (by decide)) rfl rfl (by exact Nat.le_of_ble_eq_true rfl) dX1_goods_17 (fun r8 u7 => ?_)
    refine v_if_eq C.1 45 (by decide) dX1_goods_20 (fun _ => ?_) (fun _ => ?_)
    · refine v_iinc C.1 1 [(3, .int (x3 + 1)), (0, .ref p0), (1, .int p1), (2, .int x2)] 3 rfl (by decide) (by decide) rfl dX1_goods_45 ?_
      refine v_goto C.1 4 (by decide) dX1_goods_48 ?_
      refine v_sub [1, 2, 3, 0] rfl ?_
      exact hk x2 (x3 + 1) u7
    · refine v_iload_n C.1 2 rfl rfl dX1_goods_23 ?_
      refine v_aload_n C.1 0 rfl rfl dX1_goods_24 ?_
      refine v_chk (fun h9 => ?_)
      refine v_hget C (v := va_rf (hR u7 p0 2)) 0 2 (eq_of_beq h9) (by decide) rfl in_X1 (by decide) (Or.inl q311) (fun _ h => h) (hF_r (ci := 0) (eq_of_beq h9) (by decide)) dX1_goods_25 ?_
      refine v_deref (fun a10 e11 => ?_)
      refine v_chk (fun h12 => ?_)
      refine v_hget C (v := va_rf (hR u7 a10 1)) 1 1 (eq_of_beq h12) (by decide) rfl in_X2 (by decide) (Or.inr ⟨_, q202⟩) (fun _ h => h) (hF_r (ci := 1) (eq_of_beq h12) (by decide)) dX1_goods_28 ?_
      refine v_deref (fun a13 e14 => ?_)
      refine v_iload_n C.1 3 rfl rfl dX1_goods_31 ?_
      refine v_chk (fun h17 => ?_)
      refine v_callFH C [.int x3] [.int x2] (ctJ2_get t G l hl0 a13 x3 u7) (fun _ _ => cwJ2_getF C q1368 (by decide)) (eq_of_beq h17) (by decide) rfl rfl rfl (by exact Nat.le_of_ble_eq_true rfl) dX1_goods_32 (fun r16 u15 => ?_)
      refine v_chk (fun h18 => ?_)
      refine v_hcastB C (eq_of_beq h18) q1369 dX1_goods_37 ?_
      refine v_chk (fun h21 => ?_)
      refine v_callVH C [] [.int x2] (ctJ16_intValue t G l hl0 r16 u15) (fun _ _ => cwJ16_intValue C q1370 (by decide)) (recB C (eq_of_beq h21)) rfl rfl (by exact Nat.le_of_ble_eq_true rfl) dX1_goods_40 (fun r20 u19 => ?_)
      refine v_iadd C.1 dX1_goods_43 ?_
      refine v_topi (fun v22 => ?_)
      refine v_istore_n C.1 [(2, .int v22), (0, .ref p0), (1, .int p1), (3, .int x3)] rfl (by decide) rfl dX1_goods_44 ?_
      refine v_iinc C.1 1 [(3, .int (x3 + 1)), (2, .int v22), (0, .ref p0), (1, .int p1)] 3 rfl (by decide) (by decide) rfl dX1_goods_45 ?_
      refine v_goto C.1 4 (by decide) dX1_goods_48 ?_
      refine v_sub [2, 3, 1, 0] rfl ?_
      exact hk v22 (x3 + 1) u19
def hX1_goods (p0 : Nat) (p1 : Int32) (u : HS) : Option (OH Int32) :=
  ml2 (hX1_goods_4 p0 p1) FUEL 0 0 u
theorem ctX1_goods (t : TT) (G : GH) (l : Launch) (hl0 : l.stackTraces = false) (p0 : Nat) (p1 : Int32) (u : HS) : CtH mkI t G l yX1_goods cX1_goods 4 (some .int) 5 [.ref p0, .int p1] u (hX1_goods p0 p1 u) := by
  refine ctH_of [(0, .ref p0), (1, .int p1)] hl0 rfl (Nat.le_of_ble_eq_true rfl) rfl (fun K1 K2 p e s m args below meth c C => ?_)
  unfold hX1_goods
  refine v_iconst C.1 0 (by decide) dX1_goods_0 ?_
  refine v_istore_n C.1 [(2, .int 0), (0, .ref p0), (1, .int p1)] rfl (by decide) rfl dX1_goods_1 ?_
  refine v_iconst C.1 0 (by decide) dX1_goods_2 ?_
  refine v_istore_n C.1 [(3, .int 0), (2, .int 0), (0, .ref p0), (1, .int p1)] rfl (by decide) rfl dX1_goods_3 ?_
  refine v_sub [2, 3, 1, 0] rfl ?_
  exact whX1_goods_4 hl0 C p0 p1 FUEL 0 0 u
theorem cwX1_goods {t : TT} {G : GH} {l : Launch} {p : Program} {s : State} {m : MethodId} {args : Array Value} {meth : Method} {c : Code} {y0 : MethodName} {cc0 : ByteArray} {nL0 : Nat} {ret0 : Option FieldType} (C : CxH t G l p s m args meth c y0 cc0 nL0 ret0) {index lv mc ms K1 K2 : Nat} (hq : Cond.methodLink y0.cls index yX1_goods ∈ lw_all) (hR : 5 + 1 ≤ lv) : CallW (rmH lv K1 K2) s args y0.cls RX1 index yX1_goods cX1_goods 4 (some .int) (ws_ yX1_goods cX1_goods 4 (some .int)) (rmH 5 mc ms) mc ms 1 :=
  cwV 1 C.1.2.2.2.2.1 (lw_V hq q1535 qs47 q121 q1536) rfl rfl rfl (by decide +kernel) ⟨hR, by show 8 + (4 + 11) + 100 * 5 ≤ 100 * lv; omega⟩
def hX1_roll_15 (p0 : Nat) (p1 : Int32) (k : Int32 → Int32 → HS → Option (OH (PX Int32))) (x2 : Int32) (x3 : Int32) (u : HS) : Option (OH (PX Int32)) :=
  mchk (hC u p0 == 1) <|
  mderef (hR u p0 2) fun a2 =>
  mchk (hC u a2 == 2) <|
  hb (hX2_people a2 u) fun r5 u4 =>
  if ((1 : Int32) <<< (r5 &&& 31)) ≤ x3 then
    hret (.inl x2) u4
  else
    mchk (hC u4 p0 == 1) <|
    mderef (hR u4 p0 3) fun a8 =>
    mchk (hC u4 a8 == 3) <|
    if (x3 &&& ((hI u4 a8 7) ^^^ (-1))) = 0 then
      mchk (hC u4 p0 == 1) <|
      hb (hX1_goods p0 x3 u4) fun r12 u11 =>
      if r12 = p1 then
        if x2 = (-1) then
          k x3 (x3 + 1) u11
        else
          hb (hJ16_bitCount x3 u11) fun r15 u14 =>
          hb (hJ16_bitCount x2 u14) fun r17 u16 =>
          if r17 ≤ r15 then
            k x2 (x3 + 1) u16
          else
            k x3 (x3 + 1) u16
      else
        k x2 (x3 + 1) u11
    else
      k x2 (x3 + 1) u4
theorem whX1_roll_15 {K1 K2 : Nat} {p : Program} {e : Env} {s : State} {m : MethodId} {args : Array Value} {below : List Frame} {meth : Method} {c : Code} (hl0 : l.stackTraces = false) (C : CxX t G l p s m args meth c yX1_roll cX1_roll 4 (some .int)) (p0 : Nat) (p1 : Int32) (n : Nat) (x2 : Int32) (x3 : Int32) (u : HS) : VX mkI t G p l e 9 K1 K2 s m args below meth c 4 15 [(0, .ref p0), (1, .int p1), (2, .int x2), (3, .int x3)] [] u (ml2 (hX1_roll_15 p0 p1) n x2 x3 u) := by
  refine vl2 (L := fun x2 x3 => [(0, .ref p0), (1, .int p1), (2, .int x2), (3, .int x3)]) (fun k hk x2 x3 u => ?_) n x2 x3 u
  unfold hX1_roll_15
  refine v_iload_n C.1.1 3 rfl rfl dX1_roll_15 ?_
  refine v_iconst C.1.1 1 (by decide) dX1_roll_16 ?_
  refine v_aload_n C.1.1 0 rfl rfl dX1_roll_17 ?_
  refine v_chk (fun h1 => ?_)
  refine v_hget C.1 (v := va_rf (hR u p0 2)) 0 2 (eq_of_beq h1) (by decide) rfl in_X1 (by decide) (Or.inl q311) (fun _ h => h) (hF_r (ci := 0) (eq_of_beq h1) (by decide)) dX1_roll_18 ?_
  refine v_deref (fun a2 e3 => ?_)
  refine v_chk (fun h6 => ?_)
  refine v_callVH C.1 [] [.int 1, .int x3] (ctX2_people t G l hl0 a2 u) (fun _ _ => cwX2_people C.1 q717 (by decide)) (recO C.1 (ci := 1) (eq_of_beq h6) (by decide) rfl) rfl rfl (by exact Nat.le_of_ble_eq_true rfl) dX1_roll_21 (fun r5 u4 => ?_)
  refine v_ishl C.1.1 dX1_roll_24 ?_
  refine v_icmp_ge C.1.1 78 (by decide) dX1_roll_25 (fun _ => ?_) (fun _ => ?_)
  · refine v_iload_n C.1.1 2 rfl rfl dX1_roll_78 ?_
    exact v_xiret C.1 dX1_roll_79
  · refine v_iload_n C.1.1 3 rfl rfl dX1_roll_28 ?_
    refine v_aload_n C.1.1 0 rfl rfl dX1_roll_29 ?_
    refine v_chk (fun h7 => ?_)
    refine v_hget C.1 (v := va_rf (hR u4 p0 3)) 0 3 (eq_of_beq h7) (by decide) rfl in_X1 (by decide) (Or.inl q312) (fun _ h => h) (hF_r (ci := 0) (eq_of_beq h7) (by decide)) dX1_roll_30 ?_
    refine v_deref (fun a8 e9 => ?_)
    refine v_chk (fun h10 => ?_)
    refine v_hget C.1 (v := .int (hI u4 a8 7)) 2 7 (eq_of_beq h10) (by decide) rfl in_X3 (by decide) (Or.inr ⟨_, q271⟩) (fun _ h => h) (hF_i (ci := 2) (eq_of_beq h10) (by decide)) dX1_roll_33 ?_
    refine v_iconst C.1.1 (-1) (by decide) dX1_roll_36 ?_
    refine v_ixor C.1.1 dX1_roll_37 ?_
    refine v_iand C.1.1 dX1_roll_38 ?_
    refine v_if_ne C.1.1 72 (by decide) dX1_roll_39 (fun _ => ?_) (fun _ => ?_)
    · refine v_aload_n C.1.1 0 rfl rfl dX1_roll_42 ?_
      refine v_iload_n C.1.1 3 rfl rfl dX1_roll_43 ?_
      refine v_chk (fun h13 => ?_)
      refine v_callVH C.1 [.int x3] [] (ctX1_goods t G l hl0 p0 x3 u4) (fun _ _ => cwX1_goods C.1 q1533 (by decide)) (recO C.1 (ci := 0) (eq_of_beq h13) (by decide) rfl) rfl rfl (by exact Nat.le_of_ble_eq_true rfl) dX1_roll_44 (fun r12 u11 => ?_)
      refine v_iload_n C.1.1 1 rfl rfl dX1_roll_47 ?_
      refine v_icmp_eq C.1.1 54 (by decide) dX1_roll_48 (fun _ => ?_) (fun _ => ?_)
      · refine v_iload_n C.1.1 2 rfl rfl dX1_roll_54 ?_
        refine v_iconst C.1.1 (-1) (by decide) dX1_roll_55 ?_
        refine v_icmp_eq C.1.1 70 (by decide) dX1_roll_56 (fun _ => ?_) (fun _ => ?_)
        · refine v_iload_n C.1.1 3 rfl rfl dX1_roll_70 ?_
          refine v_istore_n C.1.1 [(2, .int x3), (0, .ref p0), (1, .int p1), (3, .int x3)] rfl (by decide) rfl dX1_roll_71 ?_
          refine v_iinc C.1.1 1 [(3, .int (x3 + 1)), (2, .int x3), (0, .ref p0), (1, .int p1)] 3 rfl (by decide) (by decide) rfl dX1_roll_72 ?_
          refine v_goto C.1.1 15 (by decide) dX1_roll_75 ?_
          refine v_sub [2, 3, 1, 0] rfl ?_
          exact hk x3 (x3 + 1) u11
        · refine v_iload_n C.1.1 3 rfl rfl dX1_roll_59 ?_
          refine v_callSH C.1 [.int x3] [] (ctJ16_bitCount t G l hl0 x3 u11) (fun _ _ => cwJ16_bitCount C.1 q1495 (by decide)) rfl rfl (by exact Nat.le_of_ble_eq_true rfl) dX1_roll_60 (fun r15 u14 => ?_)
          refine v_iload_n C.1.1 2 rfl rfl dX1_roll_63 ?_
          refine v_callSH C.1 [.int x2] [.int r15] (ctJ16_bitCount t G l hl0 x2 u14) (fun _ _ => cwJ16_bitCount C.1 q1495 (by decide)) rfl rfl (by exact Nat.le_of_ble_eq_true rfl) dX1_roll_64 (fun r17 u16 => ?_)
          refine v_icmp_ge C.1.1 72 (by decide) dX1_roll_67 (fun _ => ?_) (fun _ => ?_)
          · refine v_iinc C.1.1 1 [(3, .int (x3 + 1)), (0, .ref p0), (1, .int p1), (2, .int x2)] 3 rfl (by decide) (by decide) rfl dX1_roll_72 ?_
            refine v_goto C.1.1 15 (by decide) dX1_roll_75 ?_
            refine v_sub [1, 2, 3, 0] rfl ?_
            exact hk x2 (x3 + 1) u16
          · refine v_iload_n C.1.1 3 rfl rfl dX1_roll_70 ?_
            refine v_istore_n C.1.1 [(2, .int x3), (0, .ref p0), (1, .int p1), (3, .int x3)] rfl (by decide) rfl dX1_roll_71 ?_
            refine v_iinc C.1.1 1 [(3, .int (x3 + 1)), (2, .int x3), (0, .ref p0), (1, .int p1)] 3 rfl (by decide) (by decide) rfl dX1_roll_72 ?_
            refine v_goto C.1.1 15 (by decide) dX1_roll_75 ?_
            refine v_sub [2, 3, 1, 0] rfl ?_
            exact hk x3 (x3 + 1) u16
      · refine v_goto C.1.1 72 (by decide) dX1_roll_51 ?_
        refine v_iinc C.1.1 1 [(3, .int (x3 + 1)), (0, .ref p0), (1, .int p1), (2, .int x2)] 3 rfl (by decide) (by decide) rfl dX1_roll_72 ?_
        refine v_goto C.1.1 15 (by decide) dX1_roll_75 ?_
        refine v_sub [1, 2, 3, 0] rfl ?_
        exact hk x2 (x3 + 1) u11
    · refine v_iinc C.1.1 1 [(3, .int (x3 + 1)), (0, .ref p0), (1, .int p1), (2, .int x2)] 3 rfl (by decide) (by decide) rfl dX1_roll_72 ?_
      refine v_goto C.1.1 15 (by decide) dX1_roll_75 ?_
      refine v_sub [1, 2, 3, 0] rfl ?_
      exact hk x2 (x3 + 1) u4
def hX1_roll (p0 : Nat) (p1 : Int32) (u : HS) : Option (OH (PX Int32)) :=
  hb (hX1_in p1 0 999 u) fun r2 u1 =>
  hx (hX1_right r2 u1) fun _ u3 =>
  ml2 (hX1_roll_15 p0 p1) FUEL (-1) 0 u3
theorem ctX1_roll (t : TT) (G : GH) (l : Launch) (hl0 : l.stackTraces = false) (p0 : Nat) (p1 : Int32) (u : HS) : CtX mkI t G l yX1_roll cX1_roll 4 (some .int) 9 [.ref p0, .int p1] u (hX1_roll p0 p1 u) := by
  refine ctX_of [(0, .ref p0), (1, .int p1)] hl0 rfl (Nat.le_of_ble_eq_true rfl) rfl (fun K1 K2 p e s m args below meth c C => ?_)
  unfold hX1_roll
  refine v_iload_n C.1.1 1 rfl rfl dX1_roll_0 ?_
  refine v_iconst C.1.1 0 (by decide) dX1_roll_1 ?_
  refine v_sipush C.1.1 999 (by decide) dX1_roll_2 ?_
  refine v_callSH C.1 [.int p1, .int 0, .int 999] [] (ctX1_in t G l hl0 p1 0 999 u) (fun _ _ => cwX1_in C.1 q366 (by decide)) rfl rfl (by exact Nat.le_of_ble_eq_true rfl) dX1_roll_5 (fun r2 u1 => ?_)
  refine v_callSX C [.int r2] [] (ctX1_right t G l hl0 r2 u1) (fun _ _ => cwX1_right C.1 q760 (by decide)) rfl rfl (by exact Nat.le_of_ble_eq_true rfl) dX1_roll_8 (fun _ u3 => ?_)
  refine v_iconst C.1.1 (-1) (by decide) dX1_roll_11 ?_
  refine v_istore_n C.1.1 [(2, .int (-1)), (0, .ref p0), (1, .int p1)] rfl (by decide) rfl dX1_roll_12 ?_
  refine v_iconst C.1.1 0 (by decide) dX1_roll_13 ?_
  refine v_istore_n C.1.1 [(3, .int 0), (2, .int (-1)), (0, .ref p0), (1, .int p1)] rfl (by decide) rfl dX1_roll_14 ?_
  refine v_sub [2, 3, 1, 0] rfl ?_
  exact whX1_roll_15 hl0 C p0 p1 FUEL (-1) 0 u3
theorem cwX1_roll {t : TT} {G : GH} {l : Launch} {p : Program} {s : State} {m : MethodId} {args : Array Value} {meth : Method} {c : Code} {y0 : MethodName} {cc0 : ByteArray} {nL0 : Nat} {ret0 : Option FieldType} (C : CxH t G l p s m args meth c y0 cc0 nL0 ret0) {index lv mc ms K1 K2 : Nat} (hq : Cond.methodLink y0.cls index yX1_roll ∈ lw_all) (hR : 9 + 1 ≤ lv) : CallW (rmH lv K1 K2) s args y0.cls RX1 index yX1_roll cX1_roll 4 (some .int) (ws_ yX1_roll cX1_roll 4 (some .int)) (rmH 9 mc ms) mc ms 1 :=
  cwV 1 C.1.2.2.2.2.1 (lw_V hq q1530 q1531 q121 q1532) rfl rfl rfl (by decide +kernel) ⟨hR, by show 8 + (4 + 11) + 100 * 9 ≤ 100 * lv; omega⟩
def hX1_friend_19 (p0 : Nat) (p1 : Int32) (k : Nat → Int32 → HS → Option (OH Int32)) (x2 : Nat) (x3 : Int32) (u : HS) : Option (OH Int32) :=
  mchk (hC u x2 == 12) <|
  hb (hJ2_size x2 u) fun r2 u1 =>
  if r2 ≤ x3 then
    hret (-1) u1
  else
    mchk (hC u1 p0 == 1) <|
    mderef (hR u1 p0 3) fun a5 =>
    mchk (hC u1 x2 == 12) <|
    hb (hJ2_get x2 x3 u1) fun r8 u7 =>
    mchk (hC u7 r8 == 31) <|
    mchk (hC u7 r8 == 31) <|
    hb (hJ16_intValue r8 u7) fun r12 u11 =>
    mchk (hC u11 a5 == 3) <|
    hb (hX3_isListed a5 r12 u11) fun r15 u14 =>
    if r15 = 0 then
      mchk (hC u14 x2 == 12) <|
      hb (hJ2_get x2 x3 u14) fun r18 u17 =>
      mchk (hC u17 r18 == 31) <|
      mchk (hC u17 r18 == 31) <|
      hb (hJ16_intValue r18 u17) fun r22 u21 =>
      hret r22 u21
    else
      k x2 (x3 + 1) u14
theorem whX1_friend_19 {K1 K2 : Nat} {p : Program} {e : Env} {s : State} {m : MethodId} {args : Array Value} {below : List Frame} {meth : Method} {c : Code} (hl0 : l.stackTraces = false) (C : CxH t G l p s m args meth c yX1_friend cX1_friend 4 (some .int)) (p0 : Nat) (p1 : Int32) (n : Nat) (x2 : Nat) (x3 : Int32) (u : HS) : VH mkI t G p l e 5 K1 K2 s m args below meth c 4 19 [(0, .ref p0), (2, .ref x2), (3, .int x3)] [] u (ml2 (hX1_friend_19 p0 p1) n x2 x3 u) := by
  refine vl2 (L := fun x2 x3 => [(0, .ref p0), (2, .ref x2), (3, .int x3)]) (fun k hk x2 x3 u => ?_) n x2 x3 u
  unfold hX1_friend_19
  refine v_iload_n C.1 2 rfl rfl dX1_friend_19 ?_
  refine v_aload_n C.1 1 rfl rfl dX1_friend_20 ?_
  refine v_chk (fun h3 => ?_)
  refine v_callFH C [] [.int x3] (ctJ2_size t G l hl0 x2 u) (fun _ _ => cwJ2_sizeF C q453 (by decide)) (eq_of_beq h3) (by decide) rfl rfl rfl (by exact Nat.le_of_ble_eq_true rfl) dX1_friend_21 (fun r2 u1 => ?_)
  refine v_icmp_ge C.1 72 (by decide) dX1_friend_26 (fun _ => ?_) (fun _ => ?_)
  · refine v_iconst C.1 (-1) (by decide) dX1_friend_72 ?_
    exact v_hiret C dX1_friend_73
  · refine v_aload_n C.1 0 rfl rfl dX1_friend_29 ?_
    refine v_chk (fun h4 => ?_)
    refine v_hget C (v := va_rf (hR u1 p0 3)) 0 3 (eq_of_beq h4) (by decide) rfl in_X1 (by decide) (Or.inl q312) (fun _ h => h) (hF_r (ci := 0) (eq_of_beq h4) (by decide)) dX1_friend_30 ?_
    refine v_deref (fun a5 e6 => ?_)
    refine v_aload_n C.1 1 rfl rfl dX1_friend_33 ?_
    refine v_iload_n C.1 2 rfl rfl dX1_friend_34 ?_
    refine v_chk (fun h9 => ?_)
    refine v_callFH C [.int x3] [.ref a5] (ctJ2_get t G l hl0 x2 x3 u1) (fun _ _ => cwJ2_getF C q1368 (by decide)) (eq_of_beq h9) (by decide) rfl rfl rfl (by exact Nat.le_of_ble_eq_true rfl) dX1_friend_35 (fun r8 u7 => ?_)
    refine v_chk (fun h10 => ?_)
    refine v_hcastB C (eq_of_beq h10) q1369 dX1_friend_40 ?_
    refine v_chk (fun h13 => ?_)
    refine v_callVH C [] [.ref a5] (ctJ16_intValue t G l hl0 r8 u7) (fun _ _ => cwJ16_intValue C q1370 (by decide)) (recB C (eq_of_beq h13)) rfl rfl (by exact Nat.le_of_ble_eq_true rfl) dX1_friend_43 (fun r12 u11 => ?_)
    refine v_chk (fun h16 => ?_)
    refine v_callVH C [.int r12] [] (ctX3_isListed t G l hl0 a5 r12 u11) (fun _ _ => cwX3_isListed C q1408 (by decide)) (recO C (ci := 2) (eq_of_beq h16) (by decide) rfl) rfl rfl (by exact Nat.le_of_ble_eq_true rfl) dX1_friend_46 (fun r15 u14 => ?_)
    refine v_if_ne C.1 66 (by decide) dX1_friend_49 (fun _ => ?_) (fun _ => ?_)
    · refine v_aload_n C.1 1 rfl rfl dX1_friend_52 ?_
      refine v_iload_n C.1 2 rfl rfl dX1_friend_53 ?_
      refine v_chk (fun h19 => ?_)
      refine v_callFH C [.int x3] [] (ctJ2_get t G l hl0 x2 x3 u14) (fun _ _ => cwJ2_getF C q1368 (by decide)) (eq_of_beq h19) (by decide) rfl rfl rfl (by exact Nat.le_of_ble_eq_true rfl) dX1_friend_54 (fun r18 u17 => ?_)
      refine v_chk (fun h20 => ?_)
      refine v_hcastB C (eq_of_beq h20) q1369 dX1_friend_59 ?_
      refine v_chk (fun h23 => ?_)
      refine v_callVH C [] [] (ctJ16_intValue t G l hl0 r18 u17) (fun _ _ => cwJ16_intValue C q1370 (by decide)) (recB C (eq_of_beq h23)) rfl rfl (by exact Nat.le_of_ble_eq_true rfl) dX1_friend_62 (fun r22 u21 => ?_)
      exact v_hiret C dX1_friend_65
    · refine v_iinc C.1 1 [(3, .int (x3 + 1)), (0, .ref p0), (2, .ref x2)] 2 rfl (by decide) (by decide) rfl dX1_friend_66 ?_
      refine v_goto C.1 19 (by decide) dX1_friend_69 ?_
      refine v_sub [1, 2, 0] rfl ?_
      exact hk x2 (x3 + 1) u14
def hX1_friend (p0 : Nat) (p1 : Int32) (u : HS) : Option (OH Int32) :=
  mchk (hC u p0 == 1) <|
  mderef (hR u p0 2) fun a2 =>
  mchk (hC u a2 == 2) <|
  mderef (hR u a2 6) fun a5 =>
  mchk (hC u a5 == 12) <|
  hb (hJ2_get a5 p1 u) fun r8 u7 =>
  mchk (hC u7 r8 == 12) <|
  ml2 (hX1_friend_19 p0 p1) FUEL r8 0 u7
theorem ctX1_friend (t : TT) (G : GH) (l : Launch) (hl0 : l.stackTraces = false) (p0 : Nat) (p1 : Int32) (u : HS) : CtH mkI t G l yX1_friend cX1_friend 4 (some .int) 5 [.ref p0, .int p1] u (hX1_friend p0 p1 u) := by
  refine ctH_of [(0, .ref p0), (1, .int p1)] hl0 rfl (Nat.le_of_ble_eq_true rfl) rfl (fun K1 K2 p e s m args below meth c C => ?_)
  unfold hX1_friend
  refine v_aload_n C.1 0 rfl rfl dX1_friend_0 ?_
  refine v_chk (fun h1 => ?_)
  refine v_hget C (v := va_rf (hR u p0 2)) 0 2 (eq_of_beq h1) (by decide) rfl in_X1 (by decide) (Or.inl q311) (fun _ h => h) (hF_r (ci := 0) (eq_of_beq h1) (by decide)) dX1_friend_1 ?_
  refine v_deref (fun a2 e3 => ?_)
  refine v_chk (fun h4 => ?_)
  refine v_hget C (v := va_rf (hR u a2 6)) 1 6 (eq_of_beq h4) (by decide) rfl in_X2 (by decide) (Or.inr ⟨_, q221⟩) (fun _ h => h) (hF_r (ci := 1) (eq_of_beq h4) (by decide)) dX1_friend_4 ?_
  refine v_deref (fun a5 e6 => ?_)
  refine v_iload_n C.1 1 rfl rfl dX1_friend_7 ?_
  refine v_chk (fun h9 => ?_)
  refine v_callFH C [.int p1] [] (ctJ2_get t G l hl0 a5 p1 u) (fun _ _ => cwJ2_getF C q1368 (by decide)) (eq_of_beq h9) (by decide) rfl rfl rfl (by exact Nat.le_of_ble_eq_true rfl) dX1_friend_8 (fun r8 u7 => ?_)
  refine v_chk (fun h10 => ?_)
  refine v_hcastY C 11 (eq_of_beq h10) (by decide) rfl q1548 q387 dX1_friend_13 ?_
  refine v_astore_n C.1 [(2, .ref r8), (0, .ref p0), (1, .int p1)] rfl (by decide) rfl dX1_friend_16 ?_
  refine v_iconst C.1 0 (by decide) dX1_friend_17 ?_
  refine v_istore_n C.1 [(3, .int 0), (2, .ref r8), (0, .ref p0), (1, .int p1)] rfl (by decide) rfl dX1_friend_18 ?_
  refine v_sub [2, 1, 0] rfl ?_
  exact whX1_friend_19 hl0 C p0 p1 FUEL r8 0 u7
theorem cwX1_friend {t : TT} {G : GH} {l : Launch} {p : Program} {s : State} {m : MethodId} {args : Array Value} {meth : Method} {c : Code} {y0 : MethodName} {cc0 : ByteArray} {nL0 : Nat} {ret0 : Option FieldType} (C : CxH t G l p s m args meth c y0 cc0 nL0 ret0) {index lv mc ms K1 K2 : Nat} (hq : Cond.methodLink y0.cls index yX1_friend ∈ lw_all) (hR : 5 + 1 ≤ lv) : CallW (rmH lv K1 K2) s args y0.cls RX1 index yX1_friend cX1_friend 4 (some .int) (ws_ yX1_friend cX1_friend 4 (some .int)) (rmH 5 mc ms) mc ms 1 :=
  cwV 1 C.1.2.2.2.2.1 (lw_V hq q1546 qs48 q121 q1547) rfl rfl rfl (by decide +kernel) ⟨hR, by show 8 + (4 + 11) + 100 * 5 ≤ 100 * lv; omega⟩
def hX1_gain_42 (p0 : Nat) (p1 : Int32) (p2 : Int32) (p3 : Int32) (p4 : Int32) (s0 : Int32) (u : HS) : Option (OH Int32) :=
  if p3 = 1 then
    hret (s0 - 3) u
  else
    hret s0 u
theorem whX1_gain_42 {K1 K2 : Nat} {p : Program} {e : Env} {s : State} {m : MethodId} {args : Array Value} {below : List Frame} {meth : Method} {c : Code} (hl0 : l.stackTraces = false) (C : CxH t G l p s m args meth c yX1_gain cX1_gain 6 (some .int)) (p0 : Nat) (p1 : Int32) (p2 : Int32) (p3 : Int32) (p4 : Int32) (s0 : Int32) (u : HS) : VH mkI t G p l e 6 K1 K2 s m args below meth c 6 42 [(3, .int p3)] [.int s0] u (hX1_gain_42 p0 p1 p2 p3 p4 s0 u) := by
  unfold hX1_gain_42
  refine v_istore C.1 [(5, .int s0), (3, .int p3)] (by decide) rfl dX1_gain_42 ?_
  refine v_iload_n C.1 1 rfl rfl dX1_gain_44 ?_
  refine v_iconst C.1 1 (by decide) dX1_gain_45 ?_
  refine v_icmp_ne C.1 56 (by decide) dX1_gain_46 (fun _ => ?_) (fun _ => ?_)
  · refine v_iload C.1 0 rfl dX1_gain_49 ?_
    refine v_iconst C.1 3 (by decide) dX1_gain_51 ?_
    refine v_isub C.1 dX1_gain_52 ?_
    refine v_goto C.1 58 (by decide) dX1_gain_53 ?_
    exact v_hiret C dX1_gain_58
  · refine v_iload C.1 0 rfl dX1_gain_56 ?_
    exact v_hiret C dX1_gain_58
def hX1_gain_11 (p0 : Nat) (p1 : Int32) (p2 : Int32) (p3 : Int32) (p4 : Int32) (u : HS) : Option (OH Int32) :=
  if p4 = 1 then
    mchk (hC u p0 == 1) <|
    mderef (hR u p0 2) fun a2 =>
    mchk (hC u a2 == 2) <|
    mderef (hR u a2 5) fun a5 =>
    mchk (inA u p1 a5 21) <|
    mchk (hC u p0 == 1) <|
    hb (hX1_friend p0 p2 u) fun r9 u8 =>
    hb (hX1_isOf (hA u a5 p1.toNatClampNeg) r9 u8) fun r12 u11 =>
    if r12 = 0 then
      hX1_gain_42 p0 p1 p2 p3 p4 0 u11
    else
      hX1_gain_42 p0 p1 p2 p3 p4 5 u11
  else
    hX1_gain_42 p0 p1 p2 p3 p4 0 u
theorem whX1_gain_11 {K1 K2 : Nat} {p : Program} {e : Env} {s : State} {m : MethodId} {args : Array Value} {below : List Frame} {meth : Method} {c : Code} (hl0 : l.stackTraces = false) (C : CxH t G l p s m args meth c yX1_gain cX1_gain 6 (some .int)) (p0 : Nat) (p1 : Int32) (p2 : Int32) (p3 : Int32) (p4 : Int32) (u : HS) : VH mkI t G p l e 6 K1 K2 s m args below meth c 6 11 [(0, .ref p0), (1, .int p1), (2, .int p2), (3, .int p3), (4, .int p4)] [] u (hX1_gain_11 p0 p1 p2 p3 p4 u) := by
  unfold hX1_gain_11
  refine v_iload C.1 4 rfl dX1_gain_11 ?_
  refine v_iconst C.1 1 (by decide) dX1_gain_13 ?_
  refine v_icmp_ne C.1 41 (by decide) dX1_gain_14 (fun _ => ?_) (fun _ => ?_)
  · refine v_aload_n C.1 0 rfl rfl dX1_gain_17 ?_
    refine v_chk (fun h1 => ?_)
    refine v_hget C (v := va_rf (hR u p0 2)) 0 2 (eq_of_beq h1) (by decide) rfl in_X1 (by decide) (Or.inl q311) (fun _ h => h) (hF_r (ci := 0) (eq_of_beq h1) (by decide)) dX1_gain_18 ?_
    refine v_deref (fun a2 e3 => ?_)
    refine v_chk (fun h4 => ?_)
    refine v_hget C (v := va_rf (hR u a2 5)) 1 5 (eq_of_beq h4) (by decide) rfl in_X2 (by decide) (Or.inr ⟨_, q217⟩) (fun _ h => h) (hF_r (ci := 1) (eq_of_beq h4) (by decide)) dX1_gain_21 ?_
    refine v_deref (fun a5 e6 => ?_)
    refine v_iload_n C.1 1 rfl rfl dX1_gain_24 ?_
    refine v_chk (fun h7 => ?_)
    refine v_haiald C h7 dX1_gain_25 ?_
    refine v_aload_n C.1 0 rfl rfl dX1_gain_26 ?_
    refine v_iload_n C.1 2 rfl rfl dX1_gain_27 ?_
    refine v_chk (fun h10 => ?_)
    refine v_callVH C [.int p2] [.int (hA u a5 p1.toNatClampNeg)] (ctX1_friend t G l hl0 p0 p2 u) (fun _ _ => cwX1_friend C q1544 (by decide)) (recO C (ci := 0) (eq_of_beq h10) (by decide) rfl) rfl rfl (by exact Nat.le_of_ble_eq_true rfl) dX1_gain_28 (fun r9 u8 => ?_)
    refine v_callSH C [.int (hA u a5 p1.toNatClampNeg), .int r9] [] (ctX1_isOf t G l hl0 (hA u a5 p1.toNatClampNeg) r9 u8) (fun _ _ => cwX1_isOf C q1323 (by decide)) rfl rfl (by exact Nat.le_of_ble_eq_true rfl) dX1_gain_31 (fun r12 u11 => ?_)
    refine v_if_eq C.1 41 (by decide) dX1_gain_34 (fun _ => ?_) (fun _ => ?_)
    · refine v_iconst C.1 0 (by decide) dX1_gain_41 ?_
      refine v_sub [3] rfl ?_
      exact whX1_gain_42 hl0 C p0 p1 p2 p3 p4 0 u11
    · refine v_iconst C.1 5 (by decide) dX1_gain_37 ?_
      refine v_goto C.1 42 (by decide) dX1_gain_38 ?_
      refine v_sub [3] rfl ?_
      exact whX1_gain_42 hl0 C p0 p1 p2 p3 p4 5 u11
  · refine v_iconst C.1 0 (by decide) dX1_gain_41 ?_
    refine v_sub [3] rfl ?_
    exact whX1_gain_42 hl0 C p0 p1 p2 p3 p4 0 u
def hX1_gain (p0 : Nat) (p1 : Int32) (p2 : Int32) (p3 : Int32) (p4 : Int32) (u : HS) : Option (OH Int32) :=
  if p3 = 0 then
    if p4 = 0 then
      hret (-1) u
    else
      hX1_gain_11 p0 p1 p2 p3 p4 u
  else
    hX1_gain_11 p0 p1 p2 p3 p4 u
theorem ctX1_gain (t : TT) (G : GH) (l : Launch) (hl0 : l.stackTraces = false) (p0 : Nat) (p1 : Int32) (p2 : Int32) (p3 : Int32) (p4 : Int32) (u : HS) : CtH mkI t G l yX1_gain cX1_gain 6 (some .int) 6 [.ref p0, .int p1, .int p2, .int p3, .int p4] u (hX1_gain p0 p1 p2 p3 p4 u) := by
  refine ctH_of [(0, .ref p0), (1, .int p1), (2, .int p2), (3, .int p3), (4, .int p4)] hl0 rfl (Nat.le_of_ble_eq_true rfl) rfl (fun K1 K2 p e s m args below meth c C => ?_)
  unfold hX1_gain
  refine v_iload_n C.1 3 rfl rfl dX1_gain_0 ?_
  refine v_if_ne C.1 11 (by decide) dX1_gain_1 (fun _ => ?_) (fun _ => ?_)
  · refine v_iload C.1 4 rfl dX1_gain_4 ?_
    refine v_if_ne C.1 11 (by decide) dX1_gain_6 (fun _ => ?_) (fun _ => ?_)
    · refine v_iconst C.1 (-1) (by decide) dX1_gain_9 ?_
      exact v_hiret C dX1_gain_10
    · exact whX1_gain_11 hl0 C p0 p1 p2 p3 p4 u
  · exact whX1_gain_11 hl0 C p0 p1 p2 p3 p4 u
theorem cwX1_gain {t : TT} {G : GH} {l : Launch} {p : Program} {s : State} {m : MethodId} {args : Array Value} {meth : Method} {c : Code} {y0 : MethodName} {cc0 : ByteArray} {nL0 : Nat} {ret0 : Option FieldType} (C : CxH t G l p s m args meth c y0 cc0 nL0 ret0) {index lv mc ms K1 K2 : Nat} (hq : Cond.methodLink y0.cls index yX1_gain ∈ lw_all) (hR : 6 + 1 ≤ lv) : CallW (rmH lv K1 K2) s args y0.cls RX1 index yX1_gain cX1_gain 6 (some .int) (ws_ yX1_gain cX1_gain 6 (some .int)) (rmH 6 mc ms) mc ms 4 :=
  cwV 4 C.1.2.2.2.2.1 (lw_V hq q1551 qs49 q121 q1552) rfl rfl rfl (by decide +kernel) ⟨hR, by show 8 + (6 + 11) + 100 * 6 ≤ 100 * lv; omega⟩
def hX1_bargain_151 (p0 : Nat) (p1 : Int32) (p2 : Int32) (p3 : Int32) (k69 : Int32 → Int32 → Int32 → Int32 → Int32 → HS → Option (OH (PX Int32))) (k79 : Int32 → Int32 → Int32 → Int32 → Int32 → Int32 → HS → Option (OH (PX Int32))) (x4 : Int32) (x5 : Int32) (x6 : Int32) (x7 : Int32) (x8 : Int32) (x9 : Int32) (u : HS) : Option (OH (PX Int32)) :=
  if x6 = 0 then
    mlet (((10 : Int32) * x8) + x9) fun v1 =>
    k79 x4 x5 (x6 + 1) v1 x8 (x9 + 1) u
  else
    k79 x4 x5 (x6 + 1) x7 x8 (x9 + 1) u
theorem whX1_bargain_151 {K1 K2 : Nat} {p : Program} {e : Env} {s : State} {m : MethodId} {args : Array Value} {below : List Frame} {meth : Method} {c : Code} (hl0 : l.stackTraces = false) (C : CxX t G l p s m args meth c yX1_bargain cX1_bargain 10 (some .int)) (p0 : Nat) (p1 : Int32) (p2 : Int32) (p3 : Int32) (k69 : Int32 → Int32 → Int32 → Int32 → Int32 → HS → Option (OH (PX Int32))) (k79 : Int32 → Int32 → Int32 → Int32 → Int32 → Int32 → HS → Option (OH (PX Int32))) (hk69 : ∀ (x4 : Int32) (x5 : Int32) (x6 : Int32) (x7 : Int32) (x8 : Int32) (u : HS), VX mkI t G p l e 10 K1 K2 s m args below meth c 10 69 [(0, .ref p0), (1, .int p1), (2, .int p2), (3, .int p3), (4, .int x4), (5, .int x5), (6, .int x6), (7, .int x7), (8, .int x8)] [] u (k69 x4 x5 x6 x7 x8 u)) (hk79 : ∀ (x4 : Int32) (x5 : Int32) (x6 : Int32) (x7 : Int32) (x8 : Int32) (x9 : Int32) (u : HS), VX mkI t G p l e 10 K1 K2 s m args below meth c 10 79 [(0, .ref p0), (1, .int p1), (2, .int p2), (3, .int p3), (4, .int x4), (5, .int x5), (6, .int x6), (7, .int x7), (8, .int x8), (9, .int x9)] [] u (k79 x4 x5 x6 x7 x8 x9 u)) (x4 : Int32) (x5 : Int32) (x6 : Int32) (x7 : Int32) (x8 : Int32) (x9 : Int32) (u : HS) : VX mkI t G p l e 10 K1 K2 s m args below meth c 10 151 [(0, .ref p0), (1, .int p1), (2, .int p2), (3, .int p3), (4, .int x4), (5, .int x5), (6, .int x6), (7, .int x7), (8, .int x8), (9, .int x9)] [] u (hX1_bargain_151 p0 p1 p2 p3 k69 k79 x4 x5 x6 x7 x8 x9 u) := by
  unfold hX1_bargain_151
  refine v_iload C.1.1 6 rfl dX1_bargain_151 ?_
  refine v_if_ne C.1.1 166 (by decide) dX1_bargain_153 (fun _ => ?_) (fun _ => ?_)
  · refine v_bipush C.1.1 10 (by decide) dX1_bargain_156 ?_
    refine v_iload C.1.1 8 rfl dX1_bargain_158 ?_
    refine v_imul C.1.1 dX1_bargain_160 ?_
    refine v_iload C.1.1 9 rfl dX1_bargain_161 ?_
    refine v_iadd C.1.1 dX1_bargain_163 ?_
    refine v_topi (fun v1 => ?_)
    refine v_istore C.1.1 [(7, .int v1), (0, .ref p0), (1, .int p1), (2, .int p2), (3, .int p3), (4, .int x4), (5, .int x5), (6, .int x6), (8, .int x8), (9, .int x9)] (by decide) rfl dX1_bargain_164 ?_
    refine v_iinc C.1.1 1 [(6, .int (x6 + 1)), (7, .int v1), (0, .ref p0), (1, .int p1), (2, .int p2), (3, .int p3), (4, .int x4), (5, .int x5), (8, .int x8), (9, .int x9)] 7 rfl (by decide) (by decide) rfl dX1_bargain_166 ?_
    refine v_iinc C.1.1 1 [(9, .int (x9 + 1)), (6, .int (x6 + 1)), (7, .int v1), (0, .ref p0), (1, .int p1), (2, .int p2), (3, .int p3), (4, .int x4), (5, .int x5), (8, .int x8)] 9 rfl (by decide) (by decide) rfl dX1_bargain_169 ?_
    refine v_goto C.1.1 79 (by decide) dX1_bargain_172 ?_
    refine v_sub [3, 4, 5, 6, 7, 8, 1, 2, 9, 0] rfl ?_
    exact hk79 x4 x5 (x6 + 1) v1 x8 (x9 + 1) u
  · refine v_iinc C.1.1 1 [(6, .int (x6 + 1)), (0, .ref p0), (1, .int p1), (2, .int p2), (3, .int p3), (4, .int x4), (5, .int x5), (7, .int x7), (8, .int x8), (9, .int x9)] 6 rfl (by decide) (by decide) rfl dX1_bargain_166 ?_
    refine v_iinc C.1.1 1 [(9, .int (x9 + 1)), (6, .int (x6 + 1)), (0, .ref p0), (1, .int p1), (2, .int p2), (3, .int p3), (4, .int x4), (5, .int x5), (7, .int x7), (8, .int x8)] 9 rfl (by decide) (by decide) rfl dX1_bargain_169 ?_
    refine v_goto C.1.1 79 (by decide) dX1_bargain_172 ?_
    refine v_sub [2, 3, 4, 5, 6, 7, 1, 8, 9, 0] rfl ?_
    exact hk79 x4 x5 (x6 + 1) x7 x8 (x9 + 1) u
def hX1_bargain_117 (p0 : Nat) (p1 : Int32) (p2 : Int32) (p3 : Int32) (k69 : Int32 → Int32 → Int32 → Int32 → Int32 → HS → Option (OH (PX Int32))) (k79 : Int32 → Int32 → Int32 → Int32 → Int32 → Int32 → HS → Option (OH (PX Int32))) (x4 : Int32) (x5 : Int32) (x6 : Int32) (x7 : Int32) (x8 : Int32) (x9 : Int32) (u : HS) : Option (OH (PX Int32)) :=
  if x5 = 2 then
    mchk (hC u p0 == 1) <|
    hb (hX1_gain p0 p2 p1 ((1 : Int32) - x9) x8 u) fun r2 u1 =>
    mchk (hC u1 p0 == 1) <|
    hb (hX1_gain p0 p2 p1 x9 x8 u1) fun r5 u4 =>
    if r2 ≤ r5 then
      hX1_bargain_151 p0 p1 p2 p3 k69 k79 x4 x5 x6 x7 x8 x9 u4
    else
      k79 x4 x5 x6 x7 x8 (x9 + 1) u4
  else
    hX1_bargain_151 p0 p1 p2 p3 k69 k79 x4 x5 x6 x7 x8 x9 u
theorem whX1_bargain_117 {K1 K2 : Nat} {p : Program} {e : Env} {s : State} {m : MethodId} {args : Array Value} {below : List Frame} {meth : Method} {c : Code} (hl0 : l.stackTraces = false) (C : CxX t G l p s m args meth c yX1_bargain cX1_bargain 10 (some .int)) (p0 : Nat) (p1 : Int32) (p2 : Int32) (p3 : Int32) (k69 : Int32 → Int32 → Int32 → Int32 → Int32 → HS → Option (OH (PX Int32))) (k79 : Int32 → Int32 → Int32 → Int32 → Int32 → Int32 → HS → Option (OH (PX Int32))) (hk69 : ∀ (x4 : Int32) (x5 : Int32) (x6 : Int32) (x7 : Int32) (x8 : Int32) (u : HS), VX mkI t G p l e 10 K1 K2 s m args below meth c 10 69 [(0, .ref p0), (1, .int p1), (2, .int p2), (3, .int p3), (4, .int x4), (5, .int x5), (6, .int x6), (7, .int x7), (8, .int x8)] [] u (k69 x4 x5 x6 x7 x8 u)) (hk79 : ∀ (x4 : Int32) (x5 : Int32) (x6 : Int32) (x7 : Int32) (x8 : Int32) (x9 : Int32) (u : HS), VX mkI t G p l e 10 K1 K2 s m args below meth c 10 79 [(0, .ref p0), (1, .int p1), (2, .int p2), (3, .int p3), (4, .int x4), (5, .int x5), (6, .int x6), (7, .int x7), (8, .int x8), (9, .int x9)] [] u (k79 x4 x5 x6 x7 x8 x9 u)) (x4 : Int32) (x5 : Int32) (x6 : Int32) (x7 : Int32) (x8 : Int32) (x9 : Int32) (u : HS) : VX mkI t G p l e 10 K1 K2 s m args below meth c 10 117 [(0, .ref p0), (1, .int p1), (2, .int p2), (3, .int p3), (4, .int x4), (5, .int x5), (6, .int x6), (7, .int x7), (8, .int x8), (9, .int x9)] [] u (hX1_bargain_117 p0 p1 p2 p3 k69 k79 x4 x5 x6 x7 x8 x9 u) := by
  unfold hX1_bargain_117
  refine v_iload C.1.1 5 rfl dX1_bargain_117 ?_
  refine v_iconst C.1.1 2 (by decide) dX1_bargain_119 ?_
  refine v_icmp_ne C.1.1 151 (by decide) dX1_bargain_120 (fun _ => ?_) (fun _ => ?_)
  · refine v_aload_n C.1.1 0 rfl rfl dX1_bargain_123 ?_
    refine v_iload_n C.1.1 2 rfl rfl dX1_bargain_124 ?_
    refine v_iload_n C.1.1 1 rfl rfl dX1_bargain_125 ?_
    refine v_iconst C.1.1 1 (by decide) dX1_bargain_126 ?_
    refine v_iload C.1.1 9 rfl dX1_bargain_127 ?_
    refine v_isub C.1.1 dX1_bargain_129 ?_
    refine v_iload C.1.1 8 rfl dX1_bargain_130 ?_
    refine v_chk (fun h3 => ?_)
    refine v_callVH C.1 [.int p2, .int p1, .int ((1 : Int32) - x9), .int x8] [] (ctX1_gain t G l hl0 p0 p2 p1 ((1 : Int32) - x9) x8 u) (fun _ _ => cwX1_gain C.1 q1549 (by decide)) (recO C.1 (ci := 0) (eq_of_beq h3) (by decide) rfl) rfl rfl (by exact Nat.le_of_ble_eq_true rfl) dX1_bargain_132 (fun r2 u1 => ?_)
    refine v_aload_n C.1.1 0 rfl rfl dX1_bargain_135 ?_
    refine v_iload_n C.1.1 2 rfl rfl dX1_bargain_136 ?_
    refine v_iload_n C.1.1 1 rfl rfl dX1_bargain_137 ?_
    refine v_iload C.1.1 9 rfl dX1_bargain_138 ?_
    refine v_iload C.1.1 8 rfl dX1_bargain_140 ?_
    refine v_chk (fun h6 => ?_)
    refine v_callVH C.1 [.int p2, .int p1, .int x9, .int x8] [.int r2] (ctX1_gain t G l hl0 p0 p2 p1 x9 x8 u1) (fun _ _ => cwX1_gain C.1 q1549 (by decide)) (recO C.1 (ci := 0) (eq_of_beq h6) (by decide) rfl) rfl rfl (by exact Nat.le_of_ble_eq_true rfl) dX1_bargain_142 (fun r5 u4 => ?_)
    refine v_icmp_le C.1.1 151 (by decide) dX1_bargain_145 (fun _ => ?_) (fun _ => ?_)
    · exact whX1_bargain_151 hl0 C p0 p1 p2 p3 k69 k79 hk69 hk79 x4 x5 x6 x7 x8 x9 u4
    · refine v_goto C.1.1 169 (by decide) dX1_bargain_148 ?_
      refine v_iinc C.1.1 1 [(9, .int (x9 + 1)), (0, .ref p0), (1, .int p1), (2, .int p2), (3, .int p3), (4, .int x4), (5, .int x5), (6, .int x6), (7, .int x7), (8, .int x8)] 9 rfl (by decide) (by decide) rfl dX1_bargain_169 ?_
      refine v_goto C.1.1 79 (by decide) dX1_bargain_172 ?_
      refine v_sub [1, 2, 3, 4, 5, 6, 7, 8, 9, 0] rfl ?_
      exact hk79 x4 x5 x6 x7 x8 (x9 + 1) u4
  · exact whX1_bargain_151 hl0 C p0 p1 p2 p3 k69 k79 hk69 hk79 x4 x5 x6 x7 x8 x9 u
def hX1_bargain_79 (p0 : Nat) (p1 : Int32) (p2 : Int32) (p3 : Int32) (k69 : Int32 → Int32 → Int32 → Int32 → Int32 → HS → Option (OH (PX Int32))) (k : Int32 → Int32 → Int32 → Int32 → Int32 → Int32 → HS → Option (OH (PX Int32))) (x4 : Int32) (x5 : Int32) (x6 : Int32) (x7 : Int32) (x8 : Int32) (x9 : Int32) (u : HS) : Option (OH (PX Int32)) :=
  if x5 ≤ x9 then
    k69 x4 x5 x6 x7 (x8 + 1) u
  else
    if x4 = 2 then
      mchk (hC u p0 == 1) <|
      hb (hX1_gain p0 p1 p2 ((1 : Int32) - x8) x9 u) fun r2 u1 =>
      mchk (hC u1 p0 == 1) <|
      hb (hX1_gain p0 p1 p2 x8 x9 u1) fun r5 u4 =>
      if r5 < r2 then
        k x4 x5 x6 x7 x8 (x9 + 1) u4
      else
        hX1_bargain_117 p0 p1 p2 p3 k69 k x4 x5 x6 x7 x8 x9 u4
    else
      hX1_bargain_117 p0 p1 p2 p3 k69 k x4 x5 x6 x7 x8 x9 u
theorem whX1_bargain_79 {K1 K2 : Nat} {p : Program} {e : Env} {s : State} {m : MethodId} {args : Array Value} {below : List Frame} {meth : Method} {c : Code} (hl0 : l.stackTraces = false) (C : CxX t G l p s m args meth c yX1_bargain cX1_bargain 10 (some .int)) (p0 : Nat) (p1 : Int32) (p2 : Int32) (p3 : Int32) (k69 : Int32 → Int32 → Int32 → Int32 → Int32 → HS → Option (OH (PX Int32))) (hk69 : ∀ (x4 : Int32) (x5 : Int32) (x6 : Int32) (x7 : Int32) (x8 : Int32) (u : HS), VX mkI t G p l e 10 K1 K2 s m args below meth c 10 69 [(0, .ref p0), (1, .int p1), (2, .int p2), (3, .int p3), (4, .int x4), (5, .int x5), (6, .int x6), (7, .int x7), (8, .int x8)] [] u (k69 x4 x5 x6 x7 x8 u)) (n : Nat) (x4 : Int32) (x5 : Int32) (x6 : Int32) (x7 : Int32) (x8 : Int32) (x9 : Int32) (u : HS) : VX mkI t G p l e 10 K1 K2 s m args below meth c 10 79 [(0, .ref p0), (1, .int p1), (2, .int p2), (3, .int p3), (4, .int x4), (5, .int x5), (6, .int x6), (7, .int x7), (8, .int x8), (9, .int x9)] [] u (ml6 (hX1_bargain_79 p0 p1 p2 p3 k69) n x4 x5 x6 x7 x8 x9 u) := by
  refine vl6 (L := fun x4 x5 x6 x7 x8 x9 => [(0, .ref p0), (1, .int p1), (2, .int p2), (3, .int p3), (4, .int x4), (5, .int x5), (6, .int x6), (7, .int x7), (8, .int x8), (9, .int x9)]) (fun k hk x4 x5 x6 x7 x8 x9 u => ?_) n x4 x5 x6 x7 x8 x9 u
  unfold hX1_bargain_79
  refine v_iload C.1.1 9 rfl dX1_bargain_79 ?_
  refine v_iload C.1.1 5 rfl dX1_bargain_81 ?_
  refine v_icmp_ge C.1.1 175 (by decide) dX1_bargain_83 (fun _ => ?_) (fun _ => ?_)
  · refine v_iinc C.1.1 1 [(8, .int (x8 + 1)), (0, .ref p0), (1, .int p1), (2, .int p2), (3, .int p3), (4, .int x4), (5, .int x5), (6, .int x6), (7, .int x7), (9, .int x9)] 8 rfl (by decide) (by decide) rfl dX1_bargain_175 ?_
    refine v_goto C.1.1 69 (by decide) dX1_bargain_178 ?_
    refine v_sub [1, 2, 3, 4, 5, 6, 7, 8, 0] rfl ?_
    exact hk69 x4 x5 x6 x7 (x8 + 1) u
  · refine v_iload C.1.1 4 rfl dX1_bargain_86 ?_
    refine v_iconst C.1.1 2 (by decide) dX1_bargain_88 ?_
    refine v_icmp_ne C.1.1 117 (by decide) dX1_bargain_89 (fun _ => ?_) (fun _ => ?_)
    · refine v_aload_n C.1.1 0 rfl rfl dX1_bargain_92 ?_
      refine v_iload_n C.1.1 1 rfl rfl dX1_bargain_93 ?_
      refine v_iload_n C.1.1 2 rfl rfl dX1_bargain_94 ?_
      refine v_iconst C.1.1 1 (by decide) dX1_bargain_95 ?_
      refine v_iload C.1.1 8 rfl dX1_bargain_96 ?_
      refine v_isub C.1.1 dX1_bargain_98 ?_
      refine v_iload C.1.1 9 rfl dX1_bargain_99 ?_
      refine v_chk (fun h3 => ?_)
      refine v_callVH C.1 [.int p1, .int p2, .int ((1 : Int32) - x8), .int x9] [] (ctX1_gain t G l hl0 p0 p1 p2 ((1 : Int32) - x8) x9 u) (fun _ _ => cwX1_gain C.1 q1549 (by decide)) (recO C.1 (ci := 0) (eq_of_beq h3) (by decide) rfl) rfl rfl (by exact Nat.le_of_ble_eq_true rfl) dX1_bargain_101 (fun r2 u1 => ?_)
      refine v_aload_n C.1.1 0 rfl rfl dX1_bargain_104 ?_
      refine v_iload_n C.1.1 1 rfl rfl dX1_bargain_105 ?_
      refine v_iload_n C.1.1 2 rfl rfl dX1_bargain_106 ?_
      refine v_iload C.1.1 8 rfl dX1_bargain_107 ?_
      refine v_iload C.1.1 9 rfl dX1_bargain_109 ?_
      refine v_chk (fun h6 => ?_)
      refine v_callVH C.1 [.int p1, .int p2, .int x8, .int x9] [.int r2] (ctX1_gain t G l hl0 p0 p1 p2 x8 x9 u1) (fun _ _ => cwX1_gain C.1 q1549 (by decide)) (recO C.1 (ci := 0) (eq_of_beq h6) (by decide) rfl) rfl rfl (by exact Nat.le_of_ble_eq_true rfl) dX1_bargain_111 (fun r5 u4 => ?_)
      refine v_icmp_gt C.1.1 169 (by decide) dX1_bargain_114 (fun _ => ?_) (fun _ => ?_)
      · refine v_iinc C.1.1 1 [(9, .int (x9 + 1)), (0, .ref p0), (1, .int p1), (2, .int p2), (3, .int p3), (4, .int x4), (5, .int x5), (6, .int x6), (7, .int x7), (8, .int x8)] 9 rfl (by decide) (by decide) rfl dX1_bargain_169 ?_
        refine v_goto C.1.1 79 (by decide) dX1_bargain_172 ?_
        refine v_sub [1, 2, 3, 4, 5, 6, 7, 8, 9, 0] rfl ?_
        exact hk x4 x5 x6 x7 x8 (x9 + 1) u4
      · exact whX1_bargain_117 hl0 C p0 p1 p2 p3 k69 k hk69 hk x4 x5 x6 x7 x8 x9 u4
    · exact whX1_bargain_117 hl0 C p0 p1 p2 p3 k69 k hk69 hk x4 x5 x6 x7 x8 x9 u
def hX1_bargain_69 (p0 : Nat) (p1 : Int32) (p2 : Int32) (p3 : Int32) (k : Int32 → Int32 → Int32 → Int32 → Int32 → HS → Option (OH (PX Int32))) (x4 : Int32) (x5 : Int32) (x6 : Int32) (x7 : Int32) (x8 : Int32) (u : HS) : Option (OH (PX Int32)) :=
  if x4 ≤ x8 then
    if p3 = 0 then
      hret (.inl x6) u
    else
      hret (.inl x7) u
  else
    ml6 (hX1_bargain_79 p0 p1 p2 p3 k) FUEL x4 x5 x6 x7 x8 0 u
theorem whX1_bargain_69 {K1 K2 : Nat} {p : Program} {e : Env} {s : State} {m : MethodId} {args : Array Value} {below : List Frame} {meth : Method} {c : Code} (hl0 : l.stackTraces = false) (C : CxX t G l p s m args meth c yX1_bargain cX1_bargain 10 (some .int)) (p0 : Nat) (p1 : Int32) (p2 : Int32) (p3 : Int32) (n : Nat) (x4 : Int32) (x5 : Int32) (x6 : Int32) (x7 : Int32) (x8 : Int32) (u : HS) : VX mkI t G p l e 10 K1 K2 s m args below meth c 10 69 [(0, .ref p0), (1, .int p1), (2, .int p2), (3, .int p3), (4, .int x4), (5, .int x5), (6, .int x6), (7, .int x7), (8, .int x8)] [] u (ml5 (hX1_bargain_69 p0 p1 p2 p3) n x4 x5 x6 x7 x8 u) := by
  refine vl5 (L := fun x4 x5 x6 x7 x8 => [(0, .ref p0), (1, .int p1), (2, .int p2), (3, .int p3), (4, .int x4), (5, .int x5), (6, .int x6), (7, .int x7), (8, .int x8)]) (fun k hk x4 x5 x6 x7 x8 u => ?_) n x4 x5 x6 x7 x8 u
  unfold hX1_bargain_69
  refine v_iload C.1.1 8 rfl dX1_bargain_69 ?_
  refine v_iload C.1.1 4 rfl dX1_bargain_71 ?_
  refine v_icmp_ge C.1.1 181 (by decide) dX1_bargain_73 (fun _ => ?_) (fun _ => ?_)
  · refine v_iload_n C.1.1 3 rfl rfl dX1_bargain_181 ?_
    refine v_if_ne C.1.1 190 (by decide) dX1_bargain_182 (fun _ => ?_) (fun _ => ?_)
    · refine v_iload C.1.1 6 rfl dX1_bargain_185 ?_
      refine v_goto C.1.1 192 (by decide) dX1_bargain_187 ?_
      exact v_xiret C.1 dX1_bargain_192
    · refine v_iload C.1.1 7 rfl dX1_bargain_190 ?_
      exact v_xiret C.1 dX1_bargain_192
  · refine v_iconst C.1.1 0 (by decide) dX1_bargain_76 ?_
    refine v_istore C.1.1 [(9, .int 0), (0, .ref p0), (1, .int p1), (2, .int p2), (3, .int p3), (4, .int x4), (5, .int x5), (6, .int x6), (7, .int x7), (8, .int x8)] (by decide) rfl dX1_bargain_77 ?_
    refine v_sub [1, 2, 3, 4, 5, 6, 7, 8, 9, 0] rfl ?_
    exact whX1_bargain_79 hl0 C p0 p1 p2 p3 k hk FUEL x4 x5 x6 x7 x8 0 u
def hX1_bargain_42 (p0 : Nat) (p1 : Int32) (p2 : Int32) (p3 : Int32) (s0 : Int32) (u : HS) : Option (OH (PX Int32)) :=
  mchk (hC u p0 == 1) <|
  hb (hX1_friend p0 p2 u) fun r2 u1 =>
  if r2 = (-1) then
    ml5 (hX1_bargain_69 p0 p1 p2 p3) FUEL s0 1 0 (-1) 0 u1
  else
    ml5 (hX1_bargain_69 p0 p1 p2 p3) FUEL s0 2 0 (-1) 0 u1
theorem whX1_bargain_42 {K1 K2 : Nat} {p : Program} {e : Env} {s : State} {m : MethodId} {args : Array Value} {below : List Frame} {meth : Method} {c : Code} (hl0 : l.stackTraces = false) (C : CxX t G l p s m args meth c yX1_bargain cX1_bargain 10 (some .int)) (p0 : Nat) (p1 : Int32) (p2 : Int32) (p3 : Int32) (s0 : Int32) (u : HS) : VX mkI t G p l e 10 K1 K2 s m args below meth c 10 42 [(0, .ref p0), (1, .int p1), (2, .int p2), (3, .int p3)] [.int s0] u (hX1_bargain_42 p0 p1 p2 p3 s0 u) := by
  unfold hX1_bargain_42
  refine v_istore C.1.1 [(4, .int s0), (0, .ref p0), (1, .int p1), (2, .int p2), (3, .int p3)] (by decide) rfl dX1_bargain_42 ?_
  refine v_aload_n C.1.1 1 rfl rfl dX1_bargain_44 ?_
  refine v_iload_n C.1.1 3 rfl rfl dX1_bargain_45 ?_
  refine v_chk (fun h3 => ?_)
  refine v_callVH C.1 [.int p2] [] (ctX1_friend t G l hl0 p0 p2 u) (fun _ _ => cwX1_friend C.1 q1544 (by decide)) (recO C.1 (ci := 0) (eq_of_beq h3) (by decide) rfl) rfl rfl (by exact Nat.le_of_ble_eq_true rfl) dX1_bargain_46 (fun r2 u1 => ?_)
  refine v_iconst C.1.1 (-1) (by decide) dX1_bargain_49 ?_
  refine v_icmp_ne C.1.1 57 (by decide) dX1_bargain_50 (fun _ => ?_) (fun _ => ?_)
  · refine v_iconst C.1.1 1 (by decide) dX1_bargain_53 ?_
    refine v_goto C.1.1 58 (by decide) dX1_bargain_54 ?_
    refine v_istore C.1.1 [(5, .int 1), (4, .int s0), (0, .ref p0), (1, .int p1), (2, .int p2), (3, .int p3)] (by decide) rfl dX1_bargain_58 ?_
    refine v_iconst C.1.1 0 (by decide) dX1_bargain_60 ?_
    refine v_istore C.1.1 [(6, .int 0), (5, .int 1), (4, .int s0), (0, .ref p0), (1, .int p1), (2, .int p2), (3, .int p3)] (by decide) rfl dX1_bargain_61 ?_
    refine v_iconst C.1.1 (-1) (by decide) dX1_bargain_63 ?_
    refine v_istore C.1.1 [(7, .int (-1)), (6, .int 0), (5, .int 1), (4, .int s0), (0, .ref p0), (1, .int p1), (2, .int p2), (3, .int p3)] (by decide) rfl dX1_bargain_64 ?_
    refine v_iconst C.1.1 0 (by decide) dX1_bargain_66 ?_
    refine v_istore C.1.1 [(8, .int 0), (7, .int (-1)), (6, .int 0), (5, .int 1), (4, .int s0), (0, .ref p0), (1, .int p1), (2, .int p2), (3, .int p3)] (by decide) rfl dX1_bargain_67 ?_
    refine v_sub [5, 6, 7, 8, 4, 3, 2, 1, 0] rfl ?_
    exact whX1_bargain_69 hl0 C p0 p1 p2 p3 FUEL s0 1 0 (-1) 0 u1
  · refine v_iconst C.1.1 2 (by decide) dX1_bargain_57 ?_
    refine v_istore C.1.1 [(5, .int 2), (4, .int s0), (0, .ref p0), (1, .int p1), (2, .int p2), (3, .int p3)] (by decide) rfl dX1_bargain_58 ?_
    refine v_iconst C.1.1 0 (by decide) dX1_bargain_60 ?_
    refine v_istore C.1.1 [(6, .int 0), (5, .int 2), (4, .int s0), (0, .ref p0), (1, .int p1), (2, .int p2), (3, .int p3)] (by decide) rfl dX1_bargain_61 ?_
    refine v_iconst C.1.1 (-1) (by decide) dX1_bargain_63 ?_
    refine v_istore C.1.1 [(7, .int (-1)), (6, .int 0), (5, .int 2), (4, .int s0), (0, .ref p0), (1, .int p1), (2, .int p2), (3, .int p3)] (by decide) rfl dX1_bargain_64 ?_
    refine v_iconst C.1.1 0 (by decide) dX1_bargain_66 ?_
    refine v_istore C.1.1 [(8, .int 0), (7, .int (-1)), (6, .int 0), (5, .int 2), (4, .int s0), (0, .ref p0), (1, .int p1), (2, .int p2), (3, .int p3)] (by decide) rfl dX1_bargain_67 ?_
    refine v_sub [5, 6, 7, 8, 4, 3, 2, 1, 0] rfl ?_
    exact whX1_bargain_69 hl0 C p0 p1 p2 p3 FUEL s0 2 0 (-1) 0 u1
def hX1_bargain_25 (p0 : Nat) (p1 : Int32) (p2 : Int32) (p3 : Int32) (s0 : Int32) (u : HS) : Option (OH (PX Int32)) :=
  hx (hX1_right s0 u) fun _ u1 =>
  mchk (hC u1 p0 == 1) <|
  hb (hX1_friend p0 p1 u1) fun r3 u2 =>
  if r3 = (-1) then
    hX1_bargain_42 p0 p1 p2 p3 1 u2
  else
    hX1_bargain_42 p0 p1 p2 p3 2 u2
theorem whX1_bargain_25 {K1 K2 : Nat} {p : Program} {e : Env} {s : State} {m : MethodId} {args : Array Value} {below : List Frame} {meth : Method} {c : Code} (hl0 : l.stackTraces = false) (C : CxX t G l p s m args meth c yX1_bargain cX1_bargain 10 (some .int)) (p0 : Nat) (p1 : Int32) (p2 : Int32) (p3 : Int32) (s0 : Int32) (u : HS) : VX mkI t G p l e 10 K1 K2 s m args below meth c 10 25 [(0, .ref p0), (1, .int p1), (2, .int p2), (3, .int p3)] [.int s0] u (hX1_bargain_25 p0 p1 p2 p3 s0 u) := by
  unfold hX1_bargain_25
  refine v_callSX C [.int s0] [] (ctX1_right t G l hl0 s0 u) (fun _ _ => cwX1_right C.1 q760 (by decide)) rfl rfl (by exact Nat.le_of_ble_eq_true rfl) dX1_bargain_25 (fun _ u1 => ?_)
  refine v_aload_n C.1.1 0 rfl rfl dX1_bargain_28 ?_
  refine v_iload_n C.1.1 1 rfl rfl dX1_bargain_29 ?_
  refine v_chk (fun h4 => ?_)
  refine v_callVH C.1 [.int p1] [] (ctX1_friend t G l hl0 p0 p1 u1) (fun _ _ => cwX1_friend C.1 q1544 (by decide)) (recO C.1 (ci := 0) (eq_of_beq h4) (by decide) rfl) rfl rfl (by exact Nat.le_of_ble_eq_true rfl) dX1_bargain_30 (fun r3 u2 => ?_)
  refine v_iconst C.1.1 (-1) (by decide) dX1_bargain_33 ?_
  refine v_icmp_ne C.1.1 41 (by decide) dX1_bargain_34 (fun _ => ?_) (fun _ => ?_)
  · refine v_iconst C.1.1 1 (by decide) dX1_bargain_37 ?_
    refine v_goto C.1.1 42 (by decide) dX1_bargain_38 ?_
    exact whX1_bargain_42 hl0 C p0 p1 p2 p3 1 u2
  · refine v_iconst C.1.1 2 (by decide) dX1_bargain_41 ?_
    exact whX1_bargain_42 hl0 C p0 p1 p2 p3 2 u2
def hX1_bargain (p0 : Nat) (p1 : Int32) (p2 : Int32) (p3 : Int32) (u : HS) : Option (OH (PX Int32)) :=
  mchk (hC u p0 == 1) <|
  hx (hX1_aMaster p0 p1 u) fun _ u1 =>
  mchk (hC u1 p0 == 1) <|
  hx (hX1_aMaster p0 p2 u1) fun _ u3 =>
  hx (hX1_oneOf p3 1 u3) fun _ u5 =>
  if p1 = p2 then
    hX1_bargain_25 p0 p1 p2 p3 0 u5
  else
    hX1_bargain_25 p0 p1 p2 p3 1 u5
theorem ctX1_bargain (t : TT) (G : GH) (l : Launch) (hl0 : l.stackTraces = false) (p0 : Nat) (p1 : Int32) (p2 : Int32) (p3 : Int32) (u : HS) : CtX mkI t G l yX1_bargain cX1_bargain 10 (some .int) 10 [.ref p0, .int p1, .int p2, .int p3] u (hX1_bargain p0 p1 p2 p3 u) := by
  refine ctX_of [(0, .ref p0), (1, .int p1), (2, .int p2), (3, .int p3)] hl0 rfl (Nat.le_of_ble_eq_true rfl) rfl (fun K1 K2 p e s m args below meth c C => ?_)
  unfold hX1_bargain
  refine v_aload_n C.1.1 0 rfl rfl dX1_bargain_0 ?_
  refine v_iload_n C.1.1 1 rfl rfl dX1_bargain_1 ?_
  refine v_chk (fun h2 => ?_)
  refine v_callVX C [.int p1] [] (ctX1_aMaster t G l hl0 p0 p1 u) (fun _ _ => cwX1_aMaster C.1 q1349 (by decide)) (recO C.1 (ci := 0) (eq_of_beq h2) (by decide) rfl) rfl rfl (by exact Nat.le_of_ble_eq_true rfl) dX1_bargain_2 (fun _ u1 => ?_)
  refine v_aload_n C.1.1 0 rfl rfl dX1_bargain_5 ?_
  refine v_iload_n C.1.1 2 rfl rfl dX1_bargain_6 ?_
  refine v_chk (fun h4 => ?_)
  refine v_callVX C [.int p2] [] (ctX1_aMaster t G l hl0 p0 p2 u1) (fun _ _ => cwX1_aMaster C.1 q1349 (by decide)) (recO C.1 (ci := 0) (eq_of_beq h4) (by decide) rfl) rfl rfl (by exact Nat.le_of_ble_eq_true rfl) dX1_bargain_7 (fun _ u3 => ?_)
  refine v_iload_n C.1.1 3 rfl rfl dX1_bargain_10 ?_
  refine v_iconst C.1.1 1 (by decide) dX1_bargain_11 ?_
  refine v_callSX C [.int p3, .int 1] [] (ctX1_oneOf t G l hl0 p3 1 u3) (fun _ _ => cwX1_oneOf C.1 q1353 (by decide)) rfl rfl (by exact Nat.le_of_ble_eq_true rfl) dX1_bargain_12 (fun _ u5 => ?_)
  refine v_iload_n C.1.1 1 rfl rfl dX1_bargain_15 ?_
  refine v_iload_n C.1.1 2 rfl rfl dX1_bargain_16 ?_
  refine v_icmp_eq C.1.1 24 (by decide) dX1_bargain_17 (fun _ => ?_) (fun _ => ?_)
  · refine v_iconst C.1.1 0 (by decide) dX1_bargain_24 ?_
    exact whX1_bargain_25 hl0 C p0 p1 p2 p3 0 u5
  · refine v_iconst C.1.1 1 (by decide) dX1_bargain_20 ?_
    refine v_goto C.1.1 25 (by decide) dX1_bargain_21 ?_
    exact whX1_bargain_25 hl0 C p0 p1 p2 p3 1 u5
theorem cwX1_bargain {t : TT} {G : GH} {l : Launch} {p : Program} {s : State} {m : MethodId} {args : Array Value} {meth : Method} {c : Code} {y0 : MethodName} {cc0 : ByteArray} {nL0 : Nat} {ret0 : Option FieldType} (C : CxH t G l p s m args meth c y0 cc0 nL0 ret0) {index lv mc ms K1 K2 : Nat} (hq : Cond.methodLink y0.cls index yX1_bargain ∈ lw_all) (hR : 10 + 1 ≤ lv) : CallW (rmH lv K1 K2) s args y0.cls RX1 index yX1_bargain cX1_bargain 10 (some .int) (ws_ yX1_bargain cX1_bargain 10 (some .int)) (rmH 10 mc ms) mc ms 3 :=
  cwV 3 C.1.2.2.2.2.1 (lw_V hq q1541 q1542 q121 q1543) rfl rfl rfl (by decide +kernel) ⟨hR, by show 8 + (10 + 11) + 100 * 10 ≤ 100 * lv; omega⟩
def hX1_draw (p0 : Nat) (p1 : Int32) (u : HS) : Option (OH Int32) :=
  mchk (hC u p0 == 1) <|
  mchk (hC u p0 == 1) <|
  mlet (uI u p0 13 (((hI u p0 13) * 1103515245) + 12345)) fun u3 =>
  mchk (hC u3 p0 == 1) <|
  mchk (p1 != 0) <|
  hret ((((hI u3 p0 13) >>> ((16 : Int32) &&& 31)) &&& 32767) - (((hI u3 p0 13) >>> ((16 : Int32) &&& 31)) &&& 32767) / p1 * p1) u3
theorem ctX1_draw (t : TT) (G : GH) (l : Launch) (hl0 : l.stackTraces = false) (p0 : Nat) (p1 : Int32) (u : HS) : CtH mkI t G l yX1_draw cX1_draw 2 (some .int) 2 [.ref p0, .int p1] u (hX1_draw p0 p1 u) := by
  refine ctH_of [(0, .ref p0), (1, .int p1)] hl0 rfl (Nat.le_of_ble_eq_true rfl) rfl (fun K1 K2 p e s m args below meth c C => ?_)
  unfold hX1_draw
  refine v_aload_n C.1 0 rfl rfl dX1_draw_0 ?_
  refine v_aload_n C.1 0 rfl rfl dX1_draw_1 ?_
  refine v_chk (fun h1 => ?_)
  refine v_hget C (v := .int (hI u p0 13)) 0 13 (eq_of_beq h1) (by decide) rfl in_X1 (by decide) (Or.inl q323) (fun _ h => h) (hF_i (ci := 0) (eq_of_beq h1) (by decide)) dX1_draw_2 ?_
  refine v_ldcw C.1 q1568 dX1_draw_5 ?_
  refine v_imul C.1 dX1_draw_8 ?_
  refine v_sipush C.1 12345 (by decide) dX1_draw_9 ?_
  refine v_iadd C.1 dX1_draw_12 ?_
  refine v_chk (fun h2 => ?_)
  refine v_hputI C 0 13 (eq_of_beq h2) (by decide) rfl in_X1 tyX1 tyX1_ok nmX1 (by decide) (by decide) q323 (fun _ h => h) (Or.inl rfl) ⟨rfl, rfl⟩ dX1_draw_13 (fun u3 => ?_)
  refine v_aload_n C.1 0 rfl rfl dX1_draw_16 ?_
  refine v_chk (fun h4 => ?_)
  refine v_hget C (v := .int (hI u3 p0 13)) 0 13 (eq_of_beq h4) (by decide) rfl in_X1 (by decide) (Or.inl q323) (fun _ h => h) (hF_i (ci := 0) (eq_of_beq h4) (by decide)) dX1_draw_17 ?_
  refine v_bipush C.1 16 (by decide) dX1_draw_20 ?_
  refine v_ishr C.1 dX1_draw_22 ?_
  refine v_sipush C.1 32767 (by decide) dX1_draw_23 ?_
  refine v_iand C.1 dX1_draw_26 ?_
  refine v_iload_n C.1 1 rfl rfl dX1_draw_27 ?_
  refine v_chk (fun h5 => ?_)
  refine v_irem C.1 (bne_iff_ne.mp h5) dX1_draw_28 ?_
  exact v_hiret C dX1_draw_29
theorem cwX1_draw {t : TT} {G : GH} {l : Launch} {p : Program} {s : State} {m : MethodId} {args : Array Value} {meth : Method} {c : Code} {y0 : MethodName} {cc0 : ByteArray} {nL0 : Nat} {ret0 : Option FieldType} (C : CxH t G l p s m args meth c y0 cc0 nL0 ret0) {index lv mc ms K1 K2 : Nat} (hq : Cond.methodLink y0.cls index yX1_draw ∈ lw_all) (hR : 2 + 1 ≤ lv) : CallW (rmH lv K1 K2) s args y0.cls RX1 index yX1_draw cX1_draw 2 (some .int) (ws_ yX1_draw cX1_draw 2 (some .int)) (rmH 2 mc ms) mc ms 1 :=
  cwV 1 C.1.2.2.2.2.1 (lw_V hq q1566 qs51 q121 q1567) rfl rfl rfl (by decide +kernel) ⟨hR, by show 8 + (2 + 11) + 100 * 2 ≤ 100 * lv; omega⟩
def hX1_drawn_48 (p0 : Nat) (p1 : Nat) (k : Int32 → HS → Option (OH Unit)) (x4 : Int32) (u : HS) : Option (OH Unit) :=
  mchk (hC u p0 == 1) <|
  mderef (hR u p0 2) fun a2 =>
  mchk (hC u a2 == 2) <|
  hb (hX2_people a2 u) fun r5 u4 =>
  if r5 ≤ x4 then
    mchk (hC u4 p1 == 3) <|
    mchk (hC u4 p1 == 3) <|
    mlet (uI u4 p1 6 ((hI u4 p1 6) + 1)) fun u9 =>
    hret () u9
  else
    mchk (hC u4 p1 == 3) <|
    hb (hX3_isSought p1 x4 u4) fun r8 u7 =>
    if r8 = 0 then
      k (x4 + 1) u7
    else
      mchk (hC u7 p0 == 1) <|
      hb (hX1_draw p0 10 u7) fun r11 u10 =>
      mchk (hC u10 p0 == 1) <|
      mderef (hR u10 p0 2) fun a14 =>
      mchk (hC u10 a14 == 2) <|
      mderef (hR u10 a14 0) fun a17 =>
      mchk (hC u10 p1 == 3) <|
      mderef (hR u10 p1 2) fun a20 =>
      mchk (inA u10 x4 a20 21) <|
      mchk (hC u10 a17 == 12) <|
      hb (hJ2_get a17 (hA u10 a20 x4.toNatClampNeg) u10) fun r24 u23 =>
      mchk (hC u23 r24 == 31) <|
      mchk (hC u23 r24 == 31) <|
      hb (hJ16_intValue r24 u23) fun r28 u27 =>
      if r28 ≤ r11 then
        k (x4 + 1) u27
      else
        mchk (hC u27 p1 == 3) <|
        hb (hX3_die p1 x4 u27) fun _ u30 =>
        k (x4 + 1) u30
theorem whX1_drawn_48 {K1 K2 : Nat} {p : Program} {e : Env} {s : State} {m : MethodId} {args : Array Value} {below : List Frame} {meth : Method} {c : Code} (hl0 : l.stackTraces = false) (C : CxH t G l p s m args meth c yX1_drawn cX1_drawn 5 none) (p0 : Nat) (p1 : Nat) (n : Nat) (x4 : Int32) (u : HS) : VH mkU t G p l e 8 K1 K2 s m args below meth c 5 48 [(0, .ref p0), (1, .ref p1), (4, .int x4)] [] u (ml1 (hX1_drawn_48 p0 p1) n x4 u) := by
  refine vl1 (L := fun x4 => [(0, .ref p0), (1, .ref p1), (4, .int x4)]) (fun k hk x4 u => ?_) n x4 u
  unfold hX1_drawn_48
  refine v_iload C.1 2 rfl dX1_drawn_48 ?_
  refine v_aload_n C.1 0 rfl rfl dX1_drawn_50 ?_
  refine v_chk (fun h1 => ?_)
  refine v_hget C (v := va_rf (hR u p0 2)) 0 2 (eq_of_beq h1) (by decide) rfl in_X1 (by decide) (Or.inl q311) (fun _ h => h) (hF_r (ci := 0) (eq_of_beq h1) (by decide)) dX1_drawn_51 ?_
  refine v_deref (fun a2 e3 => ?_)
  refine v_chk (fun h6 => ?_)
  refine v_callVH C [] [.int x4] (ctX2_people t G l hl0 a2 u) (fun _ _ => cwX2_people C q717 (by decide)) (recO C (ci := 1) (eq_of_beq h6) (by decide) rfl) rfl rfl (by exact Nat.le_of_ble_eq_true rfl) dX1_drawn_54 (fun r5 u4 => ?_)
  refine v_icmp_ge C.1 115 (by decide) dX1_drawn_57 (fun _ => ?_) (fun _ => ?_)
  · refine v_aload_n C.1 1 rfl rfl dX1_drawn_115 ?_
    refine v_dup C.1 rfl dX1_drawn_116 ?_
    refine v_chk (fun h7 => ?_)
    refine v_hget C (v := .int (hI u4 p1 6)) 2 6 (eq_of_beq h7) (by decide) rfl in_X3 (by decide) (Or.inr ⟨_, q269⟩) (fun _ h => h) (hF_i (ci := 2) (eq_of_beq h7) (by decide)) dX1_drawn_117 ?_
    refine v_iconst C.1 1 (by decide) dX1_drawn_120 ?_
    refine v_iadd C.1 dX1_drawn_121 ?_
    refine v_chk (fun h8 => ?_)
    refine v_hputIN C 2 6 (eq_of_beq h8) (by decide) rfl in_X3 tyX3 tyX3_ok nmX3 (by decide) (by decide) q269 (fun _ h => h) (Or.inl rfl) rfl ⟨rfl, rfl⟩ dX1_drawn_122 (fun u9 => ?_)
    exact v_hvret C dX1_drawn_125
  · refine v_aload_n C.1 1 rfl rfl dX1_drawn_60 ?_
    refine v_iload C.1 2 rfl dX1_drawn_61 ?_
    refine v_chk (fun h9 => ?_)
    refine v_callVH C [.int x4] [] (ctX3_isSought t G l hl0 p1 x4 u4) (fun _ _ => cwX3_isSought C q718 (by decide)) (recO C (ci := 2) (eq_of_beq h9) (by decide) rfl) rfl rfl (by exact Nat.le_of_ble_eq_true rfl) dX1_drawn_63 (fun r8 u7 => ?_)
    refine v_if_eq C.1 109 (by decide) dX1_drawn_66 (fun _ => ?_) (fun _ => ?_)
    · refine v_iinc C.1 1 [(4, .int (x4 + 1)), (0, .ref p0), (1, .ref p1)] 2 rfl (by decide) (by decide) rfl dX1_drawn_109 ?_
      refine v_goto C.1 48 (by decide) dX1_drawn_112 ?_
      refine v_sub [1, 2, 0] rfl ?_
      exact hk (x4 + 1) u7
    · refine v_aload_n C.1 0 rfl rfl dX1_drawn_69 ?_
      refine v_bipush C.1 10 (by decide) dX1_drawn_70 ?_
      refine v_chk (fun h12 => ?_)
      refine v_callVH C [.int 10] [] (ctX1_draw t G l hl0 p0 10 u7) (fun _ _ => cwX1_draw C q1564 (by decide)) (recO C (ci := 0) (eq_of_beq h12) (by decide) rfl) rfl rfl (by exact Nat.le_of_ble_eq_true rfl) dX1_drawn_72 (fun r11 u10 => ?_)
      refine v_aload_n C.1 0 rfl rfl dX1_drawn_75 ?_
      refine v_chk (fun h13 => ?_)
      refine v_hget C (v := va_rf (hR u10 p0 2)) 0 2 (eq_of_beq h13) (by decide) rfl in_X1 (by decide) (Or.inl q311) (fun _ h => h) (hF_r (ci := 0) (eq_of_beq h13) (by decide)) dX1_drawn_76 ?_
      refine v_deref (fun a14 e15 => ?_)
      refine v_chk (fun h16 => ?_)
      refine v_hget C (v := va_rf (hR u10 a14 0)) 1 0 (eq_of_beq h16) (by decide) rfl in_X2 (by decide) (Or.inr ⟨_, q197⟩) (fun _ h => h) (hF_r (ci := 1) (eq_of_beq h16) (by decide)) dX1_drawn_79 ?_
      refine v_deref (fun a17 e18 => ?_)
      refine v_aload_n C.1 1 rfl rfl dX1_drawn_82 ?_
      refine v_chk (fun h19 => ?_)
      refine v_hget C (v := va_rf (hR u10 p1 2)) 2 2 (eq_of_beq h19) (by decide) rfl in_X3 (by decide) (Or.inr ⟨_, q259⟩) (fun _ h => h) (hF_r (ci := 2) (eq_of_beq h19) (by decide)) dX1_drawn_83 ?_
      refine v_deref (fun a20 e21 => ?_)
      refine v_iload C.1 2 rfl dX1_drawn_86 ?_
      refine v_chk (fun h22 => ?_)
      refine v_haiald C h22 dX1_drawn_88 ?_
      refine v_chk (fun h25 => ?_)
      refine v_callFH C [.int (hA u10 a20 x4.toNatClampNeg)] [.int r11] (ctJ2_get t G l hl0 a17 (hA u10 a20 x4.toNatClampNeg) u10) (fun _ _ => cwJ2_getF C q1368 (by decide)) (eq_of_beq h25) (by decide) rfl rfl rfl (by exact Nat.le_of_ble_eq_true rfl) dX1_drawn_89 (fun r24 u23 => ?_)
      refine v_chk (fun h26 => ?_)
      refine v_hcastB C (eq_of_beq h26) q1369 dX1_drawn_94 ?_
      refine v_chk (fun h29 => ?_)
      refine v_callVH C [] [.int r11] (ctJ16_intValue t G l hl0 r24 u23) (fun _ _ => cwJ16_intValue C q1370 (by decide)) (recB C (eq_of_beq h29)) rfl rfl (by exact Nat.le_of_ble_eq_true rfl) dX1_drawn_97 (fun r28 u27 => ?_)
      refine v_icmp_ge C.1 109 (by decide) dX1_drawn_100 (fun _ => ?_) (fun _ => ?_)
      · refine v_iinc C.1 1 [(4, .int (x4 + 1)), (0, .ref p0), (1, .ref p1)] 2 rfl (by decide) (by decide) rfl dX1_drawn_109 ?_
        refine v_goto C.1 48 (by decide) dX1_drawn_112 ?_
        refine v_sub [1, 2, 0] rfl ?_
        exact hk (x4 + 1) u27
      · refine v_aload_n C.1 1 rfl rfl dX1_drawn_103 ?_
        refine v_iload C.1 2 rfl dX1_drawn_104 ?_
        refine v_chk (fun h31 => ?_)
        refine v_callVH C [.int x4] [] (ctX3_die t G l hl0 p1 x4 u27) (fun _ _ => cwX3_die C q1569 (by decide)) (recO C (ci := 2) (eq_of_beq h31) (by decide) rfl) rfl rfl (by exact Nat.le_of_ble_eq_true rfl) dX1_drawn_106 (fun _ u30 => ?_)
        refine v_iinc C.1 1 [(4, .int (x4 + 1)), (0, .ref p0), (1, .ref p1)] 2 rfl (by decide) (by decide) rfl dX1_drawn_109 ?_
        refine v_goto C.1 48 (by decide) dX1_drawn_112 ?_
        refine v_sub [1, 2, 0] rfl ?_
        exact hk (x4 + 1) u30
def hX1_drawn (p0 : Nat) (p1 : Nat) (u : HS) : Option (OH Unit) :=
  mchk (hC u p0 == 1) <|
  mderef (hR u p0 2) fun a2 =>
  mchk (hC u a2 == 2) <|
  mchk (hC u p0 == 1) <|
  hb (hX1_draw p0 (hI u a2 7) u) fun r6 u5 =>
  mchk (hC u5 p0 == 1) <|
  mderef (hR u5 p0 2) fun a9 =>
  mchk (hC u5 a9 == 2) <|
  hb (hX2_people a9 u5) fun r12 u11 =>
  mchk (hC u11 p0 == 1) <|
  hb (hX1_draw p0 r12 u11) fun r15 u14 =>
  mchk (hC u14 p1 == 3) <|
  if (hI u14 p1 10) = 0 then
    ml1 (hX1_drawn_48 p0 p1) FUEL 0 u14
  else
    mchk (hC u14 p1 == 3) <|
    hb (hX3_isListed p1 r15 u14) fun r19 u18 =>
    if r19 = 0 then
      mchk (hC u18 p1 == 3) <|
      hb (hX3_write p1 r15 r6 u18) fun _ u21 =>
      ml1 (hX1_drawn_48 p0 p1) FUEL 0 u21
    else
      ml1 (hX1_drawn_48 p0 p1) FUEL 0 u18
theorem ctX1_drawn (t : TT) (G : GH) (l : Launch) (hl0 : l.stackTraces = false) (p0 : Nat) (p1 : Nat) (u : HS) : CtH mkU t G l yX1_drawn cX1_drawn 5 none 8 [.ref p0, .ref p1] u (hX1_drawn p0 p1 u) := by
  refine ctH_of [(0, .ref p0), (1, .ref p1)] hl0 rfl (Nat.le_of_ble_eq_true rfl) rfl (fun K1 K2 p e s m args below meth c C => ?_)
  unfold hX1_drawn
  refine v_aload_n C.1 0 rfl rfl dX1_drawn_0 ?_
  refine v_aload_n C.1 0 rfl rfl dX1_drawn_1 ?_
  refine v_chk (fun h1 => ?_)
  refine v_hget C (v := va_rf (hR u p0 2)) 0 2 (eq_of_beq h1) (by decide) rfl in_X1 (by decide) (Or.inl q311) (fun _ h => h) (hF_r (ci := 0) (eq_of_beq h1) (by decide)) dX1_drawn_2 ?_
  refine v_deref (fun a2 e3 => ?_)
  refine v_chk (fun h4 => ?_)
  refine v_hget C (v := .int (hI u a2 7)) 1 7 (eq_of_beq h4) (by decide) rfl in_X2 (by decide) (Or.inr ⟨_, q222⟩) (fun _ h => h) (hF_i (ci := 1) (eq_of_beq h4) (by decide)) dX1_drawn_5 ?_
  refine v_chk (fun h7 => ?_)
  refine v_callVH C [.int (hI u a2 7)] [] (ctX1_draw t G l hl0 p0 (hI u a2 7) u) (fun _ _ => cwX1_draw C q1564 (by decide)) (recO C (ci := 0) (eq_of_beq h7) (by decide) rfl) rfl rfl (by exact Nat.le_of_ble_eq_true rfl) dX1_drawn_8 (fun r6 u5 => ?_)
  refine v_istore_n C.1 [(2, .int r6), (0, .ref p0), (1, .ref p1)] rfl (by decide) rfl dX1_drawn_11 ?_
  refine v_aload_n C.1 1 rfl rfl dX1_drawn_12 ?_
  refine v_aload_n C.1 1 rfl rfl dX1_drawn_13 ?_
  refine v_chk (fun h8 => ?_)
  refine v_hget C (v := va_rf (hR u5 p0 2)) 0 2 (eq_of_beq h8) (by decide) rfl in_X1 (by decide) (Or.inl q311) (fun _ h => h) (hF_r (ci := 0) (eq_of_beq h8) (by decide)) dX1_drawn_14 ?_
  refine v_deref (fun a9 e10 => ?_)
  refine v_chk (fun h13 => ?_)
  refine v_callVH C [] [.ref p0] (ctX2_people t G l hl0 a9 u5) (fun _ _ => cwX2_people C q717 (by decide)) (recO C (ci := 1) (eq_of_beq h13) (by decide) rfl) rfl rfl (by exact Nat.le_of_ble_eq_true rfl) dX1_drawn_17 (fun r12 u11 => ?_)
  refine v_chk (fun h16 => ?_)
  refine v_callVH C [.int r12] [] (ctX1_draw t G l hl0 p0 r12 u11) (fun _ _ => cwX1_draw C q1564 (by decide)) (recO C (ci := 0) (eq_of_beq h16) (by decide) rfl) rfl rfl (by exact Nat.le_of_ble_eq_true rfl) dX1_drawn_20 (fun r15 u14 => ?_)
  refine v_istore_n C.1 [(3, .int r15), (2, .int r6), (0, .ref p0), (1, .ref p1)] rfl (by decide) rfl dX1_drawn_23 ?_
  refine v_aload_n C.1 3 rfl rfl dX1_drawn_24 ?_
  refine v_chk (fun h17 => ?_)
  refine v_hget C (v := .int (hI u14 p1 10)) 2 10 (eq_of_beq h17) (by decide) rfl in_X3 (by decide) (Or.inr ⟨_, q277⟩) (fun _ h => h) (hF_i (ci := 2) (eq_of_beq h17) (by decide)) dX1_drawn_25 ?_
  refine v_if_eq C.1 45 (by decide) dX1_drawn_28 (fun _ => ?_) (fun _ => ?_)
  · refine v_iconst C.1 0 (by decide) dX1_drawn_45 ?_
    refine v_istore C.1 [(4, .int 0), (3, .int r15), (2, .int r6), (0, .ref p0), (1, .ref p1)] (by decide) rfl dX1_drawn_46 ?_
    refine v_sub [3, 4, 0] rfl ?_
    exact whX1_drawn_48 hl0 C p0 p1 FUEL 0 u14
  · refine v_aload_n C.1 3 rfl rfl dX1_drawn_31 ?_
    refine v_iload_n C.1 0 rfl rfl dX1_drawn_32 ?_
    refine v_chk (fun h20 => ?_)
    refine v_callVH C [.int r15] [] (ctX3_isListed t G l hl0 p1 r15 u14) (fun _ _ => cwX3_isListed C q1408 (by decide)) (recO C (ci := 2) (eq_of_beq h20) (by decide) rfl) rfl rfl (by exact Nat.le_of_ble_eq_true rfl) dX1_drawn_33 (fun r19 u18 => ?_)
    refine v_if_ne C.1 45 (by decide) dX1_drawn_36 (fun _ => ?_) (fun _ => ?_)
    · refine v_aload_n C.1 3 rfl rfl dX1_drawn_39 ?_
      refine v_iload_n C.1 0 rfl rfl dX1_drawn_40 ?_
      refine v_iload_n C.1 1 rfl rfl dX1_drawn_41 ?_
      refine v_chk (fun h22 => ?_)
      refine v_callVH C [.int r15, .int r6] [] (ctX3_write t G l hl0 p1 r15 r6 u18) (fun _ _ => cwX3_write C q1409 (by decide)) (recO C (ci := 2) (eq_of_beq h22) (by decide) rfl) rfl rfl (by exact Nat.le_of_ble_eq_true rfl) dX1_drawn_42 (fun _ u21 => ?_)
      refine v_iconst C.1 0 (by decide) dX1_drawn_45 ?_
      refine v_istore C.1 [(4, .int 0), (3, .int r15), (2, .int r6), (0, .ref p0), (1, .ref p1)] (by decide) rfl dX1_drawn_46 ?_
      refine v_sub [3, 4, 0] rfl ?_
      exact whX1_drawn_48 hl0 C p0 p1 FUEL 0 u21
    · refine v_iconst C.1 0 (by decide) dX1_drawn_45 ?_
      refine v_istore C.1 [(4, .int 0), (3, .int r15), (2, .int r6), (0, .ref p0), (1, .ref p1)] (by decide) rfl dX1_drawn_46 ?_
      refine v_sub [3, 4, 0] rfl ?_
      exact whX1_drawn_48 hl0 C p0 p1 FUEL 0 u18
theorem cwX1_drawn {t : TT} {G : GH} {l : Launch} {p : Program} {s : State} {m : MethodId} {args : Array Value} {meth : Method} {c : Code} {y0 : MethodName} {cc0 : ByteArray} {nL0 : Nat} {ret0 : Option FieldType} (C : CxH t G l p s m args meth c y0 cc0 nL0 ret0) {index lv mc ms K1 K2 : Nat} (hq : Cond.methodLink y0.cls index yX1_drawn ∈ lw_all) (hR : 8 + 1 ≤ lv) : CallW (rmH lv K1 K2) s args y0.cls RX1 index yX1_drawn cX1_drawn 5 none (ws_ yX1_drawn cX1_drawn 5 none) (rmH 8 mc ms) mc ms 1 :=
  cwV 1 C.1.2.2.2.2.1 (lw_V hq q1562 qs50 q121 q1563) rfl rfl rfl (by decide +kernel) ⟨hR, by show 8 + (5 + 11) + 100 * 8 ≤ 100 * lv; omega⟩
def hX1_lists_102 (p0 : Nat) (p1 : Int32) (p2 : Int32) (p3 : Int32) (k : Nat → Int32 → Int32 → HS → Option (OH (PX Int32))) (x4 : Nat) (x5 : Int32) (x6 : Int32) (u : HS) : Option (OH (PX Int32)) :=
  mchk (hC u p0 == 1) <|
  mderef (hR u p0 2) fun a2 =>
  mchk (hC u a2 == 2) <|
  if (hI u a2 7) ≤ x6 then
    hret (.inl x5) u
  else
    mchk (hC u x4 == 3) <|
    mderef (hR u x4 3) fun a6 =>
    mchk (inA u x6 a6 21) <|
    mlet (x5 + (hA u a6 x6.toNatClampNeg)) fun v9 =>
    k x4 v9 (x6 + 1) u
theorem whX1_lists_102 {K1 K2 : Nat} {p : Program} {e : Env} {s : State} {m : MethodId} {args : Array Value} {below : List Frame} {meth : Method} {c : Code} (hl0 : l.stackTraces = false) (C : CxX t G l p s m args meth c yX1_lists cX1_lists 7 (some .int)) (p0 : Nat) (p1 : Int32) (p2 : Int32) (p3 : Int32) (n : Nat) (x4 : Nat) (x5 : Int32) (x6 : Int32) (u : HS) : VX mkI t G p l e 10 K1 K2 s m args below meth c 7 102 [(0, .ref p0), (4, .ref x4), (5, .int x5), (6, .int x6)] [] u (ml3 (hX1_lists_102 p0 p1 p2 p3) n x4 x5 x6 u) := by
  refine vl3 (L := fun x4 x5 x6 => [(0, .ref p0), (4, .ref x4), (5, .int x5), (6, .int x6)]) (fun k hk x4 x5 x6 u => ?_) n x4 x5 x6 u
  unfold hX1_lists_102
  refine v_iload C.1.1 3 rfl dX1_lists_102 ?_
  refine v_aload_n C.1.1 0 rfl rfl dX1_lists_104 ?_
  refine v_chk (fun h1 => ?_)
  refine v_hget C.1 (v := va_rf (hR u p0 2)) 0 2 (eq_of_beq h1) (by decide) rfl in_X1 (by decide) (Or.inl q311) (fun _ h => h) (hF_r (ci := 0) (eq_of_beq h1) (by decide)) dX1_lists_105 ?_
  refine v_deref (fun a2 e3 => ?_)
  refine v_chk (fun h4 => ?_)
  refine v_hget C.1 (v := .int (hI u a2 7)) 1 7 (eq_of_beq h4) (by decide) rfl in_X2 (by decide) (Or.inr ⟨_, q222⟩) (fun _ h => h) (hF_i (ci := 1) (eq_of_beq h4) (by decide)) dX1_lists_108 ?_
  refine v_icmp_ge C.1.1 133 (by decide) dX1_lists_111 (fun _ => ?_) (fun _ => ?_)
  · refine v_iload C.1.1 2 rfl dX1_lists_133 ?_
    exact v_xiret C.1 dX1_lists_135
  · refine v_iload C.1.1 2 rfl dX1_lists_114 ?_
    refine v_aload C.1.1 1 rfl dX1_lists_116 ?_
    refine v_chk (fun h5 => ?_)
    refine v_hget C.1 (v := va_rf (hR u x4 3)) 2 3 (eq_of_beq h5) (by decide) rfl in_X3 (by decide) (Or.inr ⟨_, q262⟩) (fun _ h => h) (hF_r (ci := 2) (eq_of_beq h5) (by decide)) dX1_lists_118 ?_
    refine v_deref (fun a6 e7 => ?_)
    refine v_iload C.1.1 3 rfl dX1_lists_121 ?_
    refine v_chk (fun h8 => ?_)
    refine v_haiald C.1 h8 dX1_lists_123 ?_
    refine v_iadd C.1.1 dX1_lists_124 ?_
    refine v_topi (fun v9 => ?_)
    refine v_istore C.1.1 [(5, .int v9), (0, .ref p0), (4, .ref x4), (6, .int x6)] (by decide) rfl dX1_lists_125 ?_
    refine v_iinc C.1.1 1 [(6, .int (x6 + 1)), (5, .int v9), (0, .ref p0), (4, .ref x4)] 3 rfl (by decide) (by decide) rfl dX1_lists_127 ?_
    refine v_goto C.1.1 102 (by decide) dX1_lists_130 ?_
    refine v_sub [2, 3, 1, 0] rfl ?_
    exact hk x4 v9 (x6 + 1) u
def hX1_lists_70 (p0 : Nat) (p1 : Int32) (p2 : Int32) (p3 : Int32) (x4 : Nat) (u : HS) : Option (OH (PX Int32)) :=
  if p3 = 1 then
    ml3 (hX1_lists_102 p0 p1 p2 p3) FUEL x4 0 0 u
  else
    if p3 = 0 then
      mchk (hC u x4 == 3) <|
      hb (hJ16_bitCount (hI u x4 7) u) fun r3 u2 =>
      hret (.inl r3) u2
    else
      mchk (hC u x4 == 3) <|
      hret (.inl (hI u x4 9)) u
theorem whX1_lists_70 {K1 K2 : Nat} {p : Program} {e : Env} {s : State} {m : MethodId} {args : Array Value} {below : List Frame} {meth : Method} {c : Code} (hl0 : l.stackTraces = false) (C : CxX t G l p s m args meth c yX1_lists cX1_lists 7 (some .int)) (p0 : Nat) (p1 : Int32) (p2 : Int32) (p3 : Int32) (x4 : Nat) (u : HS) : VX mkI t G p l e 10 K1 K2 s m args below meth c 7 70 [(0, .ref p0), (3, .int p3), (4, .ref x4)] [] u (hX1_lists_70 p0 p1 p2 p3 x4 u) := by
  unfold hX1_lists_70
  refine v_iload_n C.1.1 1 rfl rfl dX1_lists_70 ?_
  refine v_iconst C.1.1 1 (by decide) dX1_lists_71 ?_
  refine v_icmp_eq C.1.1 96 (by decide) dX1_lists_72 (fun _ => ?_) (fun _ => ?_)
  · refine v_iconst C.1.1 0 (by decide) dX1_lists_96 ?_
    refine v_istore C.1.1 [(5, .int 0), (0, .ref p0), (3, .int p3), (4, .ref x4)] (by decide) rfl dX1_lists_97 ?_
    refine v_iconst C.1.1 0 (by decide) dX1_lists_99 ?_
    refine v_istore C.1.1 [(6, .int 0), (5, .int 0), (0, .ref p0), (3, .int p3), (4, .ref x4)] (by decide) rfl dX1_lists_100 ?_
    refine v_sub [2, 4, 1, 0] rfl ?_
    exact whX1_lists_102 hl0 C p0 p1 p2 p3 FUEL x4 0 0 u
  · refine v_iload_n C.1.1 1 rfl rfl dX1_lists_75 ?_
    refine v_if_ne C.1.1 90 (by decide) dX1_lists_76 (fun _ => ?_) (fun _ => ?_)
    · refine v_aload C.1.1 2 rfl dX1_lists_79 ?_
      refine v_chk (fun h1 => ?_)
      refine v_hget C.1 (v := .int (hI u x4 7)) 2 7 (eq_of_beq h1) (by decide) rfl in_X3 (by decide) (Or.inr ⟨_, q271⟩) (fun _ h => h) (hF_i (ci := 2) (eq_of_beq h1) (by decide)) dX1_lists_81 ?_
      refine v_callSH C.1 [.int (hI u x4 7)] [] (ctJ16_bitCount t G l hl0 (hI u x4 7) u) (fun _ _ => cwJ16_bitCount C.1 q1495 (by decide)) rfl rfl (by exact Nat.le_of_ble_eq_true rfl) dX1_lists_84 (fun r3 u2 => ?_)
      refine v_goto C.1.1 95 (by decide) dX1_lists_87 ?_
      exact v_xiret C.1 dX1_lists_95
    · refine v_aload C.1.1 2 rfl dX1_lists_90 ?_
      refine v_chk (fun h1 => ?_)
      refine v_hget C.1 (v := .int (hI u x4 9)) 2 9 (eq_of_beq h1) (by decide) rfl in_X3 (by decide) (Or.inr ⟨_, q275⟩) (fun _ h => h) (hF_i (ci := 2) (eq_of_beq h1) (by decide)) dX1_lists_92 ?_
      exact v_xiret C.1 dX1_lists_95
def hX1_lists_32 (p0 : Nat) (p1 : Int32) (p2 : Int32) (p3 : Int32) (k : Nat → Int32 → HS → Option (OH (PX Int32))) (x4 : Nat) (x5 : Int32) (u : HS) : Option (OH (PX Int32)) :=
  if p2 ≤ x5 then
    hX1_lists_70 p0 p1 p2 p3 x4 u
  else
    mchk (hC u p0 == 1) <|
    mderef (hR u p0 2) fun a2 =>
    mchk (hC u a2 == 2) <|
    if (hI u a2 7) ≤ 0 then
      hX1_lists_70 p0 p1 p2 p3 x4 u
    else
      mchk (hC u p0 == 1) <|
      mderef (hR u p0 2) fun a6 =>
      mchk (hC u a6 == 2) <|
      hb (hX2_people a6 u) fun r9 u8 =>
      if r9 ≤ 0 then
        hX1_lists_70 p0 p1 p2 p3 x4 u8
      else
        mchk (hC u8 p0 == 1) <|
        hb (hX1_drawn p0 x4 u8) fun _ u11 =>
        k x4 (x5 + 1) u11
theorem whX1_lists_32 {K1 K2 : Nat} {p : Program} {e : Env} {s : State} {m : MethodId} {args : Array Value} {below : List Frame} {meth : Method} {c : Code} (hl0 : l.stackTraces = false) (C : CxX t G l p s m args meth c yX1_lists cX1_lists 7 (some .int)) (p0 : Nat) (p1 : Int32) (p2 : Int32) (p3 : Int32) (n : Nat) (x4 : Nat) (x5 : Int32) (u : HS) : VX mkI t G p l e 10 K1 K2 s m args below meth c 7 32 [(0, .ref p0), (2, .int p2), (3, .int p3), (4, .ref x4), (5, .int x5)] [] u (ml2 (hX1_lists_32 p0 p1 p2 p3) n x4 x5 u) := by
  refine vl2 (L := fun x4 x5 => [(0, .ref p0), (2, .int p2), (3, .int p3), (4, .ref x4), (5, .int x5)]) (fun k hk x4 x5 u => ?_) n x4 x5 u
  unfold hX1_lists_32
  refine v_iload C.1.1 4 rfl dX1_lists_32 ?_
  refine v_iload_n C.1.1 1 rfl rfl dX1_lists_34 ?_
  refine v_icmp_ge C.1.1 70 (by decide) dX1_lists_35 (fun _ => ?_) (fun _ => ?_)
  · refine v_sub [0, 2, 3] rfl ?_
    exact whX1_lists_70 hl0 C p0 p1 p2 p3 x4 u
  · refine v_aload_n C.1.1 0 rfl rfl dX1_lists_38 ?_
    refine v_chk (fun h1 => ?_)
    refine v_hget C.1 (v := va_rf (hR u p0 2)) 0 2 (eq_of_beq h1) (by decide) rfl in_X1 (by decide) (Or.inl q311) (fun _ h => h) (hF_r (ci := 0) (eq_of_beq h1) (by decide)) dX1_lists_39 ?_
    refine v_deref (fun a2 e3 => ?_)
    refine v_chk (fun h4 => ?_)
    refine v_hget C.1 (v := .int (hI u a2 7)) 1 7 (eq_of_beq h4) (by decide) rfl in_X2 (by decide) (Or.inr ⟨_, q222⟩) (fun _ h => h) (hF_i (ci := 1) (eq_of_beq h4) (by decide)) dX1_lists_42 ?_
    refine v_if_le C.1.1 70 (by decide) dX1_lists_45 (fun _ => ?_) (fun _ => ?_)
    · refine v_sub [0, 2, 3] rfl ?_
      exact whX1_lists_70 hl0 C p0 p1 p2 p3 x4 u
    · refine v_aload_n C.1.1 0 rfl rfl dX1_lists_48 ?_
      refine v_chk (fun h5 => ?_)
      refine v_hget C.1 (v := va_rf (hR u p0 2)) 0 2 (eq_of_beq h5) (by decide) rfl in_X1 (by decide) (Or.inl q311) (fun _ h => h) (hF_r (ci := 0) (eq_of_beq h5) (by decide)) dX1_lists_49 ?_
      refine v_deref (fun a6 e7 => ?_)
      refine v_chk (fun h10 => ?_)
      refine v_callVH C.1 [] [] (ctX2_people t G l hl0 a6 u) (fun _ _ => cwX2_people C.1 q717 (by decide)) (recO C.1 (ci := 1) (eq_of_beq h10) (by decide) rfl) rfl rfl (by exact Nat.le_of_ble_eq_true rfl) dX1_lists_52 (fun r9 u8 => ?_)
      refine v_if_le C.1.1 70 (by decide) dX1_lists_55 (fun _ => ?_) (fun _ => ?_)
      · refine v_sub [0, 2, 3] rfl ?_
        exact whX1_lists_70 hl0 C p0 p1 p2 p3 x4 u8
      · refine v_aload_n C.1.1 0 rfl rfl dX1_lists_58 ?_
        refine v_aload C.1.1 3 rfl dX1_lists_59 ?_
        refine v_chk (fun h12 => ?_)
        refine v_callVH C.1 [.ref x4] [] (ctX1_drawn t G l hl0 p0 x4 u8) (fun _ _ => cwX1_drawn C.1 q1560 (by decide)) (recO C.1 (ci := 0) (eq_of_beq h12) (by decide) rfl) rfl rfl (by exact Nat.le_of_ble_eq_true rfl) dX1_lists_61 (fun _ u11 => ?_)
        refine v_iinc C.1.1 1 [(5, .int (x5 + 1)), (0, .ref p0), (2, .int p2), (3, .int p3), (4, .ref x4)] 4 rfl (by decide) (by decide) rfl dX1_lists_64 ?_
        refine v_goto C.1.1 32 (by decide) dX1_lists_67 ?_
        refine v_sub [1, 2, 3, 4, 0] rfl ?_
        exact hk x4 (x5 + 1) u11
def hX1_lists (p0 : Nat) (p1 : Int32) (p2 : Int32) (p3 : Int32) (u : HS) : Option (OH (PX Int32)) :=
  hx (hX1_oneOf p3 2 u) fun _ u1 =>
  hb (hX1_in p2 0 60 u1) fun r3 u2 =>
  hx (hX1_right r3 u2) fun _ u4 =>
  mchk (hC u4 p0 == 1) <|
  mlet (uI u4 p0 13 p1) fun u6 =>
  mchk (hC u6 p0 == 1) <|
  mderef (hR u6 p0 3) fun a8 =>
  mchk (hC u6 a8 == 3) <|
  hb (hX3_copy a8 u6) fun r11 u10 =>
  ml2 (hX1_lists_32 p0 p1 p2 p3) FUEL r11 0 u10
theorem ctX1_lists (t : TT) (G : GH) (l : Launch) (hl0 : l.stackTraces = false) (p0 : Nat) (p1 : Int32) (p2 : Int32) (p3 : Int32) (u : HS) : CtX mkI t G l yX1_lists cX1_lists 7 (some .int) 10 [.ref p0, .int p1, .int p2, .int p3] u (hX1_lists p0 p1 p2 p3 u) := by
  refine ctX_of [(0, .ref p0), (1, .int p1), (2, .int p2), (3, .int p3)] hl0 rfl (Nat.le_of_ble_eq_true rfl) rfl (fun K1 K2 p e s m args below meth c C => ?_)
  unfold hX1_lists
  refine v_iload_n C.1.1 3 rfl rfl dX1_lists_0 ?_
  refine v_iconst C.1.1 2 (by decide) dX1_lists_1 ?_
  refine v_callSX C [.int p3, .int 2] [] (ctX1_oneOf t G l hl0 p3 2 u) (fun _ _ => cwX1_oneOf C.1 q1353 (by decide)) rfl rfl (by exact Nat.le_of_ble_eq_true rfl) dX1_lists_2 (fun _ u1 => ?_)
  refine v_iload_n C.1.1 2 rfl rfl dX1_lists_5 ?_
  refine v_iconst C.1.1 0 (by decide) dX1_lists_6 ?_
  refine v_bipush C.1.1 60 (by decide) dX1_lists_7 ?_
  refine v_callSH C.1 [.int p2, .int 0, .int 60] [] (ctX1_in t G l hl0 p2 0 60 u1) (fun _ _ => cwX1_in C.1 q366 (by decide)) rfl rfl (by exact Nat.le_of_ble_eq_true rfl) dX1_lists_9 (fun r3 u2 => ?_)
  refine v_callSX C [.int r3] [] (ctX1_right t G l hl0 r3 u2) (fun _ _ => cwX1_right C.1 q760 (by decide)) rfl rfl (by exact Nat.le_of_ble_eq_true rfl) dX1_lists_12 (fun _ u4 => ?_)
  refine v_aload_n C.1.1 0 rfl rfl dX1_lists_15 ?_
  refine v_iload_n C.1.1 1 rfl rfl dX1_lists_16 ?_
  refine v_chk (fun h5 => ?_)
  refine v_hputI C.1 0 13 (eq_of_beq h5) (by decide) rfl in_X1 tyX1 tyX1_ok nmX1 (by decide) (by decide) q323 (fun _ h => h) (Or.inl rfl) ⟨rfl, rfl⟩ dX1_lists_17 (fun u6 => ?_)
  refine v_aload_n C.1.1 0 rfl rfl dX1_lists_20 ?_
  refine v_chk (fun h7 => ?_)
  refine v_hget C.1 (v := va_rf (hR u6 p0 3)) 0 3 (eq_of_beq h7) (by decide) rfl in_X1 (by decide) (Or.inl q312) (fun _ h => h) (hF_r (ci := 0) (eq_of_beq h7) (by decide)) dX1_lists_21 ?_
  refine v_deref (fun a8 e9 => ?_)
  refine v_chk (fun h12 => ?_)
  refine v_callVH C.1 [] [] (ctX3_copy t G l hl0 a8 u6) (fun _ _ => cwX3_copy C.1 q377 (by decide)) (recO C.1 (ci := 2) (eq_of_beq h12) (by decide) rfl) rfl rfl (by exact Nat.le_of_ble_eq_true rfl) dX1_lists_24 (fun r11 u10 => ?_)
  refine v_astore C.1.1 [(4, .ref r11), (0, .ref p0), (1, .int p1), (2, .int p2), (3, .int p3)] (by decide) rfl dX1_lists_27 ?_
  refine v_iconst C.1.1 0 (by decide) dX1_lists_29 ?_
  refine v_istore C.1.1 [(5, .int 0), (4, .ref r11), (0, .ref p0), (1, .int p1), (2, .int p2), (3, .int p3)] (by decide) rfl dX1_lists_30 ?_
  refine v_sub [2, 4, 5, 1, 0] rfl ?_
  exact whX1_lists_32 hl0 C p0 p1 p2 p3 FUEL r11 0 u10
theorem cwX1_lists {t : TT} {G : GH} {l : Launch} {p : Program} {s : State} {m : MethodId} {args : Array Value} {meth : Method} {c : Code} {y0 : MethodName} {cc0 : ByteArray} {nL0 : Nat} {ret0 : Option FieldType} (C : CxH t G l p s m args meth c y0 cc0 nL0 ret0) {index lv mc ms K1 K2 : Nat} (hq : Cond.methodLink y0.cls index yX1_lists ∈ lw_all) (hR : 10 + 1 ≤ lv) : CallW (rmH lv K1 K2) s args y0.cls RX1 index yX1_lists cX1_lists 7 (some .int) (ws_ yX1_lists cX1_lists 7 (some .int)) (rmH 10 mc ms) mc ms 3 :=
  cwV 3 C.1.2.2.2.2.1 (lw_V hq q1557 q1558 q121 q1559) rfl rfl rfl (by decide +kernel) ⟨hR, by show 8 + (7 + 11) + 100 * 10 ≤ 100 * lv; omega⟩
end
