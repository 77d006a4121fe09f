/-! the law, printed by tools/genl.py -/
set_option maxRecDepth 100000
def hL_1569 (x0 o0 n0 : Nat) (xs : Nat → Int32) (k23 : Int32 → LST → Option OL) (x4 : Int32) (x5 : Int32) (s1 : Int32) (s2 : Int32) (s3 : Int32) (v : LST) : Option OL :=
  lmc (f4_see s1 s2 s3 v.2) v fun r2 v1 =>
  lmc (f4_thrown v1.2) v1 fun r4 v3 =>
  if r4 = x5 then
    if x5 = 0 then
      mchk (inA v3.1 0 o0 24) <|
      if (lg_cmp (hJ v3.1 o0 (0 : Int32).toNatClampNeg) (Int32.toInt64 r2)) = 0 then
        k23 (x4 + 6) v3
      else
        lret 0
    else
      k23 (x4 + 6) v3
  else
    lret 0
theorem whL_1569 {t : TT} {G : GH} {g : GM} {l : Launch} {p : Program} {e : Env} {s : State} {m : MethodId} {b : Nat} {below : List Frame} {meth : Method} {c : Code} {x0 o0 n0 : Nat} {xs : Nat → Int32} (hl0 : l.stackTraces = false) (C : CxL t G g l p s m b meth c n0 xs) (k23 : Int32 → LST → Option OL) (hk23 : ∀ (x4 : Int32) (v : LST), VL t G g p l e s m b below meth c 23 [(0, .ref b), (1, .ref x0), (2, .ref g.1), (3, .ref o0), (4, .int x4)] [] v (k23 x4 v)) (x4 : Int32) (x5 : Int32) (s1 : Int32) (s2 : Int32) (s3 : Int32) (v : LST) : VL t G g p l e s m b below meth c 1569 [(0, .ref b), (1, .ref x0), (2, .ref g.1), (3, .ref o0), (4, .int x4), (5, .int x5)] [.int s3, .int s2, .int s1, .ref g.1] v (hL_1569 x0 o0 n0 xs k23 x4 x5 s1 s2 s3 v) := by
  unfold hL_1569
  refine v_callLM C [.int s1, .int s2, .int s3] [] (ct4_see t g l s1 s2 s3 v.2) (cw4_see C.1.1 q2268 (by decide)) rfl rfl (by exact Nat.le_of_ble_eq_true rfl) dL_law_1569 (fun r2 v1 => ?_)
  refine v_istore C.1.1 [(6, .int r2), (0, .ref b), (1, .ref x0), (2, .ref g.1), (3, .ref o0), (4, .int x4), (5, .int x5)] (by decide) rfl dL_law_1572 ?_
  refine v_aload_n C.1.1 3 rfl rfl dL_law_1574 ?_
  refine v_callLM C [] [] (ct4_thrown t g l v1.2) (cw4_thrown C.1.1 q1878 (by decide)) rfl rfl (by exact Nat.le_of_ble_eq_true rfl) dL_law_1575 (fun r4 v3 => ?_)
  refine v_iload C.1.1 6 rfl dL_law_1578 ?_
  refine v_icmp_eq C.1.1 1585 (by decide) dL_law_1580 (fun _ => ?_) (fun _ => ?_)
  · refine v_iload C.1.1 6 rfl dL_law_1585 ?_
    refine v_if_ne C.1.1 1602 (by decide) dL_law_1587 (fun _ => ?_) (fun _ => ?_)
    · refine v_aload_n C.1.1 4 rfl rfl dL_law_1590 ?_
      refine v_iconst C.1.1 0 (by decide) dL_law_1591 ?_
      refine v_chk (fun h5 => ?_)
      refine v_Llald C h5 dL_law_1592 ?_
      refine v_iload C.1.1 0 rfl dL_law_1593 ?_
      refine v_i2l C.1.1 dL_law_1595 ?_
      refine v_lcmp C.1.1 dL_law_1596 ?_
      refine v_if_eq C.1.1 1602 (by decide) dL_law_1597 (fun _ => ?_) (fun _ => ?_)
      · refine v_goto C.1.1 2323 (by decide) dL_law_1602 ?_
        refine v_iinc C.1.1 6 [(4, .int (x4 + 6)), (6, .int r2), (0, .ref b), (1, .ref x0), (2, .ref g.1), (3, .ref o0), (5, .int x5)] 5 rfl (by decide) (by decide) rfl dL_law_2323 ?_
        refine v_goto C.1.1 23 (by decide) dL_law_2326 ?_
        refine v_sub [2, 3, 4, 5, 0] rfl ?_
        exact hk23 (x4 + 6) v3
      · refine v_iconst C.1.1 0 (by decide) dL_law_1600 ?_
        exact v_lret C dL_law_1601
    · refine v_goto C.1.1 2323 (by decide) dL_law_1602 ?_
      refine v_iinc C.1.1 6 [(4, .int (x4 + 6)), (6, .int r2), (0, .ref b), (1, .ref x0), (2, .ref g.1), (3, .ref o0), (5, .int x5)] 5 rfl (by decide) (by decide) rfl dL_law_2323 ?_
      refine v_goto C.1.1 23 (by decide) dL_law_2326 ?_
      refine v_sub [2, 3, 4, 5, 0] rfl ?_
      exact hk23 (x4 + 6) v3
  · refine v_iconst C.1.1 0 (by decide) dL_law_1583 ?_
    exact v_lret C dL_law_1584
def hL_1536 (x0 o0 n0 : Nat) (xs : Nat → Int32) (k23 : Int32 → LST → Option OL) (x4 : Int32) (s1 : Int32) (s2 : Int32) (s3 : Int32) (v : LST) : Option OL :=
  lxc (hX0_see x0 s1 s2 s3 o0 v.1) v fun r2 v1 =>
  mchk (inb (x4 + 1) n0) <|
  mchk (inb (x4 + 2) n0) <|
  mchk (inb (x4 + 3) n0) <|
  if (xs (x4 + 3).toNatClampNeg) = 0 then
    hL_1569 x0 o0 n0 xs k23 x4 r2 (xs (x4 + 1).toNatClampNeg) (xs (x4 + 2).toNatClampNeg) 0 v1
  else
    hL_1569 x0 o0 n0 xs k23 x4 r2 (xs (x4 + 1).toNatClampNeg) (xs (x4 + 2).toNatClampNeg) 1 v1
theorem whL_1536 {t : TT} {G : GH} {g : GM} {l : Launch} {p : Program} {e : Env} {s : State} {m : MethodId} {b : Nat} {below : List Frame} {meth : Method} {c : Code} {x0 o0 n0 : Nat} {xs : Nat → Int32} (hl0 : l.stackTraces = false) (C : CxL t G g l p s m b meth c n0 xs) (k23 : Int32 → LST → Option OL) (hk23 : ∀ (x4 : Int32) (v : LST), VL t G g p l e s m b below meth c 23 [(0, .ref b), (1, .ref x0), (2, .ref g.1), (3, .ref o0), (4, .int x4)] [] v (k23 x4 v)) (x4 : Int32) (s1 : Int32) (s2 : Int32) (s3 : Int32) (v : LST) : VL t G g p l e s m b below meth c 1536 [(0, .ref b), (1, .ref x0), (2, .ref g.1), (3, .ref o0), (4, .int x4)] [.int s3, .int s2, .int s1, .ref x0] v (hL_1536 x0 o0 n0 xs k23 x4 s1 s2 s3 v) := by
  unfold hL_1536
  refine v_aload_n C.1.1 3 rfl rfl dL_law_1536 ?_
  refine v_callLS C [.ref x0, .int s1, .int s2, .int s3, .ref o0] [] (ctX0_see t G l hl0 x0 s1 s2 s3 o0 v.1) (fun _ _ => cwX0_see C.1 q1496 (by decide)) rfl rfl (by exact Nat.le_of_ble_eq_true rfl) dL_law_1537 (fun r2 v1 => ?_)
  refine v_istore C.1.1 [(5, .int r2), (0, .ref b), (1, .ref x0), (2, .ref g.1), (3, .ref o0), (4, .int x4)] (by decide) rfl dL_law_1540 ?_
  refine v_aload_n C.1.1 3 rfl rfl dL_law_1542 ?_
  refine v_aload_n C.1.1 1 rfl rfl dL_law_1543 ?_
  refine v_iload C.1.1 5 rfl dL_law_1544 ?_
  refine v_iconst C.1.1 1 (by decide) dL_law_1546 ?_
  refine v_iadd C.1.1 dL_law_1547 ?_
  refine v_chk (fun h3 => ?_)
  refine v_Lscr C h3 dL_law_1548 ?_
  refine v_aload_n C.1.1 1 rfl rfl dL_law_1549 ?_
  refine v_iload C.1.1 5 rfl dL_law_1550 ?_
  refine v_iconst C.1.1 2 (by decide) dL_law_1552 ?_
  refine v_iadd C.1.1 dL_law_1553 ?_
  refine v_chk (fun h4 => ?_)
  refine v_Lscr C h4 dL_law_1554 ?_
  refine v_aload_n C.1.1 1 rfl rfl dL_law_1555 ?_
  refine v_iload C.1.1 5 rfl dL_law_1556 ?_
  refine v_iconst C.1.1 3 (by decide) dL_law_1558 ?_
  refine v_iadd C.1.1 dL_law_1559 ?_
  refine v_chk (fun h5 => ?_)
  refine v_Lscr C h5 dL_law_1560 ?_
  refine v_if_eq C.1.1 1568 (by decide) dL_law_1561 (fun _ => ?_) (fun _ => ?_)
  · refine v_iconst C.1.1 0 (by decide) dL_law_1568 ?_
    refine v_sub [1, 2, 3, 4, 5, 0] rfl ?_
    exact whL_1569 hl0 C k23 hk23 x4 r2 (xs (x4 + 1).toNatClampNeg) (xs (x4 + 2).toNatClampNeg) 0 v1
  · refine v_iconst C.1.1 1 (by decide) dL_law_1564 ?_
    refine v_goto C.1.1 1569 (by decide) dL_law_1565 ?_
    refine v_sub [1, 2, 3, 4, 5, 0] rfl ?_
    exact whL_1569 hl0 C k23 hk23 x4 r2 (xs (x4 + 1).toNatClampNeg) (xs (x4 + 2).toNatClampNeg) 1 v1
def hL_935 (x0 o0 n0 : Nat) (xs : Nat → Int32) (k23 : Int32 → LST → Option OL) (x4 : Int32) (s0 : Int32) (s2 : Int32) (v : LST) : Option OL :=
  lmc (f4_open s2 v.2) v fun r2 v1 =>
  if s0 = r2 then
    k23 (x4 + 6) v1
  else
    lret 0
theorem whL_935 {t : TT} {G : GH} {g : GM} {l : Launch} {p : Program} {e : Env} {s : State} {m : MethodId} {b : Nat} {below : List Frame} {meth : Method} {c : Code} {x0 o0 n0 : Nat} {xs : Nat → Int32} (hl0 : l.stackTraces = false) (C : CxL t G g l p s m b meth c n0 xs) (k23 : Int32 → LST → Option OL) (hk23 : ∀ (x4 : Int32) (v : LST), VL t G g p l e s m b below meth c 23 [(0, .ref b), (1, .ref x0), (2, .ref g.1), (3, .ref o0), (4, .int x4)] [] v (k23 x4 v)) (x4 : Int32) (s0 : Int32) (s2 : Int32) (v : LST) : VL t G g p l e s m b below meth c 935 [(0, .ref b), (1, .ref x0), (2, .ref g.1), (3, .ref o0), (4, .int x4)] [.int s2, .ref g.1, .int s0] v (hL_935 x0 o0 n0 xs k23 x4 s0 s2 v) := by
  unfold hL_935
  refine v_callLM C [.int s2] [.int s0] (ct4_open t g l s2 v.2) (cw4_open C.1.1 q2176 (by decide)) rfl rfl (by exact Nat.le_of_ble_eq_true rfl) dL_law_935 (fun r2 v1 => ?_)
  refine v_icmp_eq C.1.1 2323 (by decide) dL_law_938 (fun _ => ?_) (fun _ => ?_)
  · refine v_iinc C.1.1 6 [(4, .int (x4 + 6)), (0, .ref b), (1, .ref x0), (2, .ref g.1), (3, .ref o0)] 4 rfl (by decide) (by decide) rfl dL_law_2323 ?_
    refine v_goto C.1.1 23 (by decide) dL_law_2326 ?_
    refine v_sub [1, 2, 3, 4, 0] rfl ?_
    exact hk23 (x4 + 6) v1
  · refine v_iconst C.1.1 0 (by decide) dL_law_941 ?_
    exact v_lret C dL_law_942
def hL_917 (x0 o0 n0 : Nat) (xs : Nat → Int32) (k23 : Int32 → LST → Option OL) (x4 : Int32) (s1 : Int32) (v : LST) : Option OL :=
  mchk (hC v.1 x0 == 1) <|
  lxc (hX1_open x0 s1 v.1) v fun r2 v1 =>
  mchk (inb (x4 + 1) n0) <|
  if (xs (x4 + 1).toNatClampNeg) = 0 then
    hL_935 x0 o0 n0 xs k23 x4 r2 0 v1
  else
    hL_935 x0 o0 n0 xs k23 x4 r2 1 v1
theorem whL_917 {t : TT} {G : GH} {g : GM} {l : Launch} {p : Program} {e : Env} {s : State} {m : MethodId} {b : Nat} {below : List Frame} {meth : Method} {c : Code} {x0 o0 n0 : Nat} {xs : Nat → Int32} (hl0 : l.stackTraces = false) (C : CxL t G g l p s m b meth c n0 xs) (k23 : Int32 → LST → Option OL) (hk23 : ∀ (x4 : Int32) (v : LST), VL t G g p l e s m b below meth c 23 [(0, .ref b), (1, .ref x0), (2, .ref g.1), (3, .ref o0), (4, .int x4)] [] v (k23 x4 v)) (x4 : Int32) (s1 : Int32) (v : LST) : VL t G g p l e s m b below meth c 917 [(0, .ref b), (1, .ref x0), (2, .ref g.1), (3, .ref o0), (4, .int x4)] [.int s1, .ref x0] v (hL_917 x0 o0 n0 xs k23 x4 s1 v) := by
  unfold hL_917
  refine v_chk (fun h3 => ?_)
  refine v_callLV C [.int s1] [] (ctX1_open t G l hl0 x0 s1 v.1) (fun _ _ => cwX1_open C.1 q665 (by decide)) (ci := 0) (eq_of_beq h3) (by decide) rfl rfl rfl (by exact Nat.le_of_ble_eq_true rfl) dL_law_917 (fun r2 v1 => ?_)
  refine v_aload_n C.1.1 2 rfl rfl dL_law_920 ?_
  refine v_aload_n C.1.1 0 rfl rfl dL_law_921 ?_
  refine v_iload C.1.1 4 rfl dL_law_922 ?_
  refine v_iconst C.1.1 1 (by decide) dL_law_924 ?_
  refine v_iadd C.1.1 dL_law_925 ?_
  refine v_chk (fun h4 => ?_)
  refine v_Lscr C h4 dL_law_926 ?_
  refine v_if_eq C.1.1 934 (by decide) dL_law_927 (fun _ => ?_) (fun _ => ?_)
  · refine v_iconst C.1.1 0 (by decide) dL_law_934 ?_
    exact whL_935 hl0 C k23 hk23 x4 r2 0 v1
  · refine v_iconst C.1.1 1 (by decide) dL_law_930 ?_
    refine v_goto C.1.1 935 (by decide) dL_law_931 ?_
    exact whL_935 hl0 C k23 hk23 x4 r2 1 v1
def hL_837 (x0 o0 n0 : Nat) (xs : Nat → Int32) (k23 : Int32 → LST → Option OL) (x4 : Int32) (s0 : Int64) (s1 : Int64) (v : LST) : Option OL :=
  if (lg_cmp s0 s1) = 0 then
    k23 (x4 + 6) v
  else
    lret 0
theorem whL_837 {t : TT} {G : GH} {g : GM} {l : Launch} {p : Program} {e : Env} {s : State} {m : MethodId} {b : Nat} {below : List Frame} {meth : Method} {c : Code} {x0 o0 n0 : Nat} {xs : Nat → Int32} (hl0 : l.stackTraces = false) (C : CxL t G g l p s m b meth c n0 xs) (k23 : Int32 → LST → Option OL) (hk23 : ∀ (x4 : Int32) (v : LST), VL t G g p l e s m b below meth c 23 [(0, .ref b), (1, .ref x0), (2, .ref g.1), (3, .ref o0), (4, .int x4)] [] v (k23 x4 v)) (x4 : Int32) (s0 : Int64) (s1 : Int64) (v : LST) : VL t G g p l e s m b below meth c 837 [(0, .ref b), (1, .ref x0), (2, .ref g.1), (3, .ref o0), (4, .int x4)] [.long s1, .long s0] v (hL_837 x0 o0 n0 xs k23 x4 s0 s1 v) := by
  unfold hL_837
  refine v_lcmp C.1.1 dL_law_837 ?_
  refine v_if_eq C.1.1 843 (by decide) dL_law_838 (fun _ => ?_) (fun _ => ?_)
  · refine v_goto C.1.1 2323 (by decide) dL_law_843 ?_
    refine v_iinc C.1.1 6 [(4, .int (x4 + 6)), (0, .ref b), (1, .ref x0), (2, .ref g.1), (3, .ref o0)] 4 rfl (by decide) (by decide) rfl dL_law_2323 ?_
    refine v_goto C.1.1 23 (by decide) dL_law_2326 ?_
    refine v_sub [1, 2, 3, 4, 0] rfl ?_
    exact hk23 (x4 + 6) v
  · refine v_iconst C.1.1 0 (by decide) dL_law_841 ?_
    exact v_lret C dL_law_842
def hL_23 (x0 o0 n0 : Nat) (xs : Nat → Int32) (k : Int32 → LST → Option OL) (x4 : Int32) (v : LST) : Option OL :=
  if ((Int32.ofNat n0) - 6) < x4 then
    lret 1
  else
    mchk (inb x4 n0) <|
    mlet ((xs x4.toNatClampNeg) &&& 63) fun v2 =>
    if v2 = 0 then
      mchk (inb (x4 + 1) n0) <|
      mchk (inb (x4 + 2) n0) <|
      mchk (inb (x4 + 3) n0) <|
      mchk (inb (x4 + 4) n0) <|
      mchk (inb (x4 + 5) n0) <|
      mchk (hC v.1 x0 == 1) <|
      lxc (hX1_feed x0 (xs (x4 + 1).toNatClampNeg) (xs (x4 + 2).toNatClampNeg) (xs (x4 + 3).toNatClampNeg) (xs (x4 + 4).toNatClampNeg) (xs (x4 + 5).toNatClampNeg) v.1) v fun r10 v9 =>
      mchk (inb (x4 + 1) n0) <|
      mchk (inb (x4 + 2) n0) <|
      mchk (inb (x4 + 3) n0) <|
      mchk (inb (x4 + 4) n0) <|
      mchk (inb (x4 + 5) n0) <|
      lmc (f4_feed (xs (x4 + 1).toNatClampNeg) (xs (x4 + 2).toNatClampNeg) (xs (x4 + 3).toNatClampNeg) (xs (x4 + 4).toNatClampNeg) (xs (x4 + 5).toNatClampNeg) v9.2) v9 fun r18 v17 =>
      if r10 = r18 then
        k (x4 + 6) v17
      else
        lret 0
    else
      if v2 = 1 then
        mchk (inb (x4 + 1) n0) <|
        lxc (hX0_board x0 (xs (x4 + 1).toNatClampNeg) o0 v.1) v fun r7 v6 =>
        mchk (inb (x4 + 1) n0) <|
        lmc (f4_board (xs (x4 + 1).toNatClampNeg) v6.2) v6 fun r10 v9 =>
        lmc (f4_thrown v9.2) v9 fun r12 v11 =>
        if r12 = r7 then
          if r7 = 0 then
            mchk (inA v11.1 0 o0 24) <|
            if (lg_cmp (hJ v11.1 o0 (0 : Int32).toNatClampNeg) (Int32.toInt64 r10)) = 0 then
              k (x4 + 6) v11
            else
              lret 0
          else
            k (x4 + 6) v11
        else
          lret 0
      else
        if v2 = 2 then
          mchk (hC v.1 x0 == 1) <|
          lxc (hX1_fault x0 v.1) v fun r7 v6 =>
          lmc (f4_fault v6.2) v6 fun r10 v9 =>
          if r7 = r10 then
            k (x4 + 6) v9
          else
            lret 0
        else
          if v2 = 3 then
            mchk (inb (x4 + 1) n0) <|
            lxc (hX0_count x0 (xs (x4 + 1).toNatClampNeg) o0 v.1) v fun r9 v8 =>
            mchk (inb (x4 + 1) n0) <|
            lmc (f4_count (xs (x4 + 1).toNatClampNeg) v8.2) v8 fun r12 v11 =>
            lmc (f4_thrown v11.2) v11 fun r14 v13 =>
            if r14 = r9 then
              if r9 = 0 then
                mchk (inA v13.1 0 o0 24) <|
                if (lg_cmp (hJ v13.1 o0 (0 : Int32).toNatClampNeg) (Int32.toInt64 r12)) = 0 then
                  k (x4 + 6) v13
                else
                  lret 0
              else
                k (x4 + 6) v13
            else
              lret 0
          else
            if v2 = 4 then
              mchk (inb (x4 + 1) n0) <|
              mchk (inb (x4 + 2) n0) <|
              lxc (hX0_master x0 (xs (x4 + 1).toNatClampNeg) (xs (x4 + 2).toNatClampNeg) o0 v.1) v fun r11 v10 =>
              mchk (inb (x4 + 1) n0) <|
              mchk (inb (x4 + 2) n0) <|
              lmc (f4_master (xs (x4 + 1).toNatClampNeg) (xs (x4 + 2).toNatClampNeg) v10.2) v10 fun r15 v14 =>
              lmc (f4_thrown v14.2) v14 fun r17 v16 =>
              if r17 = r11 then
                if r11 = 0 then
                  mchk (inA v16.1 0 o0 24) <|
                  if (lg_cmp (hJ v16.1 o0 (0 : Int32).toNatClampNeg) (Int32.toInt64 r15)) = 0 then
                    k (x4 + 6) v16
                  else
                    lret 0
                else
                  k (x4 + 6) v16
              else
                lret 0
            else
              if v2 = 5 then
                mchk (inb (x4 + 1) n0) <|
                mchk (inb (x4 + 2) n0) <|
                lxc (hX0_place x0 (xs (x4 + 1).toNatClampNeg) (xs (x4 + 2).toNatClampNeg) o0 v.1) v fun r12 v11 =>
                mchk (inb (x4 + 1) n0) <|
                mchk (inb (x4 + 2) n0) <|
                lmc (f4_place (xs (x4 + 1).toNatClampNeg) (xs (x4 + 2).toNatClampNeg) v11.2) v11 fun r16 v15 =>
                lmc (f4_thrown v15.2) v15 fun r18 v17 =>
                if r18 = r12 then
                  if r12 = 0 then
                    mchk (inA v17.1 0 o0 24) <|
                    if (lg_cmp (hJ v17.1 o0 (0 : Int32).toNatClampNeg) (Int32.toInt64 r16)) = 0 then
                      k (x4 + 6) v17
                    else
                      lret 0
                  else
                    k (x4 + 6) v17
                else
                  lret 0
              else
                if v2 = 6 then
                  mchk (inb (x4 + 1) n0) <|
                  mchk (inb (x4 + 2) n0) <|
                  lxc (hX0_person x0 (xs (x4 + 1).toNatClampNeg) (xs (x4 + 2).toNatClampNeg) o0 v.1) v fun r13 v12 =>
                  mchk (inb (x4 + 1) n0) <|
                  mchk (inb (x4 + 2) n0) <|
                  lmc (f4_person (xs (x4 + 1).toNatClampNeg) (xs (x4 + 2).toNatClampNeg) v12.2) v12 fun r17 v16 =>
                  lmc (f4_thrown v16.2) v16 fun r19 v18 =>
                  if r19 = r13 then
                    if r13 = 0 then
                      mchk (inA v18.1 0 o0 24) <|
                      if (lg_cmp (hJ v18.1 o0 (0 : Int32).toNatClampNeg) (Int32.toInt64 r17)) = 0 then
                        k (x4 + 6) v18
                      else
                        lret 0
                    else
                      k (x4 + 6) v18
                  else
                    lret 0
                else
                  if v2 = 7 then
                    mchk (inb (x4 + 1) n0) <|
                    mchk (inb (x4 + 2) n0) <|
                    lxc (hX0_grudge x0 (xs (x4 + 1).toNatClampNeg) (xs (x4 + 2).toNatClampNeg) o0 v.1) v fun r14 v13 =>
                    mchk (inb (x4 + 1) n0) <|
                    mchk (inb (x4 + 2) n0) <|
                    lmc (f4_grudge (xs (x4 + 1).toNatClampNeg) (xs (x4 + 2).toNatClampNeg) v13.2) v13 fun r18 v17 =>
                    lmc (f4_thrown v17.2) v17 fun r20 v19 =>
                    if r20 = r14 then
                      if r14 = 0 then
                        mchk (inA v19.1 0 o0 24) <|
                        if (lg_cmp (hJ v19.1 o0 (0 : Int32).toNatClampNeg) (Int32.toInt64 r18)) = 0 then
                          k (x4 + 6) v19
                        else
                          lret 0
                      else
                        k (x4 + 6) v19
                    else
                      lret 0
                  else
                    if v2 = 8 then
                      mchk (inb (x4 + 1) n0) <|
                      mchk (hC v.1 x0 == 1) <|
                      lxc (hX1_mornings x0 (xs (x4 + 1).toNatClampNeg) v.1) v fun r14 v13 =>
                      mchk (inb (x4 + 1) n0) <|
                      lmc (f4_mornings (xs (x4 + 1).toNatClampNeg) v13.2) v13 fun r18 v17 =>
                      if r14 = r18 then
                        k (x4 + 6) v17
                      else
                        lret 0
                    else
                      if v2 = 9 then
                        mchk (inb (x4 + 1) n0) <|
                        mchk (inb (x4 + 2) n0) <|
                        lxc (hX0_go x0 (xs (x4 + 1).toNatClampNeg) (xs (x4 + 2).toNatClampNeg) o0 v.1) v fun r16 v15 =>
                        mchk (inb (x4 + 1) n0) <|
                        mchk (inb (x4 + 2) n0) <|
                        lmc (f4_go (xs (x4 + 1).toNatClampNeg) (xs (x4 + 2).toNatClampNeg) v15.2) v15 fun r20 v19 =>
                        lmc (f4_thrown v19.2) v19 fun r22 v21 =>
                        if r22 = r16 then
                          if r16 = 0 then
                            mchk (inA v21.1 0 o0 24) <|
                            if (lg_cmp (hJ v21.1 o0 (0 : Int32).toNatClampNeg) (Int32.toInt64 r20)) = 0 then
                              k (x4 + 6) v21
                            else
                              lret 0
                          else
                            k (x4 + 6) v21
                        else
                          lret 0
                      else
                        if v2 = 10 then
                          mchk (inb (x4 + 1) n0) <|
                          lxc (hX0_write x0 (xs (x4 + 1).toNatClampNeg) o0 v.1) v fun r16 v15 =>
                          mchk (inb (x4 + 1) n0) <|
                          lmc (f4_write (xs (x4 + 1).toNatClampNeg) v15.2) v15 fun r19 v18 =>
                          lmc (f4_thrown v18.2) v18 fun r21 v20 =>
                          if r21 = r16 then
                            if r16 = 0 then
                              mchk (inA v20.1 0 o0 24) <|
                              if r19 = 0 then
                                hL_837 x0 o0 n0 xs k x4 (hJ v20.1 o0 (0 : Int32).toNatClampNeg) 0 v20
                              else
                                hL_837 x0 o0 n0 xs k x4 (hJ v20.1 o0 (0 : Int32).toNatClampNeg) 1 v20
                            else
                              k (x4 + 6) v20
                          else
                            lret 0
                        else
                          if v2 = 11 then
                            mchk (inb (x4 + 1) n0) <|
                            lxc (hX0_strike x0 (xs (x4 + 1).toNatClampNeg) o0 v.1) v fun r17 v16 =>
                            mchk (inb (x4 + 1) n0) <|
                            lmc (f4_strike (xs (x4 + 1).toNatClampNeg) v16.2) v16 fun r20 v19 =>
                            lmc (f4_thrown v19.2) v19 fun r22 v21 =>
                            if r22 = r17 then
                              if r17 = 0 then
                                mchk (inA v21.1 0 o0 24) <|
                                if (lg_cmp (hJ v21.1 o0 (0 : Int32).toNatClampNeg) (Int32.toInt64 r20)) = 0 then
                                  k (x4 + 6) v21
                                else
                                  lret 0
                              else
                                k (x4 + 6) v21
                            else
                              lret 0
                          else
                            if v2 = 12 then
                              mchk (inb (x4 + 1) n0) <|
                              if (xs (x4 + 1).toNatClampNeg) = 0 then
                                hL_917 x0 o0 n0 xs k x4 0 v
                              else
                                hL_917 x0 o0 n0 xs k x4 1 v
                            else
                              if v2 = 13 then
                                mchk (hC v.1 x0 == 1) <|
                                lxc (hX1_undo x0 v.1) v fun r18 v17 =>
                                lmc (f4_undo v17.2) v17 fun r21 v20 =>
                                if r18 = r21 then
                                  k (x4 + 6) v20
                                else
                                  lret 0
                              else
                                if v2 = 14 then
                                  mchk (inb (x4 + 1) n0) <|
                                  mchk (inb (x4 + 2) n0) <|
                                  lxc (hX0_when x0 (xs (x4 + 1).toNatClampNeg) (xs (x4 + 2).toNatClampNeg) o0 v.1) v fun r21 v20 =>
                                  mchk (inb (x4 + 1) n0) <|
                                  mchk (inb (x4 + 2) n0) <|
                                  lmc (f4_when (xs (x4 + 1).toNatClampNeg) (xs (x4 + 2).toNatClampNeg) v20.2) v20 fun r25 v24 =>
                                  lmc (f4_thrown v24.2) v24 fun r27 v26 =>
                                  if r27 = r21 then
                                    if r21 = 0 then
                                      mchk (inA v26.1 0 o0 24) <|
                                      if (lg_cmp (hJ v26.1 o0 (0 : Int32).toNatClampNeg) (Int32.toInt64 r25)) = 0 then
                                        k (x4 + 6) v26
                                      else
                                        lret 0
                                    else
                                      k (x4 + 6) v26
                                  else
                                    lret 0
                                else
                                  if v2 = 15 then
                                    mchk (inb (x4 + 1) n0) <|
                                    lxc (hX0_found x0 (xs (x4 + 1).toNatClampNeg) o0 v.1) v fun r21 v20 =>
                                    mchk (inb (x4 + 1) n0) <|
                                    lmc (f4_found (xs (x4 + 1).toNatClampNeg) v20.2) v20 fun r24 v23 =>
                                    lmc (f4_thrown v23.2) v23 fun r26 v25 =>
                                    if r26 = r21 then
                                      if r21 = 0 then
                                        mchk (inA v25.1 0 o0 24) <|
                                        if (lg_cmp (hJ v25.1 o0 (0 : Int32).toNatClampNeg) (Int32.toInt64 r24)) = 0 then
                                          k (x4 + 6) v25
                                        else
                                          lret 0
                                      else
                                        k (x4 + 6) v25
                                    else
                                      lret 0
                                  else
                                    if v2 = 16 then
                                      mchk (inb (x4 + 1) n0) <|
                                      lxc (hX0_next x0 (xs (x4 + 1).toNatClampNeg) o0 v.1) v fun r22 v21 =>
                                      mchk (inb (x4 + 1) n0) <|
                                      lmc (f4_next (xs (x4 + 1).toNatClampNeg) v21.2) v21 fun r25 v24 =>
                                      lmc (f4_thrown v24.2) v24 fun r27 v26 =>
                                      if r27 = r22 then
                                        if r22 = 0 then
                                          mchk (inA v26.1 0 o0 24) <|
                                          if (lg_cmp (hJ v26.1 o0 (0 : Int32).toNatClampNeg) (Int32.toInt64 r25)) = 0 then
                                            k (x4 + 6) v26
                                          else
                                            lret 0
                                        else
                                          k (x4 + 6) v26
                                      else
                                        lret 0
                                    else
                                      if v2 = 17 then
                                        mchk (inb (x4 + 1) n0) <|
                                        mchk (inb (x4 + 2) n0) <|
                                        lxc (hX0_owes x0 (xs (x4 + 1).toNatClampNeg) (xs (x4 + 2).toNatClampNeg) o0 v.1) v fun r24 v23 =>
                                        mchk (inb (x4 + 1) n0) <|
                                        mchk (inb (x4 + 2) n0) <|
                                        lmc (f4_owes (xs (x4 + 1).toNatClampNeg) (xs (x4 + 2).toNatClampNeg) v23.2) v23 fun r28 v27 =>
                                        lmc (f4_thrown v27.2) v27 fun r30 v29 =>
                                        if r30 = r24 then
                                          if r24 = 0 then
                                            mchk (inA v29.1 0 o0 24) <|
                                            if (lg_cmp (hJ v29.1 o0 (0 : Int32).toNatClampNeg) (Int32.toInt64 r28)) = 0 then
                                              k (x4 + 6) v29
                                            else
                                              lret 0
                                          else
                                            k (x4 + 6) v29
                                        else
                                          lret 0
                                      else
                                        if v2 = 18 then
                                          mchk (inb (x4 + 1) n0) <|
                                          lxc (hX0_instead x0 (xs (x4 + 1).toNatClampNeg) o0 v.1) v fun r24 v23 =>
                                          mchk (inb (x4 + 1) n0) <|
                                          lmc (f4_instead (xs (x4 + 1).toNatClampNeg) v23.2) v23 fun r27 v26 =>
                                          lmc (f4_thrown v26.2) v26 fun r29 v28 =>
                                          if r29 = r24 then
                                            if r24 = 0 then
                                              mchk (inA v28.1 0 o0 24) <|
                                              if (lg_cmp (hJ v28.1 o0 (0 : Int32).toNatClampNeg) (Int32.toInt64 r27)) = 0 then
                                                k (x4 + 6) v28
                                              else
                                                lret 0
                                            else
                                              k (x4 + 6) v28
                                          else
                                            lret 0
                                        else
                                          if v2 = 19 then
                                            mchk (inb (x4 + 1) n0) <|
                                            lxc (hX0_out x0 (xs (x4 + 1).toNatClampNeg) o0 v.1) v fun r25 v24 =>
                                            mchk (inb (x4 + 1) n0) <|
                                            lmc (f4_out (xs (x4 + 1).toNatClampNeg) v24.2) v24 fun r28 v27 =>
                                            lmc (f4_thrown v27.2) v27 fun r30 v29 =>
                                            if r30 = r25 then
                                              if r25 = 0 then
                                                mchk (inA v29.1 0 o0 24) <|
                                                if (lg_cmp (hJ v29.1 o0 (0 : Int32).toNatClampNeg) (Int32.toInt64 r28)) = 0 then
                                                  k (x4 + 6) v29
                                                else
                                                  lret 0
                                              else
                                                k (x4 + 6) v29
                                            else
                                              lret 0
                                          else
                                            if v2 = 20 then
                                              mchk (inb (x4 + 1) n0) <|
                                              lxc (hX0_gate x0 (xs (x4 + 1).toNatClampNeg) o0 v.1) v fun r26 v25 =>
                                              mchk (inb (x4 + 1) n0) <|
                                              lmc (f4_gate (xs (x4 + 1).toNatClampNeg) v25.2) v25 fun r29 v28 =>
                                              lmc (f4_thrown v28.2) v28 fun r31 v30 =>
                                              if r31 = r26 then
                                                if r26 = 0 then
                                                  mchk (inA v30.1 0 o0 24) <|
                                                  if (lg_cmp (hJ v30.1 o0 (0 : Int32).toNatClampNeg) (Int32.toInt64 r29)) = 0 then
                                                    k (x4 + 6) v30
                                                  else
                                                    lret 0
                                                else
                                                  k (x4 + 6) v30
                                              else
                                                lret 0
                                            else
                                              if v2 = 21 then
                                                mchk (inb (x4 + 1) n0) <|
                                                mchk (inb (x4 + 2) n0) <|
                                                lxc (hX0_surest x0 (xs (x4 + 1).toNatClampNeg) (xs (x4 + 2).toNatClampNeg) o0 v.1) v fun r28 v27 =>
                                                mchk (inb (x4 + 1) n0) <|
                                                mchk (inb (x4 + 2) n0) <|
                                                lmc (f4_surest (xs (x4 + 1).toNatClampNeg) (xs (x4 + 2).toNatClampNeg) v27.2) v27 fun r32 v31 =>
                                                lmc (f4_thrown v31.2) v31 fun r34 v33 =>
                                                if r34 = r28 then
                                                  if r28 = 0 then
                                                    mchk (inA v33.1 0 o0 24) <|
                                                    if (lg_cmp (hJ v33.1 o0 (0 : Int32).toNatClampNeg) (Int32.toInt64 r32)) = 0 then
                                                      k (x4 + 6) v33
                                                    else
                                                      lret 0
                                                  else
                                                    k (x4 + 6) v33
                                                else
                                                  lret 0
                                              else
                                                if v2 = 22 then
                                                  mchk (inb (x4 + 1) n0) <|
                                                  lxc (hX0_close x0 (xs (x4 + 1).toNatClampNeg) o0 v.1) v fun r28 v27 =>
                                                  mchk (inb (x4 + 1) n0) <|
                                                  lmc (f4_close (xs (x4 + 1).toNatClampNeg) v27.2) v27 fun r31 v30 =>
                                                  lmc (f4_thrown v30.2) v30 fun r33 v32 =>
                                                  if r33 = r28 then
                                                    if r28 = 0 then
                                                      mchk (inA v32.1 0 o0 24) <|
                                                      if (lg_cmp (hJ v32.1 o0 (0 : Int32).toNatClampNeg) (Int32.toInt64 r31)) = 0 then
                                                        k (x4 + 6) v32
                                                      else
                                                        lret 0
                                                    else
                                                      k (x4 + 6) v32
                                                  else
                                                    lret 0
                                                else
                                                  if v2 = 23 then
                                                    mchk (hC v.1 x0 == 1) <|
                                                    lxc (hX1_spared x0 v.1) v fun r28 v27 =>
                                                    lmc (f4_spared v27.2) v27 fun r31 v30 =>
                                                    if r28 = r31 then
                                                      k (x4 + 6) v30
                                                    else
                                                      lret 0
                                                  else
                                                    if v2 = 24 then
                                                      mchk (inb (x4 + 1) n0) <|
                                                      mchk (inb (x4 + 2) n0) <|
                                                      mchk (inb (x4 + 3) n0) <|
                                                      if (xs (x4 + 3).toNatClampNeg) = 0 then
                                                        hL_1536 x0 o0 n0 xs k x4 (xs (x4 + 1).toNatClampNeg) (xs (x4 + 2).toNatClampNeg) 0 v
                                                      else
                                                        hL_1536 x0 o0 n0 xs k x4 (xs (x4 + 1).toNatClampNeg) (xs (x4 + 2).toNatClampNeg) 1 v
                                                    else
                                                      if v2 = 25 then
                                                        mchk (hC v.1 x0 == 1) <|
                                                        lxc (hX1_forget x0 v.1) v fun _ v29 =>
                                                        lmc (f4_forget v29.2) v29 fun _ v31 =>
                                                        k (x4 + 6) v31
                                                      else
                                                        if v2 = 26 then
                                                          mchk (inb (x4 + 1) n0) <|
                                                          lxc (hX0_scribe x0 (xs (x4 + 1).toNatClampNeg) o0 v.1) v fun r32 v31 =>
                                                          mchk (inb (x4 + 1) n0) <|
                                                          lmc (f4_scribe (xs (x4 + 1).toNatClampNeg) v31.2) v31 fun r35 v34 =>
                                                          lmc (f4_thrown v34.2) v34 fun r37 v36 =>
                                                          if r37 = r32 then
                                                            if r32 = 0 then
                                                              mchk (inA v36.1 0 o0 24) <|
                                                              if (lg_cmp (hJ v36.1 o0 (0 : Int32).toNatClampNeg) (Int32.toInt64 r35)) = 0 then
                                                                k (x4 + 6) v36
                                                              else
                                                                lret 0
                                                            else
                                                              k (x4 + 6) v36
                                                          else
                                                            lret 0
                                                        else
                                                          if v2 = 27 then
                                                            mchk (inb (x4 + 1) n0) <|
                                                            lxc (hX0_tells x0 (xs (x4 + 1).toNatClampNeg) o0 v.1) v fun r33 v32 =>
                                                            mchk (inb (x4 + 1) n0) <|
                                                            lmc (f4_tells (xs (x4 + 1).toNatClampNeg) v32.2) v32 fun r36 v35 =>
                                                            lmc (f4_thrown v35.2) v35 fun r38 v37 =>
                                                            if r38 = r33 then
                                                              if r33 = 0 then
                                                                mchk (inA v37.1 0 o0 24) <|
                                                                if (lg_cmp (hJ v37.1 o0 (0 : Int32).toNatClampNeg) (Int32.toInt64 r36)) = 0 then
                                                                  k (x4 + 6) v37
                                                                else
                                                                  lret 0
                                                              else
                                                                k (x4 + 6) v37
                                                            else
                                                              lret 0
                                                          else
                                                            if v2 = 28 then
                                                              mchk (inb (x4 + 1) n0) <|
                                                              lxc (hX0_roll x0 (xs (x4 + 1).toNatClampNeg) o0 v.1) v fun r34 v33 =>
                                                              mchk (inb (x4 + 1) n0) <|
                                                              lmc (f4_roll (xs (x4 + 1).toNatClampNeg) v33.2) v33 fun r37 v36 =>
                                                              lmc (f4_thrown v36.2) v36 fun r39 v38 =>
                                                              if r39 = r34 then
                                                                if r34 = 0 then
                                                                  mchk (inA v38.1 0 o0 24) <|
                                                                  if (lg_cmp (hJ v38.1 o0 (0 : Int32).toNatClampNeg) (Int32.toInt64 r37)) = 0 then
                                                                    k (x4 + 6) v38
                                                                  else
                                                                    lret 0
                                                                else
                                                                  k (x4 + 6) v38
                                                              else
                                                                lret 0
                                                            else
                                                              if v2 = 29 then
                                                                mchk (inb (x4 + 1) n0) <|
                                                                mchk (inb (x4 + 2) n0) <|
                                                                mchk (inb (x4 + 3) n0) <|
                                                                lxc (hX0_bargain x0 (xs (x4 + 1).toNatClampNeg) (xs (x4 + 2).toNatClampNeg) (xs (x4 + 3).toNatClampNeg) o0 v.1) v fun r37 v36 =>
                                                                mchk (inb (x4 + 1) n0) <|
                                                                mchk (inb (x4 + 2) n0) <|
                                                                mchk (inb (x4 + 3) n0) <|
                                                                lmc (f4_bargain (xs (x4 + 1).toNatClampNeg) (xs (x4 + 2).toNatClampNeg) (xs (x4 + 3).toNatClampNeg) v36.2) v36 fun r42 v41 =>
                                                                lmc (f4_thrown v41.2) v41 fun r44 v43 =>
                                                                if r44 = r37 then
                                                                  if r37 = 0 then
                                                                    mchk (inA v43.1 0 o0 24) <|
                                                                    if (lg_cmp (hJ v43.1 o0 (0 : Int32).toNatClampNeg) (Int32.toInt64 r42)) = 0 then
                                                                      k (x4 + 6) v43
                                                                    else
                                                                      lret 0
                                                                  else
                                                                    k (x4 + 6) v43
                                                                else
                                                                  lret 0
                                                              else
                                                                if v2 = 30 then
                                                                  mchk (inb (x4 + 1) n0) <|
                                                                  mchk (inb (x4 + 2) n0) <|
                                                                  mchk (inb (x4 + 3) n0) <|
                                                                  lxc (hX0_lists x0 (xs (x4 + 1).toNatClampNeg) (xs (x4 + 2).toNatClampNeg) (xs (x4 + 3).toNatClampNeg) o0 v.1) v fun r38 v37 =>
                                                                  mchk (inb (x4 + 1) n0) <|
                                                                  mchk (inb (x4 + 2) n0) <|
                                                                  mchk (inb (x4 + 3) n0) <|
                                                                  lmc (f4_lists (xs (x4 + 1).toNatClampNeg) (xs (x4 + 2).toNatClampNeg) (xs (x4 + 3).toNatClampNeg) v37.2) v37 fun r43 v42 =>
                                                                  lmc (f4_thrown v42.2) v42 fun r45 v44 =>
                                                                  if r45 = r38 then
                                                                    if r38 = 0 then
                                                                      mchk (inA v44.1 0 o0 24) <|
                                                                      if (lg_cmp (hJ v44.1 o0 (0 : Int32).toNatClampNeg) (Int32.toInt64 r43)) = 0 then
                                                                        k (x4 + 6) v44
                                                                      else
                                                                        lret 0
                                                                    else
                                                                      k (x4 + 6) v44
                                                                  else
                                                                    lret 0
                                                                else
                                                                  if v2 = 31 then
                                                                    mchk (inb (x4 + 1) n0) <|
                                                                    mchk (inb (x4 + 2) n0) <|
                                                                    lxc (hX0_far x0 (xs (x4 + 1).toNatClampNeg) (xs (x4 + 2).toNatClampNeg) o0 v.1) v fun r38 v37 =>
                                                                    mchk (inb (x4 + 1) n0) <|
                                                                    mchk (inb (x4 + 2) n0) <|
                                                                    lmc (f4_far (xs (x4 + 1).toNatClampNeg) (xs (x4 + 2).toNatClampNeg) v37.2) v37 fun r42 v41 =>
                                                                    lmc (f4_thrown v41.2) v41 fun r44 v43 =>
                                                                    if r44 = r38 then
                                                                      if r38 = 0 then
                                                                        mchk (inA v43.1 0 o0 24) <|
                                                                        if (lg_cmp (hJ v43.1 o0 (0 : Int32).toNatClampNeg) (Int32.toInt64 r42)) = 0 then
                                                                          k (x4 + 6) v43
                                                                        else
                                                                          lret 0
                                                                      else
                                                                        k (x4 + 6) v43
                                                                    else
                                                                      lret 0
                                                                  else
                                                                    if v2 = 32 then
                                                                      mchk (inb (x4 + 1) n0) <|
                                                                      lxc (hX0_refuge x0 (xs (x4 + 1).toNatClampNeg) o0 v.1) v fun r38 v37 =>
                                                                      mchk (inb (x4 + 1) n0) <|
                                                                      lmc (f4_refuge (xs (x4 + 1).toNatClampNeg) v37.2) v37 fun r41 v40 =>
                                                                      lmc (f4_thrown v40.2) v40 fun r43 v42 =>
                                                                      if r43 = r38 then
                                                                        if r38 = 0 then
                                                                          mchk (inA v42.1 0 o0 24) <|
                                                                          if (lg_cmp (hJ v42.1 o0 (0 : Int32).toNatClampNeg) (Int32.toInt64 r41)) = 0 then
                                                                            k (x4 + 6) v42
                                                                          else
                                                                            lret 0
                                                                        else
                                                                          k (x4 + 6) v42
                                                                      else
                                                                        lret 0
                                                                    else
                                                                      if v2 = 33 then
                                                                        mchk (hC v.1 x0 == 1) <|
                                                                        lxc (hX1_richest x0 v.1) v fun r38 v37 =>
                                                                        lmc (f4_richest v37.2) v37 fun r41 v40 =>
                                                                        if r38 = r41 then
                                                                          k (x4 + 6) v40
                                                                        else
                                                                          lret 0
                                                                      else
                                                                        if v2 = 34 then
                                                                          mchk (inb (x4 + 1) n0) <|
                                                                          lxc (hX0_worst x0 (xs (x4 + 1).toNatClampNeg) o0 v.1) v fun r40 v39 =>
                                                                          mchk (inb (x4 + 1) n0) <|
                                                                          lmc (f4_worst (xs (x4 + 1).toNatClampNeg) v39.2) v39 fun r43 v42 =>
                                                                          lmc (f4_thrown v42.2) v42 fun r45 v44 =>
                                                                          if r45 = r40 then
                                                                            if r40 = 0 then
                                                                              mchk (inA v44.1 0 o0 24) <|
                                                                              if (lg_cmp (hJ v44.1 o0 (0 : Int32).toNatClampNeg) (Int32.toInt64 r43)) = 0 then
                                                                                k (x4 + 6) v44
                                                                              else
                                                                                lret 0
                                                                            else
                                                                              k (x4 + 6) v44
                                                                          else
                                                                            lret 0
                                                                        else
                                                                          if v2 = 35 then
                                                                            mchk (hC v.1 x0 == 1) <|
                                                                            lxc (hX1_idle x0 v.1) v fun r40 v39 =>
                                                                            lmc (f4_idle v39.2) v39 fun r43 v42 =>
                                                                            if r40 = r43 then
                                                                              k (x4 + 6) v42
                                                                            else
                                                                              lret 0
                                                                          else
                                                                            if v2 = 36 then
                                                                              mchk (inb (x4 + 1) n0) <|
                                                                              mchk (inb (x4 + 2) n0) <|
                                                                              lxc (hX0_stay x0 (xs (x4 + 1).toNatClampNeg) (xs (x4 + 2).toNatClampNeg) o0 v.1) v fun r43 v42 =>
                                                                              mchk (inb (x4 + 1) n0) <|
                                                                              mchk (inb (x4 + 2) n0) <|
                                                                              lmc (f4_stay (xs (x4 + 1).toNatClampNeg) (xs (x4 + 2).toNatClampNeg) v42.2) v42 fun r47 v46 =>
                                                                              lmc (f4_thrown v46.2) v46 fun r49 v48 =>
                                                                              if r49 = r43 then
                                                                                if r43 = 0 then
                                                                                  mchk (inA v48.1 0 o0 24) <|
                                                                                  if (lg_cmp (hJ v48.1 o0 (0 : Int32).toNatClampNeg) (Int32.toInt64 r47)) = 0 then
                                                                                    k (x4 + 6) v48
                                                                                  else
                                                                                    lret 0
                                                                                else
                                                                                  k (x4 + 6) v48
                                                                              else
                                                                                lret 0
                                                                            else
                                                                              if v2 = 37 then
                                                                                mchk (hC v.1 x0 == 1) <|
                                                                                lxc (hX1_sought x0 v.1) v fun r42 v41 =>
                                                                                lmc (f4_sought v41.2) v41 fun r45 v44 =>
                                                                                if r42 = r45 then
                                                                                  k (x4 + 6) v44
                                                                                else
                                                                                  lret 0
                                                                              else
                                                                                if v2 = 38 then
                                                                                  mchk (inb (x4 + 1) n0) <|
                                                                                  mchk (inb (x4 + 2) n0) <|
                                                                                  lxc (hX0_steps x0 (xs (x4 + 1).toNatClampNeg) (xs (x4 + 2).toNatClampNeg) o0 v.1) v fun r45 v44 =>
                                                                                  mchk (inb (x4 + 1) n0) <|
                                                                                  mchk (inb (x4 + 2) n0) <|
                                                                                  lmc (f4_steps (xs (x4 + 1).toNatClampNeg) (xs (x4 + 2).toNatClampNeg) v44.2) v44 fun r49 v48 =>
                                                                                  lmc (f4_thrown v48.2) v48 fun r51 v50 =>
                                                                                  if r51 = r45 then
                                                                                    if r45 = 0 then
                                                                                      mchk (inA v50.1 0 o0 24) <|
                                                                                      if (lg_cmp (hJ v50.1 o0 (0 : Int32).toNatClampNeg) (Int32.toInt64 r49)) = 0 then
                                                                                        k (x4 + 6) v50
                                                                                      else
                                                                                        lret 0
                                                                                    else
                                                                                      k (x4 + 6) v50
                                                                                  else
                                                                                    lret 0
                                                                                else
                                                                                  if v2 = 39 then
                                                                                    mchk (hC v.1 x0 == 1) <|
                                                                                    lxc (hX1_image x0 v.1) v fun _ v43 =>
                                                                                    lmc (f4_image v43.2) v43 fun _ v45 =>
                                                                                    k (x4 + 6) v45
                                                                                  else
                                                                                    if v2 = 40 then
                                                                                      mchk (hC v.1 x0 == 1) <|
                                                                                      lxc (hX1_restore x0 v.1) v fun r45 v44 =>
                                                                                      lmc (f4_restore v44.2) v44 fun r48 v47 =>
                                                                                      if r45 = r48 then
                                                                                        k (x4 + 6) v47
                                                                                      else
                                                                                        lret 0
                                                                                    else
                                                                                      k (x4 + 6) v
theorem whL_23 {t : TT} {G : GH} {g : GM} {l : Launch} {p : Program} {e : Env} {s : State} {m : MethodId} {b : Nat} {below : List Frame} {meth : Method} {c : Code} {x0 o0 n0 : Nat} {xs : Nat → Int32} (hl0 : l.stackTraces = false) (C : CxL t G g l p s m b meth c n0 xs) (n : Nat) (x4 : Int32) (v : LST) : VL t G g p l e s m b below meth c 23 [(0, .ref b), (1, .ref x0), (2, .ref g.1), (3, .ref o0), (4, .int x4)] [] v (ml1 (hL_23 x0 o0 n0 xs) n x4 v) := by
  refine vl1 (L := fun x4 => [(0, .ref b), (1, .ref x0), (2, .ref g.1), (3, .ref o0), (4, .int x4)]) (fun k hk x4 v => ?_) n x4 v
  unfold hL_23
  refine v_iload C.1.1 4 rfl dL_law_23 ?_
  refine v_aload_n C.1.1 0 rfl rfl dL_law_25 ?_
  refine v_Llen C dL_law_26 ?_
  refine v_bipush C.1.1 6 (by decide) dL_law_27 ?_
  refine v_isub C.1.1 dL_law_29 ?_
  refine v_icmp_gt C.1.1 2329 (by decide) dL_law_30 (fun _ => ?_) (fun _ => ?_)
  · refine v_iconst C.1.1 1 (by decide) dL_law_2329 ?_
    exact v_lret C dL_law_2330
  · refine v_aload_n C.1.1 0 rfl rfl dL_law_33 ?_
    refine v_iload C.1.1 4 rfl dL_law_34 ?_
    refine v_chk (fun h1 => ?_)
    refine v_Lscr C h1 dL_law_36 ?_
    refine v_bipush C.1.1 63 (by decide) dL_law_37 ?_
    refine v_iand C.1.1 dL_law_39 ?_
    refine v_topi (fun v2 => ?_)
    refine v_if (fun h3 => ?_) (fun h3 => ?_)
    · refine v_tableIn C.1.1 (180) 220 (by rw [h3]; decide) (by rw [h3]; decide) (by rw [h3]; rfl) (by decide) dL_law_40 ?_
      refine v_aload_n C.1.1 1 rfl rfl dL_law_220 ?_
      refine v_aload_n C.1.1 0 rfl rfl dL_law_221 ?_
      refine v_iload C.1.1 4 rfl dL_law_222 ?_
      refine v_iconst C.1.1 1 (by decide) dL_law_224 ?_
      refine v_iadd C.1.1 dL_law_225 ?_
      refine v_chk (fun h4 => ?_)
      refine v_Lscr C h4 dL_law_226 ?_
      refine v_aload_n C.1.1 0 rfl rfl dL_law_227 ?_
      refine v_iload C.1.1 4 rfl dL_law_228 ?_
      refine v_iconst C.1.1 2 (by decide) dL_law_230 ?_
      refine v_iadd C.1.1 dL_law_231 ?_
      refine v_chk (fun h5 => ?_)
      refine v_Lscr C h5 dL_law_232 ?_
      refine v_aload_n C.1.1 0 rfl rfl dL_law_233 ?_
      refine v_iload C.1.1 4 rfl dL_law_234 ?_
      refine v_iconst C.1.1 3 (by decide) dL_law_236 ?_
      refine v_iadd C.1.1 dL_law_237 ?_
      refine v_chk (fun h6 => ?_)
      refine v_Lscr C h6 dL_law_238 ?_
      refine v_aload_n C.1.1 0 rfl rfl dL_law_239 ?_
      refine v_iload C.1.1 4 rfl dL_law_240 ?_
      refine v_iconst C.1.1 4 (by decide) dL_law_242 ?_
      refine v_iadd C.1.1 dL_law_243 ?_
      refine v_chk (fun h7 => ?_)
      refine v_Lscr C h7 dL_law_244 ?_
      refine v_aload_n C.1.1 0 rfl rfl dL_law_245 ?_
      refine v_iload C.1.1 4 rfl dL_law_246 ?_
      refine v_iconst C.1.1 5 (by decide) dL_law_248 ?_
      refine v_iadd C.1.1 dL_law_249 ?_
      refine v_chk (fun h8 => ?_)
      refine v_Lscr C h8 dL_law_250 ?_
      refine v_chk (fun h11 => ?_)
      refine v_callLV C [.int (xs (x4 + 1).toNatClampNeg), .int (xs (x4 + 2).toNatClampNeg), .int (xs (x4 + 3).toNatClampNeg), .int (xs (x4 + 4).toNatClampNeg), .int (xs (x4 + 5).toNatClampNeg)] [] (ctX1_feed t G l hl0 x0 (xs (x4 + 1).toNatClampNeg) (xs (x4 + 2).toNatClampNeg) (xs (x4 + 3).toNatClampNeg) (xs (x4 + 4).toNatClampNeg) (xs (x4 + 5).toNatClampNeg) v.1) (fun _ _ => cwX1_feed C.1 q354 (by decide)) (ci := 0) (eq_of_beq h11) (by decide) rfl rfl rfl (by exact Nat.le_of_ble_eq_true rfl) dL_law_251 (fun r10 v9 => ?_)
      refine v_aload_n C.1.1 2 rfl rfl dL_law_254 ?_
      refine v_aload_n C.1.1 0 rfl rfl dL_law_255 ?_
      refine v_iload C.1.1 4 rfl dL_law_256 ?_
      refine v_iconst C.1.1 1 (by decide) dL_law_258 ?_
      refine v_iadd C.1.1 dL_law_259 ?_
      refine v_chk (fun h12 => ?_)
      refine v_Lscr C h12 dL_law_260 ?_
      refine v_aload_n C.1.1 0 rfl rfl dL_law_261 ?_
      refine v_iload C.1.1 4 rfl dL_law_262 ?_
      refine v_iconst C.1.1 2 (by decide) dL_law_264 ?_
      refine v_iadd C.1.1 dL_law_265 ?_
      refine v_chk (fun h13 => ?_)
      refine v_Lscr C h13 dL_law_266 ?_
      refine v_aload_n C.1.1 0 rfl rfl dL_law_267 ?_
      refine v_iload C.1.1 4 rfl dL_law_268 ?_
      refine v_iconst C.1.1 3 (by decide) dL_law_270 ?_
      refine v_iadd C.1.1 dL_law_271 ?_
      refine v_chk (fun h14 => ?_)
      refine v_Lscr C h14 dL_law_272 ?_
      refine v_aload_n C.1.1 0 rfl rfl dL_law_273 ?_
      refine v_iload C.1.1 4 rfl dL_law_274 ?_
      refine v_iconst C.1.1 4 (by decide) dL_law_276 ?_
      refine v_iadd C.1.1 dL_law_277 ?_
      refine v_chk (fun h15 => ?_)
      refine v_Lscr C h15 dL_law_278 ?_
      refine v_aload_n C.1.1 0 rfl rfl dL_law_279 ?_
      refine v_iload C.1.1 4 rfl dL_law_280 ?_
      refine v_iconst C.1.1 5 (by decide) dL_law_282 ?_
      refine v_iadd C.1.1 dL_law_283 ?_
      refine v_chk (fun h16 => ?_)
      refine v_Lscr C h16 dL_law_284 ?_
      refine v_callLM C [.int (xs (x4 + 1).toNatClampNeg), .int (xs (x4 + 2).toNatClampNeg), .int (xs (x4 + 3).toNatClampNeg), .int (xs (x4 + 4).toNatClampNeg), .int (xs (x4 + 5).toNatClampNeg)] [.int r10] (ct4_feed t g l (xs (x4 + 1).toNatClampNeg) (xs (x4 + 2).toNatClampNeg) (xs (x4 + 3).toNatClampNeg) (xs (x4 + 4).toNatClampNeg) (xs (x4 + 5).toNatClampNeg) v9.2) (cw4_feed C.1.1 q1882 (by decide)) rfl rfl (by exact Nat.le_of_ble_eq_true rfl) dL_law_285 (fun r18 v17 => ?_)
      refine v_icmp_eq C.1.1 2323 (by decide) dL_law_288 (fun _ => ?_) (fun _ => ?_)
      · refine v_iinc C.1.1 6 [(4, .int (x4 + 6)), (0, .ref b), (1, .ref x0), (2, .ref g.1), (3, .ref o0)] 4 rfl (by decide) (by decide) rfl dL_law_2323 ?_
        refine v_goto C.1.1 23 (by decide) dL_law_2326 ?_
        refine v_sub [1, 2, 3, 4, 0] rfl ?_
        exact hk (x4 + 6) v17
      · refine v_iconst C.1.1 0 (by decide) dL_law_291 ?_
        exact v_lret C dL_law_292
    · skip
      refine v_if (fun h4 => ?_) (fun h4 => ?_)
      · refine v_tableIn C.1.1 (253) 293 (by rw [h4]; decide) (by rw [h4]; decide) (by rw [h4]; rfl) (by decide) dL_law_40 ?_
        refine v_aload_n C.1.1 1 rfl rfl dL_law_293 ?_
        refine v_aload_n C.1.1 0 rfl rfl dL_law_294 ?_
        refine v_iload C.1.1 4 rfl dL_law_295 ?_
        refine v_iconst C.1.1 1 (by decide) dL_law_297 ?_
        refine v_iadd C.1.1 dL_law_298 ?_
        refine v_chk (fun h5 => ?_)
        refine v_Lscr C h5 dL_law_299 ?_
        refine v_aload_n C.1.1 3 rfl rfl dL_law_300 ?_
        refine v_callLS C [.ref x0, .int (xs (x4 + 1).toNatClampNeg), .ref o0] [] (ctX0_board t G l hl0 x0 (xs (x4 + 1).toNatClampNeg) o0 v.1) (fun _ _ => cwX0_board C.1 q751 (by decide)) rfl rfl (by exact Nat.le_of_ble_eq_true rfl) dL_law_301 (fun r7 v6 => ?_)
        refine v_istore C.1.1 [(5, .int r7), (0, .ref b), (1, .ref x0), (2, .ref g.1), (3, .ref o0), (4, .int x4)] (by decide) rfl dL_law_304 ?_
        refine v_aload_n C.1.1 3 rfl rfl dL_law_306 ?_
        refine v_aload_n C.1.1 1 rfl rfl dL_law_307 ?_
        refine v_iload C.1.1 5 rfl dL_law_308 ?_
        refine v_iconst C.1.1 1 (by decide) dL_law_310 ?_
        refine v_iadd C.1.1 dL_law_311 ?_
        refine v_chk (fun h8 => ?_)
        refine v_Lscr C h8 dL_law_312 ?_
        refine v_callLM C [.int (xs (x4 + 1).toNatClampNeg)] [] (ct4_board t g l (xs (x4 + 1).toNatClampNeg) v6.2) (cw4_board C.1.1 q1890 (by decide)) rfl rfl (by exact Nat.le_of_ble_eq_true rfl) dL_law_313 (fun r10 v9 => ?_)
        refine v_istore C.1.1 [(6, .int r10), (5, .int r7), (0, .ref b), (1, .ref x0), (2, .ref g.1), (3, .ref o0), (4, .int x4)] (by decide) rfl dL_law_316 ?_
        refine v_aload_n C.1.1 4 rfl rfl dL_law_318 ?_
        refine v_callLM C [] [] (ct4_thrown t g l v9.2) (cw4_thrown C.1.1 q1878 (by decide)) rfl rfl (by exact Nat.le_of_ble_eq_true rfl) dL_law_319 (fun r12 v11 => ?_)
        refine v_iload C.1.1 1 rfl dL_law_322 ?_
        refine v_icmp_eq C.1.1 329 (by decide) dL_law_324 (fun _ => ?_) (fun _ => ?_)
        · refine v_iload C.1.1 1 rfl dL_law_329 ?_
          refine v_if_ne C.1.1 346 (by decide) dL_law_331 (fun _ => ?_) (fun _ => ?_)
          · refine v_aload_n C.1.1 5 rfl rfl dL_law_334 ?_
            refine v_iconst C.1.1 0 (by decide) dL_law_335 ?_
            refine v_chk (fun h13 => ?_)
            refine v_Llald C h13 dL_law_336 ?_
            refine v_iload C.1.1 0 rfl dL_law_337 ?_
            refine v_i2l C.1.1 dL_law_339 ?_
            refine v_lcmp C.1.1 dL_law_340 ?_
            refine v_if_eq C.1.1 346 (by decide) dL_law_341 (fun _ => ?_) (fun _ => ?_)
            · refine v_goto C.1.1 2323 (by decide) dL_law_346 ?_
              refine v_iinc C.1.1 6 [(4, .int (x4 + 6)), (6, .int r10), (5, .int r7), (0, .ref b), (1, .ref x0), (2, .ref g.1), (3, .ref o0)] 6 rfl (by decide) (by decide) rfl dL_law_2323 ?_
              refine v_goto C.1.1 23 (by decide) dL_law_2326 ?_
              refine v_sub [3, 4, 5, 6, 0] rfl ?_
              exact hk (x4 + 6) v11
            · refine v_iconst C.1.1 0 (by decide) dL_law_344 ?_
              exact v_lret C dL_law_345
          · refine v_goto C.1.1 2323 (by decide) dL_law_346 ?_
            refine v_iinc C.1.1 6 [(4, .int (x4 + 6)), (6, .int r10), (5, .int r7), (0, .ref b), (1, .ref x0), (2, .ref g.1), (3, .ref o0)] 6 rfl (by decide) (by decide) rfl dL_law_2323 ?_
            refine v_goto C.1.1 23 (by decide) dL_law_2326 ?_
            refine v_sub [3, 4, 5, 6, 0] rfl ?_
            exact hk (x4 + 6) v11
        · refine v_iconst C.1.1 0 (by decide) dL_law_327 ?_
          exact v_lret C dL_law_328
      · skip
        refine v_if (fun h5 => ?_) (fun h5 => ?_)
        · refine v_tableIn C.1.1 (309) 349 (by rw [h5]; decide) (by rw [h5]; decide) (by rw [h5]; rfl) (by decide) dL_law_40 ?_
          refine v_aload_n C.1.1 1 rfl rfl dL_law_349 ?_
          refine v_chk (fun h8 => ?_)
          refine v_callLV C [] [] (ctX1_fault t G l hl0 x0 v.1) (fun _ _ => cwX1_fault C.1 q358 (by decide)) (ci := 0) (eq_of_beq h8) (by decide) rfl rfl rfl (by exact Nat.le_of_ble_eq_true rfl) dL_law_350 (fun r7 v6 => ?_)
          refine v_aload_n C.1.1 2 rfl rfl dL_law_353 ?_
          refine v_callLM C [] [.int r7] (ct4_fault t g l v6.2) (cw4_fault C.1.1 q2025 (by decide)) rfl rfl (by exact Nat.le_of_ble_eq_true rfl) dL_law_354 (fun r10 v9 => ?_)
          refine v_icmp_eq C.1.1 2323 (by decide) dL_law_357 (fun _ => ?_) (fun _ => ?_)
          · refine v_iinc C.1.1 6 [(4, .int (x4 + 6)), (0, .ref b), (1, .ref x0), (2, .ref g.1), (3, .ref o0)] 4 rfl (by decide) (by decide) rfl dL_law_2323 ?_
            refine v_goto C.1.1 23 (by decide) dL_law_2326 ?_
            refine v_sub [1, 2, 3, 4, 0] rfl ?_
            exact hk (x4 + 6) v9
          · refine v_iconst C.1.1 0 (by decide) dL_law_360 ?_
            exact v_lret C dL_law_361
        · skip
          refine v_if (fun h6 => ?_) (fun h6 => ?_)
          · refine v_tableIn C.1.1 (322) 362 (by rw [h6]; decide) (by rw [h6]; decide) (by rw [h6]; rfl) (by decide) dL_law_40 ?_
            refine v_aload_n C.1.1 1 rfl rfl dL_law_362 ?_
            refine v_aload_n C.1.1 0 rfl rfl dL_law_363 ?_
            refine v_iload C.1.1 4 rfl dL_law_364 ?_
            refine v_iconst C.1.1 1 (by decide) dL_law_366 ?_
            refine v_iadd C.1.1 dL_law_367 ?_
            refine v_chk (fun h7 => ?_)
            refine v_Lscr C h7 dL_law_368 ?_
            refine v_aload_n C.1.1 3 rfl rfl dL_law_369 ?_
            refine v_callLS C [.ref x0, .int (xs (x4 + 1).toNatClampNeg), .ref o0] [] (ctX0_count t G l hl0 x0 (xs (x4 + 1).toNatClampNeg) o0 v.1) (fun _ _ => cwX0_count C.1 q1307 (by decide)) rfl rfl (by exact Nat.le_of_ble_eq_true rfl) dL_law_370 (fun r9 v8 => ?_)
            refine v_istore C.1.1 [(5, .int r9), (0, .ref b), (1, .ref x0), (2, .ref g.1), (3, .ref o0), (4, .int x4)] (by decide) rfl dL_law_373 ?_
            refine v_aload_n C.1.1 3 rfl rfl dL_law_375 ?_
            refine v_aload_n C.1.1 1 rfl rfl dL_law_376 ?_
            refine v_iload C.1.1 5 rfl dL_law_377 ?_
            refine v_iconst C.1.1 1 (by decide) dL_law_379 ?_
            refine v_iadd C.1.1 dL_law_380 ?_
            refine v_chk (fun h10 => ?_)
            refine v_Lscr C h10 dL_law_381 ?_
            refine v_callLM C [.int (xs (x4 + 1).toNatClampNeg)] [] (ct4_count t g l (xs (x4 + 1).toNatClampNeg) v8.2) (cw4_count C.1.1 q2033 (by decide)) rfl rfl (by exact Nat.le_of_ble_eq_true rfl) dL_law_382 (fun r12 v11 => ?_)
            refine v_istore C.1.1 [(6, .int r12), (5, .int r9), (0, .ref b), (1, .ref x0), (2, .ref g.1), (3, .ref o0), (4, .int x4)] (by decide) rfl dL_law_385 ?_
            refine v_aload_n C.1.1 4 rfl rfl dL_law_387 ?_
            refine v_callLM C [] [] (ct4_thrown t g l v11.2) (cw4_thrown C.1.1 q1878 (by decide)) rfl rfl (by exact Nat.le_of_ble_eq_true rfl) dL_law_388 (fun r14 v13 => ?_)
            refine v_iload C.1.1 1 rfl dL_law_391 ?_
            refine v_icmp_eq C.1.1 398 (by decide) dL_law_393 (fun _ => ?_) (fun _ => ?_)
            · refine v_iload C.1.1 1 rfl dL_law_398 ?_
              refine v_if_ne C.1.1 415 (by decide) dL_law_400 (fun _ => ?_) (fun _ => ?_)
              · refine v_aload_n C.1.1 5 rfl rfl dL_law_403 ?_
                refine v_iconst C.1.1 0 (by decide) dL_law_404 ?_
                refine v_chk (fun h15 => ?_)
                refine v_Llald C h15 dL_law_405 ?_
                refine v_iload C.1.1 0 rfl dL_law_406 ?_
                refine v_i2l C.1.1 dL_law_408 ?_
                refine v_lcmp C.1.1 dL_law_409 ?_
                refine v_if_eq C.1.1 415 (by decide) dL_law_410 (fun _ => ?_) (fun _ => ?_)
                · refine v_goto C.1.1 2323 (by decide) dL_law_415 ?_
                  refine v_iinc C.1.1 6 [(4, .int (x4 + 6)), (6, .int r12), (5, .int r9), (0, .ref b), (1, .ref x0), (2, .ref g.1), (3, .ref o0)] 6 rfl (by decide) (by decide) rfl dL_law_2323 ?_
                  refine v_goto C.1.1 23 (by decide) dL_law_2326 ?_
                  refine v_sub [3, 4, 5, 6, 0] rfl ?_
                  exact hk (x4 + 6) v13
                · refine v_iconst C.1.1 0 (by decide) dL_law_413 ?_
                  exact v_lret C dL_law_414
              · refine v_goto C.1.1 2323 (by decide) dL_law_415 ?_
                refine v_iinc C.1.1 6 [(4, .int (x4 + 6)), (6, .int r12), (5, .int r9), (0, .ref b), (1, .ref x0), (2, .ref g.1), (3, .ref o0)] 6 rfl (by decide) (by decide) rfl dL_law_2323 ?_
                refine v_goto C.1.1 23 (by decide) dL_law_2326 ?_
                refine v_sub [3, 4, 5, 6, 0] rfl ?_
                exact hk (x4 + 6) v13
            · refine v_iconst C.1.1 0 (by decide) dL_law_396 ?_
              exact v_lret C dL_law_397
          · skip
            refine v_if (fun h7 => ?_) (fun h7 => ?_)
            · refine v_tableIn C.1.1 (378) 418 (by rw [h7]; decide) (by rw [h7]; decide) (by rw [h7]; rfl) (by decide) dL_law_40 ?_
              refine v_aload_n C.1.1 1 rfl rfl dL_law_418 ?_
              refine v_aload_n C.1.1 0 rfl rfl dL_law_419 ?_
              refine v_iload C.1.1 4 rfl dL_law_420 ?_
              refine v_iconst C.1.1 1 (by decide) dL_law_422 ?_
              refine v_iadd C.1.1 dL_law_423 ?_
              refine v_chk (fun h8 => ?_)
              refine v_Lscr C h8 dL_law_424 ?_
              refine v_aload_n C.1.1 0 rfl rfl dL_law_425 ?_
              refine v_iload C.1.1 4 rfl dL_law_426 ?_
              refine v_iconst C.1.1 2 (by decide) dL_law_428 ?_
              refine v_iadd C.1.1 dL_law_429 ?_
              refine v_chk (fun h9 => ?_)
              refine v_Lscr C h9 dL_law_430 ?_
              refine v_aload_n C.1.1 3 rfl rfl dL_law_431 ?_
              refine v_callLS C [.ref x0, .int (xs (x4 + 1).toNatClampNeg), .int (xs (x4 + 2).toNatClampNeg), .ref o0] [] (ctX0_master t G l hl0 x0 (xs (x4 + 1).toNatClampNeg) (xs (x4 + 2).toNatClampNeg) o0 v.1) (fun _ _ => cwX0_master C.1 q1342 (by decide)) rfl rfl (by exact Nat.le_of_ble_eq_true rfl) dL_law_432 (fun r11 v10 => ?_)
              refine v_istore C.1.1 [(5, .int r11), (0, .ref b), (1, .ref x0), (2, .ref g.1), (3, .ref o0), (4, .int x4)] (by decide) rfl dL_law_435 ?_
              refine v_aload_n C.1.1 3 rfl rfl dL_law_437 ?_
              refine v_aload_n C.1.1 1 rfl rfl dL_law_438 ?_
              refine v_iload C.1.1 5 rfl dL_law_439 ?_
              refine v_iconst C.1.1 1 (by decide) dL_law_441 ?_
              refine v_iadd C.1.1 dL_law_442 ?_
              refine v_chk (fun h12 => ?_)
              refine v_Lscr C h12 dL_law_443 ?_
              refine v_aload_n C.1.1 1 rfl rfl dL_law_444 ?_
              refine v_iload C.1.1 5 rfl dL_law_445 ?_
              refine v_iconst C.1.1 2 (by decide) dL_law_447 ?_
              refine v_iadd C.1.1 dL_law_448 ?_
              refine v_chk (fun h13 => ?_)
              refine v_Lscr C h13 dL_law_449 ?_
              refine v_callLM C [.int (xs (x4 + 1).toNatClampNeg), .int (xs (x4 + 2).toNatClampNeg)] [] (ct4_master t g l (xs (x4 + 1).toNatClampNeg) (xs (x4 + 2).toNatClampNeg) v10.2) (cw4_master C.1.1 q2056 (by decide)) rfl rfl (by exact Nat.le_of_ble_eq_true rfl) dL_law_450 (fun r15 v14 => ?_)
              refine v_istore C.1.1 [(6, .int r15), (5, .int r11), (0, .ref b), (1, .ref x0), (2, .ref g.1), (3, .ref o0), (4, .int x4)] (by decide) rfl dL_law_453 ?_
              refine v_aload_n C.1.1 4 rfl rfl dL_law_455 ?_
              refine v_callLM C [] [] (ct4_thrown t g l v14.2) (cw4_thrown C.1.1 q1878 (by decide)) rfl rfl (by exact Nat.le_of_ble_eq_true rfl) dL_law_456 (fun r17 v16 => ?_)
              refine v_iload C.1.1 1 rfl dL_law_459 ?_
              refine v_icmp_eq C.1.1 466 (by decide) dL_law_461 (fun _ => ?_) (fun _ => ?_)
              · refine v_iload C.1.1 1 rfl dL_law_466 ?_
                refine v_if_ne C.1.1 483 (by decide) dL_law_468 (fun _ => ?_) (fun _ => ?_)
                · refine v_aload_n C.1.1 5 rfl rfl dL_law_471 ?_
                  refine v_iconst C.1.1 0 (by decide) dL_law_472 ?_
                  refine v_chk (fun h18 => ?_)
                  refine v_Llald C h18 dL_law_473 ?_
                  refine v_iload C.1.1 0 rfl dL_law_474 ?_
                  refine v_i2l C.1.1 dL_law_476 ?_
                  refine v_lcmp C.1.1 dL_law_477 ?_
                  refine v_if_eq C.1.1 483 (by decide) dL_law_478 (fun _ => ?_) (fun _ => ?_)
                  · refine v_goto C.1.1 2323 (by decide) dL_law_483 ?_
                    refine v_iinc C.1.1 6 [(4, .int (x4 + 6)), (6, .int r15), (5, .int r11), (0, .ref b), (1, .ref x0), (2, .ref g.1), (3, .ref o0)] 6 rfl (by decide) (by decide) rfl dL_law_2323 ?_
                    refine v_goto C.1.1 23 (by decide) dL_law_2326 ?_
                    refine v_sub [3, 4, 5, 6, 0] rfl ?_
                    exact hk (x4 + 6) v16
                  · refine v_iconst C.1.1 0 (by decide) dL_law_481 ?_
                    exact v_lret C dL_law_482
                · refine v_goto C.1.1 2323 (by decide) dL_law_483 ?_
                  refine v_iinc C.1.1 6 [(4, .int (x4 + 6)), (6, .int r15), (5, .int r11), (0, .ref b), (1, .ref x0), (2, .ref g.1), (3, .ref o0)] 6 rfl (by decide) (by decide) rfl dL_law_2323 ?_
                  refine v_goto C.1.1 23 (by decide) dL_law_2326 ?_
                  refine v_sub [3, 4, 5, 6, 0] rfl ?_
                  exact hk (x4 + 6) v16
              · refine v_iconst C.1.1 0 (by decide) dL_law_464 ?_
                exact v_lret C dL_law_465
            · skip
              refine v_if (fun h8 => ?_) (fun h8 => ?_)
              · refine v_tableIn C.1.1 (446) 486 (by rw [h8]; decide) (by rw [h8]; decide) (by rw [h8]; rfl) (by decide) dL_law_40 ?_
                refine v_aload_n C.1.1 1 rfl rfl dL_law_486 ?_
                refine v_aload_n C.1.1 0 rfl rfl dL_law_487 ?_
                refine v_iload C.1.1 4 rfl dL_law_488 ?_
                refine v_iconst C.1.1 1 (by decide) dL_law_490 ?_
                refine v_iadd C.1.1 dL_law_491 ?_
                refine v_chk (fun h9 => ?_)
                refine v_Lscr C h9 dL_law_492 ?_
                refine v_aload_n C.1.1 0 rfl rfl dL_law_493 ?_
                refine v_iload C.1.1 4 rfl dL_law_494 ?_
                refine v_iconst C.1.1 2 (by decide) dL_law_496 ?_
                refine v_iadd C.1.1 dL_law_497 ?_
                refine v_chk (fun h10 => ?_)
                refine v_Lscr C h10 dL_law_498 ?_
                refine v_aload_n C.1.1 3 rfl rfl dL_law_499 ?_
                refine v_callLS C [.ref x0, .int (xs (x4 + 1).toNatClampNeg), .int (xs (x4 + 2).toNatClampNeg), .ref o0] [] (ctX0_place t G l hl0 x0 (xs (x4 + 1).toNatClampNeg) (xs (x4 + 2).toNatClampNeg) o0 v.1) (fun _ _ => cwX0_place C.1 q1356 (by decide)) rfl rfl (by exact Nat.le_of_ble_eq_true rfl) dL_law_500 (fun r12 v11 => ?_)
                refine v_istore C.1.1 [(5, .int r12), (0, .ref b), (1, .ref x0), (2, .ref g.1), (3, .ref o0), (4, .int x4)] (by decide) rfl dL_law_503 ?_
                refine v_aload_n C.1.1 3 rfl rfl dL_law_505 ?_
                refine v_aload_n C.1.1 1 rfl rfl dL_law_506 ?_
                refine v_iload C.1.1 5 rfl dL_law_507 ?_
                refine v_iconst C.1.1 1 (by decide) dL_law_509 ?_
                refine v_iadd C.1.1 dL_law_510 ?_
                refine v_chk (fun h13 => ?_)
                refine v_Lscr C h13 dL_law_511 ?_
                refine v_aload_n C.1.1 1 rfl rfl dL_law_512 ?_
                refine v_iload C.1.1 5 rfl dL_law_513 ?_
                refine v_iconst C.1.1 2 (by decide) dL_law_515 ?_
                refine v_iadd C.1.1 dL_law_516 ?_
                refine v_chk (fun h14 => ?_)
                refine v_Lscr C h14 dL_law_517 ?_
                refine v_callLM C [.int (xs (x4 + 1).toNatClampNeg), .int (xs (x4 + 2).toNatClampNeg)] [] (ct4_place t g l (xs (x4 + 1).toNatClampNeg) (xs (x4 + 2).toNatClampNeg) v11.2) (cw4_place C.1.1 q2072 (by decide)) rfl rfl (by exact Nat.le_of_ble_eq_true rfl) dL_law_518 (fun r16 v15 => ?_)
                refine v_istore C.1.1 [(6, .int r16), (5, .int r12), (0, .ref b), (1, .ref x0), (2, .ref g.1), (3, .ref o0), (4, .int x4)] (by decide) rfl dL_law_521 ?_
                refine v_aload_n C.1.1 4 rfl rfl dL_law_523 ?_
                refine v_callLM C [] [] (ct4_thrown t g l v15.2) (cw4_thrown C.1.1 q1878 (by decide)) rfl rfl (by exact Nat.le_of_ble_eq_true rfl) dL_law_524 (fun r18 v17 => ?_)
                refine v_iload C.1.1 1 rfl dL_law_527 ?_
                refine v_icmp_eq C.1.1 534 (by decide) dL_law_529 (fun _ => ?_) (fun _ => ?_)
                · refine v_iload C.1.1 1 rfl dL_law_534 ?_
                  refine v_if_ne C.1.1 551 (by decide) dL_law_536 (fun _ => ?_) (fun _ => ?_)
                  · refine v_aload_n C.1.1 5 rfl rfl dL_law_539 ?_
                    refine v_iconst C.1.1 0 (by decide) dL_law_540 ?_
                    refine v_chk (fun h19 => ?_)
                    refine v_Llald C h19 dL_law_541 ?_
                    refine v_iload C.1.1 0 rfl dL_law_542 ?_
                    refine v_i2l C.1.1 dL_law_544 ?_
                    refine v_lcmp C.1.1 dL_law_545 ?_
                    refine v_if_eq C.1.1 551 (by decide) dL_law_546 (fun _ => ?_) (fun _ => ?_)
                    · refine v_goto C.1.1 2323 (by decide) dL_law_551 ?_
                      refine v_iinc C.1.1 6 [(4, .int (x4 + 6)), (6, .int r16), (5, .int r12), (0, .ref b), (1, .ref x0), (2, .ref g.1), (3, .ref o0)] 6 rfl (by decide) (by decide) rfl dL_law_2323 ?_
                      refine v_goto C.1.1 23 (by decide) dL_law_2326 ?_
                      refine v_sub [3, 4, 5, 6, 0] rfl ?_
                      exact hk (x4 + 6) v17
                    · refine v_iconst C.1.1 0 (by decide) dL_law_549 ?_
                      exact v_lret C dL_law_550
                  · refine v_goto C.1.1 2323 (by decide) dL_law_551 ?_
                    refine v_iinc C.1.1 6 [(4, .int (x4 + 6)), (6, .int r16), (5, .int r12), (0, .ref b), (1, .ref x0), (2, .ref g.1), (3, .ref o0)] 6 rfl (by decide) (by decide) rfl dL_law_2323 ?_
                    refine v_goto C.1.1 23 (by decide) dL_law_2326 ?_
                    refine v_sub [3, 4, 5, 6, 0] rfl ?_
                    exact hk (x4 + 6) v17
                · refine v_iconst C.1.1 0 (by decide) dL_law_532 ?_
                  exact v_lret C dL_law_533
              · skip
                refine v_if (fun h9 => ?_) (fun h9 => ?_)
                · refine v_tableIn C.1.1 (514) 554 (by rw [h9]; decide) (by rw [h9]; decide) (by rw [h9]; rfl) (by decide) dL_law_40 ?_
                  refine v_aload_n C.1.1 1 rfl rfl dL_law_554 ?_
                  refine v_aload_n C.1.1 0 rfl rfl dL_law_555 ?_
                  refine v_iload C.1.1 4 rfl dL_law_556 ?_
                  refine v_iconst C.1.1 1 (by decide) dL_law_558 ?_
                  refine v_iadd C.1.1 dL_law_559 ?_
                  refine v_chk (fun h10 => ?_)
                  refine v_Lscr C h10 dL_law_560 ?_
                  refine v_aload_n C.1.1 0 rfl rfl dL_law_561 ?_
                  refine v_iload C.1.1 4 rfl dL_law_562 ?_
                  refine v_iconst C.1.1 2 (by decide) dL_law_564 ?_
                  refine v_iadd C.1.1 dL_law_565 ?_
                  refine v_chk (fun h11 => ?_)
                  refine v_Lscr C h11 dL_law_566 ?_
                  refine v_aload_n C.1.1 3 rfl rfl dL_law_567 ?_
                  refine v_callLS C [.ref x0, .int (xs (x4 + 1).toNatClampNeg), .int (xs (x4 + 2).toNatClampNeg), .ref o0] [] (ctX0_person t G l hl0 x0 (xs (x4 + 1).toNatClampNeg) (xs (x4 + 2).toNatClampNeg) o0 v.1) (fun _ _ => cwX0_person C.1 q1373 (by decide)) rfl rfl (by exact Nat.le_of_ble_eq_true rfl) dL_law_568 (fun r13 v12 => ?_)
                  refine v_istore C.1.1 [(5, .int r13), (0, .ref b), (1, .ref x0), (2, .ref g.1), (3, .ref o0), (4, .int x4)] (by decide) rfl dL_law_571 ?_
                  refine v_aload_n C.1.1 3 rfl rfl dL_law_573 ?_
                  refine v_aload_n C.1.1 1 rfl rfl dL_law_574 ?_
                  refine v_iload C.1.1 5 rfl dL_law_575 ?_
                  refine v_iconst C.1.1 1 (by decide) dL_law_577 ?_
                  refine v_iadd C.1.1 dL_law_578 ?_
                  refine v_chk (fun h14 => ?_)
                  refine v_Lscr C h14 dL_law_579 ?_
                  refine v_aload_n C.1.1 1 rfl rfl dL_law_580 ?_
                  refine v_iload C.1.1 5 rfl dL_law_581 ?_
                  refine v_iconst C.1.1 2 (by decide) dL_law_583 ?_
                  refine v_iadd C.1.1 dL_law_584 ?_
                  refine v_chk (fun h15 => ?_)
                  refine v_Lscr C h15 dL_law_585 ?_
                  refine v_callLM C [.int (xs (x4 + 1).toNatClampNeg), .int (xs (x4 + 2).toNatClampNeg)] [] (ct4_person t g l (xs (x4 + 1).toNatClampNeg) (xs (x4 + 2).toNatClampNeg) v12.2) (cw4_person C.1.1 q2080 (by decide)) rfl rfl (by exact Nat.le_of_ble_eq_true rfl) dL_law_586 (fun r17 v16 => ?_)
                  refine v_istore C.1.1 [(6, .int r17), (5, .int r13), (0, .ref b), (1, .ref x0), (2, .ref g.1), (3, .ref o0), (4, .int x4)] (by decide) rfl dL_law_589 ?_
                  refine v_aload_n C.1.1 4 rfl rfl dL_law_591 ?_
                  refine v_callLM C [] [] (ct4_thrown t g l v16.2) (cw4_thrown C.1.1 q1878 (by decide)) rfl rfl (by exact Nat.le_of_ble_eq_true rfl) dL_law_592 (fun r19 v18 => ?_)
                  refine v_iload C.1.1 1 rfl dL_law_595 ?_
                  refine v_icmp_eq C.1.1 602 (by decide) dL_law_597 (fun _ => ?_) (fun _ => ?_)
                  · refine v_iload C.1.1 1 rfl dL_law_602 ?_
                    refine v_if_ne C.1.1 619 (by decide) dL_law_604 (fun _ => ?_) (fun _ => ?_)
                    · refine v_aload_n C.1.1 5 rfl rfl dL_law_607 ?_
                      refine v_iconst C.1.1 0 (by decide) dL_law_608 ?_
                      refine v_chk (fun h20 => ?_)
                      refine v_Llald C h20 dL_law_609 ?_
                      refine v_iload C.1.1 0 rfl dL_law_610 ?_
                      refine v_i2l C.1.1 dL_law_612 ?_
                      refine v_lcmp C.1.1 dL_law_613 ?_
                      refine v_if_eq C.1.1 619 (by decide) dL_law_614 (fun _ => ?_) (fun _ => ?_)
                      · refine v_goto C.1.1 2323 (by decide) dL_law_619 ?_
                        refine v_iinc C.1.1 6 [(4, .int (x4 + 6)), (6, .int r17), (5, .int r13), (0, .ref b), (1, .ref x0), (2, .ref g.1), (3, .ref o0)] 6 rfl (by decide) (by decide) rfl dL_law_2323 ?_
                        refine v_goto C.1.1 23 (by decide) dL_law_2326 ?_
                        refine v_sub [3, 4, 5, 6, 0] rfl ?_
                        exact hk (x4 + 6) v18
                      · refine v_iconst C.1.1 0 (by decide) dL_law_617 ?_
                        exact v_lret C dL_law_618
                    · refine v_goto C.1.1 2323 (by decide) dL_law_619 ?_
                      refine v_iinc C.1.1 6 [(4, .int (x4 + 6)), (6, .int r17), (5, .int r13), (0, .ref b), (1, .ref x0), (2, .ref g.1), (3, .ref o0)] 6 rfl (by decide) (by decide) rfl dL_law_2323 ?_
                      refine v_goto C.1.1 23 (by decide) dL_law_2326 ?_
                      refine v_sub [3, 4, 5, 6, 0] rfl ?_
                      exact hk (x4 + 6) v18
                  · refine v_iconst C.1.1 0 (by decide) dL_law_600 ?_
                    exact v_lret C dL_law_601
                · skip
                  refine v_if (fun h10 => ?_) (fun h10 => ?_)
                  · refine v_tableIn C.1.1 (582) 622 (by rw [h10]; decide) (by rw [h10]; decide) (by rw [h10]; rfl) (by decide) dL_law_40 ?_
                    refine v_aload_n C.1.1 1 rfl rfl dL_law_622 ?_
                    refine v_aload_n C.1.1 0 rfl rfl dL_law_623 ?_
                    refine v_iload C.1.1 4 rfl dL_law_624 ?_
                    refine v_iconst C.1.1 1 (by decide) dL_law_626 ?_
                    refine v_iadd C.1.1 dL_law_627 ?_
                    refine v_chk (fun h11 => ?_)
                    refine v_Lscr C h11 dL_law_628 ?_
                    refine v_aload_n C.1.1 0 rfl rfl dL_law_629 ?_
                    refine v_iload C.1.1 4 rfl dL_law_630 ?_
                    refine v_iconst C.1.1 2 (by decide) dL_law_632 ?_
                    refine v_iadd C.1.1 dL_law_633 ?_
                    refine v_chk (fun h12 => ?_)
                    refine v_Lscr C h12 dL_law_634 ?_
                    refine v_aload_n C.1.1 3 rfl rfl dL_law_635 ?_
                    refine v_callLS C [.ref x0, .int (xs (x4 + 1).toNatClampNeg), .int (xs (x4 + 2).toNatClampNeg), .ref o0] [] (ctX0_grudge t G l hl0 x0 (xs (x4 + 1).toNatClampNeg) (xs (x4 + 2).toNatClampNeg) o0 v.1) (fun _ _ => cwX0_grudge C.1 q1385 (by decide)) rfl rfl (by exact Nat.le_of_ble_eq_true rfl) dL_law_636 (fun r14 v13 => ?_)
                    refine v_istore C.1.1 [(5, .int r14), (0, .ref b), (1, .ref x0), (2, .ref g.1), (3, .ref o0), (4, .int x4)] (by decide) rfl dL_law_639 ?_
                    refine v_aload_n C.1.1 3 rfl rfl dL_law_641 ?_
                    refine v_aload_n C.1.1 1 rfl rfl dL_law_642 ?_
                    refine v_iload C.1.1 5 rfl dL_law_643 ?_
                    refine v_iconst C.1.1 1 (by decide) dL_law_645 ?_
                    refine v_iadd C.1.1 dL_law_646 ?_
                    refine v_chk (fun h15 => ?_)
                    refine v_Lscr C h15 dL_law_647 ?_
                    refine v_aload_n C.1.1 1 rfl rfl dL_law_648 ?_
                    refine v_iload C.1.1 5 rfl dL_law_649 ?_
                    refine v_iconst C.1.1 2 (by decide) dL_law_651 ?_
                    refine v_iadd C.1.1 dL_law_652 ?_
                    refine v_chk (fun h16 => ?_)
                    refine v_Lscr C h16 dL_law_653 ?_
                    refine v_callLM C [.int (xs (x4 + 1).toNatClampNeg), .int (xs (x4 + 2).toNatClampNeg)] [] (ct4_grudge t g l (xs (x4 + 1).toNatClampNeg) (xs (x4 + 2).toNatClampNeg) v13.2) (cw4_grudge C.1.1 q2095 (by decide)) rfl rfl (by exact Nat.le_of_ble_eq_true rfl) dL_law_654 (fun r18 v17 => ?_)
                    refine v_istore C.1.1 [(6, .int r18), (5, .int r14), (0, .ref b), (1, .ref x0), (2, .ref g.1), (3, .ref o0), (4, .int x4)] (by decide) rfl dL_law_657 ?_
                    refine v_aload_n C.1.1 4 rfl rfl dL_law_659 ?_
                    refine v_callLM C [] [] (ct4_thrown t g l v17.2) (cw4_thrown C.1.1 q1878 (by decide)) rfl rfl (by exact Nat.le_of_ble_eq_true rfl) dL_law_660 (fun r20 v19 => ?_)
                    refine v_iload C.1.1 1 rfl dL_law_663 ?_
                    refine v_icmp_eq C.1.1 670 (by decide) dL_law_665 (fun _ => ?_) (fun _ => ?_)
                    · refine v_iload C.1.1 1 rfl dL_law_670 ?_
                      refine v_if_ne C.1.1 687 (by decide) dL_law_672 (fun _ => ?_) (fun _ => ?_)
                      · refine v_aload_n C.1.1 5 rfl rfl dL_law_675 ?_
                        refine v_iconst C.1.1 0 (by decide) dL_law_676 ?_
                        refine v_chk (fun h21 => ?_)
                        refine v_Llald C h21 dL_law_677 ?_
                        refine v_iload C.1.1 0 rfl dL_law_678 ?_
                        refine v_i2l C.1.1 dL_law_680 ?_
                        refine v_lcmp C.1.1 dL_law_681 ?_
                        refine v_if_eq C.1.1 687 (by decide) dL_law_682 (fun _ => ?_) (fun _ => ?_)
                        · refine v_goto C.1.1 2323 (by decide) dL_law_687 ?_
                          refine v_iinc C.1.1 6 [(4, .int (x4 + 6)), (6, .int r18), (5, .int r14), (0, .ref b), (1, .ref x0), (2, .ref g.1), (3, .ref o0)] 6 rfl (by decide) (by decide) rfl dL_law_2323 ?_
                          refine v_goto C.1.1 23 (by decide) dL_law_2326 ?_
                          refine v_sub [3, 4, 5, 6, 0] rfl ?_
                          exact hk (x4 + 6) v19
                        · refine v_iconst C.1.1 0 (by decide) dL_law_685 ?_
                          exact v_lret C dL_law_686
                      · refine v_goto C.1.1 2323 (by decide) dL_law_687 ?_
                        refine v_iinc C.1.1 6 [(4, .int (x4 + 6)), (6, .int r18), (5, .int r14), (0, .ref b), (1, .ref x0), (2, .ref g.1), (3, .ref o0)] 6 rfl (by decide) (by decide) rfl dL_law_2323 ?_
                        refine v_goto C.1.1 23 (by decide) dL_law_2326 ?_
                        refine v_sub [3, 4, 5, 6, 0] rfl ?_
                        exact hk (x4 + 6) v19
                    · refine v_iconst C.1.1 0 (by decide) dL_law_668 ?_
                      exact v_lret C dL_law_669
                  · skip
                    refine v_if (fun h11 => ?_) (fun h11 => ?_)
                    · refine v_tableIn C.1.1 (650) 690 (by rw [h11]; decide) (by rw [h11]; decide) (by rw [h11]; rfl) (by decide) dL_law_40 ?_
                      refine v_aload_n C.1.1 1 rfl rfl dL_law_690 ?_
                      refine v_aload_n C.1.1 0 rfl rfl dL_law_691 ?_
                      refine v_iload C.1.1 4 rfl dL_law_692 ?_
                      refine v_iconst C.1.1 1 (by decide) dL_law_694 ?_
                      refine v_iadd C.1.1 dL_law_695 ?_
                      refine v_chk (fun h12 => ?_)
                      refine v_Lscr C h12 dL_law_696 ?_
                      refine v_chk (fun h15 => ?_)
                      refine v_callLV C [.int (xs (x4 + 1).toNatClampNeg)] [] (ctX1_mornings t G l hl0 x0 (xs (x4 + 1).toNatClampNeg) v.1) (fun _ _ => cwX1_mornings C.1 q362 (by decide)) (ci := 0) (eq_of_beq h15) (by decide) rfl rfl rfl (by exact Nat.le_of_ble_eq_true rfl) dL_law_697 (fun r14 v13 => ?_)
                      refine v_aload_n C.1.1 2 rfl rfl dL_law_700 ?_
                      refine v_aload_n C.1.1 0 rfl rfl dL_law_701 ?_
                      refine v_iload C.1.1 4 rfl dL_law_702 ?_
                      refine v_iconst C.1.1 1 (by decide) dL_law_704 ?_
                      refine v_iadd C.1.1 dL_law_705 ?_
                      refine v_chk (fun h16 => ?_)
                      refine v_Lscr C h16 dL_law_706 ?_
                      refine v_callLM C [.int (xs (x4 + 1).toNatClampNeg)] [.int r14] (ct4_mornings t g l (xs (x4 + 1).toNatClampNeg) v13.2) (cw4_mornings C.1.1 q2113 (by decide)) rfl rfl (by exact Nat.le_of_ble_eq_true rfl) dL_law_707 (fun r18 v17 => ?_)
                      refine v_icmp_eq C.1.1 2323 (by decide) dL_law_710 (fun _ => ?_) (fun _ => ?_)
                      · refine v_iinc C.1.1 6 [(4, .int (x4 + 6)), (0, .ref b), (1, .ref x0), (2, .ref g.1), (3, .ref o0)] 4 rfl (by decide) (by decide) rfl dL_law_2323 ?_
                        refine v_goto C.1.1 23 (by decide) dL_law_2326 ?_
                        refine v_sub [1, 2, 3, 4, 0] rfl ?_
                        exact hk (x4 + 6) v17
                      · refine v_iconst C.1.1 0 (by decide) dL_law_713 ?_
                        exact v_lret C dL_law_714
                    · skip
                      refine v_if (fun h12 => ?_) (fun h12 => ?_)
                      · refine v_tableIn C.1.1 (675) 715 (by rw [h12]; decide) (by rw [h12]; decide) (by rw [h12]; rfl) (by decide) dL_law_40 ?_
                        refine v_aload_n C.1.1 1 rfl rfl dL_law_715 ?_
                        refine v_aload_n C.1.1 0 rfl rfl dL_law_716 ?_
                        refine v_iload C.1.1 4 rfl dL_law_717 ?_
                        refine v_iconst C.1.1 1 (by decide) dL_law_719 ?_
                        refine v_iadd C.1.1 dL_law_720 ?_
                        refine v_chk (fun h13 => ?_)
                        refine v_Lscr C h13 dL_law_721 ?_
                        refine v_aload_n C.1.1 0 rfl rfl dL_law_722 ?_
                        refine v_iload C.1.1 4 rfl dL_law_723 ?_
                        refine v_iconst C.1.1 2 (by decide) dL_law_725 ?_
                        refine v_iadd C.1.1 dL_law_726 ?_
                        refine v_chk (fun h14 => ?_)
                        refine v_Lscr C h14 dL_law_727 ?_
                        refine v_aload_n C.1.1 3 rfl rfl dL_law_728 ?_
                        refine v_callLS C [.ref x0, .int (xs (x4 + 1).toNatClampNeg), .int (xs (x4 + 2).toNatClampNeg), .ref o0] [] (ctX0_go t G l hl0 x0 (xs (x4 + 1).toNatClampNeg) (xs (x4 + 2).toNatClampNeg) o0 v.1) (fun _ _ => cwX0_go C.1 q1393 (by decide)) rfl rfl (by exact Nat.le_of_ble_eq_true rfl) dL_law_729 (fun r16 v15 => ?_)
                        refine v_istore C.1.1 [(5, .int r16), (0, .ref b), (1, .ref x0), (2, .ref g.1), (3, .ref o0), (4, .int x4)] (by decide) rfl dL_law_732 ?_
                        refine v_aload_n C.1.1 3 rfl rfl dL_law_734 ?_
                        refine v_aload_n C.1.1 1 rfl rfl dL_law_735 ?_
                        refine v_iload C.1.1 5 rfl dL_law_736 ?_
                        refine v_iconst C.1.1 1 (by decide) dL_law_738 ?_
                        refine v_iadd C.1.1 dL_law_739 ?_
                        refine v_chk (fun h17 => ?_)
                        refine v_Lscr C h17 dL_law_740 ?_
                        refine v_aload_n C.1.1 1 rfl rfl dL_law_741 ?_
                        refine v_iload C.1.1 5 rfl dL_law_742 ?_
                        refine v_iconst C.1.1 2 (by decide) dL_law_744 ?_
                        refine v_iadd C.1.1 dL_law_745 ?_
                        refine v_chk (fun h18 => ?_)
                        refine v_Lscr C h18 dL_law_746 ?_
                        refine v_callLM C [.int (xs (x4 + 1).toNatClampNeg), .int (xs (x4 + 2).toNatClampNeg)] [] (ct4_go t g l (xs (x4 + 1).toNatClampNeg) (xs (x4 + 2).toNatClampNeg) v15.2) (cw4_go C.1.1 q2156 (by decide)) rfl rfl (by exact Nat.le_of_ble_eq_true rfl) dL_law_747 (fun r20 v19 => ?_)
                        refine v_istore C.1.1 [(6, .int r20), (5, .int r16), (0, .ref b), (1, .ref x0), (2, .ref g.1), (3, .ref o0), (4, .int x4)] (by decide) rfl dL_law_750 ?_
                        refine v_aload_n C.1.1 4 rfl rfl dL_law_752 ?_
                        refine v_callLM C [] [] (ct4_thrown t g l v19.2) (cw4_thrown C.1.1 q1878 (by decide)) rfl rfl (by exact Nat.le_of_ble_eq_true rfl) dL_law_753 (fun r22 v21 => ?_)
                        refine v_iload C.1.1 1 rfl dL_law_756 ?_
                        refine v_icmp_eq C.1.1 763 (by decide) dL_law_758 (fun _ => ?_) (fun _ => ?_)
                        · refine v_iload C.1.1 1 rfl dL_law_763 ?_
                          refine v_if_ne C.1.1 780 (by decide) dL_law_765 (fun _ => ?_) (fun _ => ?_)
                          · refine v_aload_n C.1.1 5 rfl rfl dL_law_768 ?_
                            refine v_iconst C.1.1 0 (by decide) dL_law_769 ?_
                            refine v_chk (fun h23 => ?_)
                            refine v_Llald C h23 dL_law_770 ?_
                            refine v_iload C.1.1 0 rfl dL_law_771 ?_
                            refine v_i2l C.1.1 dL_law_773 ?_
                            refine v_lcmp C.1.1 dL_law_774 ?_
                            refine v_if_eq C.1.1 780 (by decide) dL_law_775 (fun _ => ?_) (fun _ => ?_)
                            · refine v_goto C.1.1 2323 (by decide) dL_law_780 ?_
                              refine v_iinc C.1.1 6 [(4, .int (x4 + 6)), (6, .int r20), (5, .int r16), (0, .ref b), (1, .ref x0), (2, .ref g.1), (3, .ref o0)] 6 rfl (by decide) (by decide) rfl dL_law_2323 ?_
                              refine v_goto C.1.1 23 (by decide) dL_law_2326 ?_
                              refine v_sub [3, 4, 5, 6, 0] rfl ?_
                              exact hk (x4 + 6) v21
                            · refine v_iconst C.1.1 0 (by decide) dL_law_778 ?_
                              exact v_lret C dL_law_779
                          · refine v_goto C.1.1 2323 (by decide) dL_law_780 ?_
                            refine v_iinc C.1.1 6 [(4, .int (x4 + 6)), (6, .int r20), (5, .int r16), (0, .ref b), (1, .ref x0), (2, .ref g.1), (3, .ref o0)] 6 rfl (by decide) (by decide) rfl dL_law_2323 ?_
                            refine v_goto C.1.1 23 (by decide) dL_law_2326 ?_
                            refine v_sub [3, 4, 5, 6, 0] rfl ?_
                            exact hk (x4 + 6) v21
                        · refine v_iconst C.1.1 0 (by decide) dL_law_761 ?_
                          exact v_lret C dL_law_762
                      · skip
                        refine v_if (fun h13 => ?_) (fun h13 => ?_)
                        · refine v_tableIn C.1.1 (743) 783 (by rw [h13]; decide) (by rw [h13]; decide) (by rw [h13]; rfl) (by decide) dL_law_40 ?_
                          refine v_aload_n C.1.1 1 rfl rfl dL_law_783 ?_
                          refine v_aload_n C.1.1 0 rfl rfl dL_law_784 ?_
                          refine v_iload C.1.1 4 rfl dL_law_785 ?_
                          refine v_iconst C.1.1 1 (by decide) dL_law_787 ?_
                          refine v_iadd C.1.1 dL_law_788 ?_
                          refine v_chk (fun h14 => ?_)
                          refine v_Lscr C h14 dL_law_789 ?_
                          refine v_aload_n C.1.1 3 rfl rfl dL_law_790 ?_
                          refine v_callLS C [.ref x0, .int (xs (x4 + 1).toNatClampNeg), .ref o0] [] (ctX0_write t G l hl0 x0 (xs (x4 + 1).toNatClampNeg) o0 v.1) (fun _ _ => cwX0_write C.1 q1401 (by decide)) rfl rfl (by exact Nat.le_of_ble_eq_true rfl) dL_law_791 (fun r16 v15 => ?_)
                          refine v_istore C.1.1 [(5, .int r16), (0, .ref b), (1, .ref x0), (2, .ref g.1), (3, .ref o0), (4, .int x4)] (by decide) rfl dL_law_794 ?_
                          refine v_aload_n C.1.1 3 rfl rfl dL_law_796 ?_
                          refine v_aload_n C.1.1 1 rfl rfl dL_law_797 ?_
                          refine v_iload C.1.1 5 rfl dL_law_798 ?_
                          refine v_iconst C.1.1 1 (by decide) dL_law_800 ?_
                          refine v_iadd C.1.1 dL_law_801 ?_
                          refine v_chk (fun h17 => ?_)
                          refine v_Lscr C h17 dL_law_802 ?_
                          refine v_callLM C [.int (xs (x4 + 1).toNatClampNeg)] [] (ct4_write t g l (xs (x4 + 1).toNatClampNeg) v15.2) (cw4_write C.1.1 q2168 (by decide)) rfl rfl (by exact Nat.le_of_ble_eq_true rfl) dL_law_803 (fun r19 v18 => ?_)
                          refine v_istore C.1.1 [(6, .int r19), (5, .int r16), (0, .ref b), (1, .ref x0), (2, .ref g.1), (3, .ref o0), (4, .int x4)] (by decide) rfl dL_law_806 ?_
                          refine v_aload_n C.1.1 4 rfl rfl dL_law_808 ?_
                          refine v_callLM C [] [] (ct4_thrown t g l v18.2) (cw4_thrown C.1.1 q1878 (by decide)) rfl rfl (by exact Nat.le_of_ble_eq_true rfl) dL_law_809 (fun r21 v20 => ?_)
                          refine v_iload C.1.1 1 rfl dL_law_812 ?_
                          refine v_icmp_eq C.1.1 819 (by decide) dL_law_814 (fun _ => ?_) (fun _ => ?_)
                          · refine v_iload C.1.1 1 rfl dL_law_819 ?_
                            refine v_if_ne C.1.1 843 (by decide) dL_law_821 (fun _ => ?_) (fun _ => ?_)
                            · refine v_aload_n C.1.1 5 rfl rfl dL_law_824 ?_
                              refine v_iconst C.1.1 0 (by decide) dL_law_825 ?_
                              refine v_chk (fun h22 => ?_)
                              refine v_Llald C h22 dL_law_826 ?_
                              refine v_iload C.1.1 0 rfl dL_law_827 ?_
                              refine v_if_eq C.1.1 836 (by decide) dL_law_829 (fun _ => ?_) (fun _ => ?_)
                              · refine v_lconst C.1.1 0 (by decide) dL_law_836 ?_
                                refine v_sub [2, 3, 4, 5, 6] rfl ?_
                                exact whL_837 hl0 C k hk x4 (hJ v20.1 o0 (0 : Int32).toNatClampNeg) 0 v20
                              · refine v_lconst C.1.1 1 (by decide) dL_law_832 ?_
                                refine v_goto C.1.1 837 (by decide) dL_law_833 ?_
                                refine v_sub [2, 3, 4, 5, 6] rfl ?_
                                exact whL_837 hl0 C k hk x4 (hJ v20.1 o0 (0 : Int32).toNatClampNeg) 1 v20
                            · refine v_goto C.1.1 2323 (by decide) dL_law_843 ?_
                              refine v_iinc C.1.1 6 [(4, .int (x4 + 6)), (6, .int r19), (5, .int r16), (0, .ref b), (1, .ref x0), (2, .ref g.1), (3, .ref o0)] 6 rfl (by decide) (by decide) rfl dL_law_2323 ?_
                              refine v_goto C.1.1 23 (by decide) dL_law_2326 ?_
                              refine v_sub [3, 4, 5, 6, 0] rfl ?_
                              exact hk (x4 + 6) v20
                          · refine v_iconst C.1.1 0 (by decide) dL_law_817 ?_
                            exact v_lret C dL_law_818
                        · skip
                          refine v_if (fun h14 => ?_) (fun h14 => ?_)
                          · refine v_tableIn C.1.1 (806) 846 (by rw [h14]; decide) (by rw [h14]; decide) (by rw [h14]; rfl) (by decide) dL_law_40 ?_
                            refine v_aload_n C.1.1 1 rfl rfl dL_law_846 ?_
                            refine v_aload_n C.1.1 0 rfl rfl dL_law_847 ?_
                            refine v_iload C.1.1 4 rfl dL_law_848 ?_
                            refine v_iconst C.1.1 1 (by decide) dL_law_850 ?_
                            refine v_iadd C.1.1 dL_law_851 ?_
                            refine v_chk (fun h15 => ?_)
                            refine v_Lscr C h15 dL_law_852 ?_
                            refine v_aload_n C.1.1 3 rfl rfl dL_law_853 ?_
                            refine v_callLS C [.ref x0, .int (xs (x4 + 1).toNatClampNeg), .ref o0] [] (ctX0_strike t G l hl0 x0 (xs (x4 + 1).toNatClampNeg) o0 v.1) (fun _ _ => cwX0_strike C.1 q1410 (by decide)) rfl rfl (by exact Nat.le_of_ble_eq_true rfl) dL_law_854 (fun r17 v16 => ?_)
                            refine v_istore C.1.1 [(5, .int r17), (0, .ref b), (1, .ref x0), (2, .ref g.1), (3, .ref o0), (4, .int x4)] (by decide) rfl dL_law_857 ?_
                            refine v_aload_n C.1.1 3 rfl rfl dL_law_859 ?_
                            refine v_aload_n C.1.1 1 rfl rfl dL_law_860 ?_
                            refine v_iload C.1.1 5 rfl dL_law_861 ?_
                            refine v_iconst C.1.1 1 (by decide) dL_law_863 ?_
                            refine v_iadd C.1.1 dL_law_864 ?_
                            refine v_chk (fun h18 => ?_)
                            refine v_Lscr C h18 dL_law_865 ?_
                            refine v_callLM C [.int (xs (x4 + 1).toNatClampNeg)] [] (ct4_strike t g l (xs (x4 + 1).toNatClampNeg) v16.2) (cw4_strike C.1.1 q2172 (by decide)) rfl rfl (by exact Nat.le_of_ble_eq_true rfl) dL_law_866 (fun r20 v19 => ?_)
                            refine v_istore C.1.1 [(6, .int r20), (5, .int r17), (0, .ref b), (1, .ref x0), (2, .ref g.1), (3, .ref o0), (4, .int x4)] (by decide) rfl dL_law_869 ?_
                            refine v_aload_n C.1.1 4 rfl rfl dL_law_871 ?_
                            refine v_callLM C [] [] (ct4_thrown t g l v19.2) (cw4_thrown C.1.1 q1878 (by decide)) rfl rfl (by exact Nat.le_of_ble_eq_true rfl) dL_law_872 (fun r22 v21 => ?_)
                            refine v_iload C.1.1 1 rfl dL_law_875 ?_
                            refine v_icmp_eq C.1.1 882 (by decide) dL_law_877 (fun _ => ?_) (fun _ => ?_)
                            · refine v_iload C.1.1 1 rfl dL_law_882 ?_
                              refine v_if_ne C.1.1 899 (by decide) dL_law_884 (fun _ => ?_) (fun _ => ?_)
                              · refine v_aload_n C.1.1 5 rfl rfl dL_law_887 ?_
                                refine v_iconst C.1.1 0 (by decide) dL_law_888 ?_
                                refine v_chk (fun h23 => ?_)
                                refine v_Llald C h23 dL_law_889 ?_
                                refine v_iload C.1.1 0 rfl dL_law_890 ?_
                                refine v_i2l C.1.1 dL_law_892 ?_
                                refine v_lcmp C.1.1 dL_law_893 ?_
                                refine v_if_eq C.1.1 899 (by decide) dL_law_894 (fun _ => ?_) (fun _ => ?_)
                                · refine v_goto C.1.1 2323 (by decide) dL_law_899 ?_
                                  refine v_iinc C.1.1 6 [(4, .int (x4 + 6)), (6, .int r20), (5, .int r17), (0, .ref b), (1, .ref x0), (2, .ref g.1), (3, .ref o0)] 6 rfl (by decide) (by decide) rfl dL_law_2323 ?_
                                  refine v_goto C.1.1 23 (by decide) dL_law_2326 ?_
                                  refine v_sub [3, 4, 5, 6, 0] rfl ?_
                                  exact hk (x4 + 6) v21
                                · refine v_iconst C.1.1 0 (by decide) dL_law_897 ?_
                                  exact v_lret C dL_law_898
                              · refine v_goto C.1.1 2323 (by decide) dL_law_899 ?_
                                refine v_iinc C.1.1 6 [(4, .int (x4 + 6)), (6, .int r20), (5, .int r17), (0, .ref b), (1, .ref x0), (2, .ref g.1), (3, .ref o0)] 6 rfl (by decide) (by decide) rfl dL_law_2323 ?_
                                refine v_goto C.1.1 23 (by decide) dL_law_2326 ?_
                                refine v_sub [3, 4, 5, 6, 0] rfl ?_
                                exact hk (x4 + 6) v21
                            · refine v_iconst C.1.1 0 (by decide) dL_law_880 ?_
                              exact v_lret C dL_law_881
                          · skip
                            refine v_if (fun h15 => ?_) (fun h15 => ?_)
                            · refine v_tableIn C.1.1 (862) 902 (by rw [h15]; decide) (by rw [h15]; decide) (by rw [h15]; rfl) (by decide) dL_law_40 ?_
                              refine v_aload_n C.1.1 1 rfl rfl dL_law_902 ?_
                              refine v_aload_n C.1.1 0 rfl rfl dL_law_903 ?_
                              refine v_iload C.1.1 4 rfl dL_law_904 ?_
                              refine v_iconst C.1.1 1 (by decide) dL_law_906 ?_
                              refine v_iadd C.1.1 dL_law_907 ?_
                              refine v_chk (fun h16 => ?_)
                              refine v_Lscr C h16 dL_law_908 ?_
                              refine v_if_eq C.1.1 916 (by decide) dL_law_909 (fun _ => ?_) (fun _ => ?_)
                              · refine v_iconst C.1.1 0 (by decide) dL_law_916 ?_
                                exact whL_917 hl0 C k hk x4 0 v
                              · refine v_iconst C.1.1 1 (by decide) dL_law_912 ?_
                                refine v_goto C.1.1 917 (by decide) dL_law_913 ?_
                                exact whL_917 hl0 C k hk x4 1 v
                            · skip
                              refine v_if (fun h16 => ?_) (fun h16 => ?_)
                              · refine v_tableIn C.1.1 (903) 943 (by rw [h16]; decide) (by rw [h16]; decide) (by rw [h16]; rfl) (by decide) dL_law_40 ?_
                                refine v_aload_n C.1.1 1 rfl rfl dL_law_943 ?_
                                refine v_chk (fun h19 => ?_)
                                refine v_callLV C [] [] (ctX1_undo t G l hl0 x0 v.1) (fun _ _ => cwX1_undo C.1 q673 (by decide)) (ci := 0) (eq_of_beq h19) (by decide) rfl rfl rfl (by exact Nat.le_of_ble_eq_true rfl) dL_law_944 (fun r18 v17 => ?_)
                                refine v_aload_n C.1.1 2 rfl rfl dL_law_947 ?_
                                refine v_callLM C [] [.int r18] (ct4_undo t g l v17.2) (cw4_undo C.1.1 q2029 (by decide)) rfl rfl (by exact Nat.le_of_ble_eq_true rfl) dL_law_948 (fun r21 v20 => ?_)
                                refine v_icmp_eq C.1.1 2323 (by decide) dL_law_951 (fun _ => ?_) (fun _ => ?_)
                                · refine v_iinc C.1.1 6 [(4, .int (x4 + 6)), (0, .ref b), (1, .ref x0), (2, .ref g.1), (3, .ref o0)] 4 rfl (by decide) (by decide) rfl dL_law_2323 ?_
                                  refine v_goto C.1.1 23 (by decide) dL_law_2326 ?_
                                  refine v_sub [1, 2, 3, 4, 0] rfl ?_
                                  exact hk (x4 + 6) v20
                                · refine v_iconst C.1.1 0 (by decide) dL_law_954 ?_
                                  exact v_lret C dL_law_955
                              · skip
                                refine v_if (fun h17 => ?_) (fun h17 => ?_)
                                · refine v_tableIn C.1.1 (916) 956 (by rw [h17]; decide) (by rw [h17]; decide) (by rw [h17]; rfl) (by decide) dL_law_40 ?_
                                  refine v_aload_n C.1.1 1 rfl rfl dL_law_956 ?_
                                  refine v_aload_n C.1.1 0 rfl rfl dL_law_957 ?_
                                  refine v_iload C.1.1 4 rfl dL_law_958 ?_
                                  refine v_iconst C.1.1 1 (by decide) dL_law_960 ?_
                                  refine v_iadd C.1.1 dL_law_961 ?_
                                  refine v_chk (fun h18 => ?_)
                                  refine v_Lscr C h18 dL_law_962 ?_
                                  refine v_aload_n C.1.1 0 rfl rfl dL_law_963 ?_
                                  refine v_iload C.1.1 4 rfl dL_law_964 ?_
                                  refine v_iconst C.1.1 2 (by decide) dL_law_966 ?_
                                  refine v_iadd C.1.1 dL_law_967 ?_
                                  refine v_chk (fun h19 => ?_)
                                  refine v_Lscr C h19 dL_law_968 ?_
                                  refine v_aload_n C.1.1 3 rfl rfl dL_law_969 ?_
                                  refine v_callLS C [.ref x0, .int (xs (x4 + 1).toNatClampNeg), .int (xs (x4 + 2).toNatClampNeg), .ref o0] [] (ctX0_when t G l hl0 x0 (xs (x4 + 1).toNatClampNeg) (xs (x4 + 2).toNatClampNeg) o0 v.1) (fun _ _ => cwX0_when C.1 q1417 (by decide)) rfl rfl (by exact Nat.le_of_ble_eq_true rfl) dL_law_970 (fun r21 v20 => ?_)
                                  refine v_istore C.1.1 [(5, .int r21), (0, .ref b), (1, .ref x0), (2, .ref g.1), (3, .ref o0), (4, .int x4)] (by decide) rfl dL_law_973 ?_
                                  refine v_aload_n C.1.1 3 rfl rfl dL_law_975 ?_
                                  refine v_aload_n C.1.1 1 rfl rfl dL_law_976 ?_
                                  refine v_iload C.1.1 5 rfl dL_law_977 ?_
                                  refine v_iconst C.1.1 1 (by decide) dL_law_979 ?_
                                  refine v_iadd C.1.1 dL_law_980 ?_
                                  refine v_chk (fun h22 => ?_)
                                  refine v_Lscr C h22 dL_law_981 ?_
                                  refine v_aload_n C.1.1 1 rfl rfl dL_law_982 ?_
                                  refine v_iload C.1.1 5 rfl dL_law_983 ?_
                                  refine v_iconst C.1.1 2 (by decide) dL_law_985 ?_
                                  refine v_iadd C.1.1 dL_law_986 ?_
                                  refine v_chk (fun h23 => ?_)
                                  refine v_Lscr C h23 dL_law_987 ?_
                                  refine v_callLM C [.int (xs (x4 + 1).toNatClampNeg), .int (xs (x4 + 2).toNatClampNeg)] [] (ct4_when t g l (xs (x4 + 1).toNatClampNeg) (xs (x4 + 2).toNatClampNeg) v20.2) (cw4_when C.1.1 q2180 (by decide)) rfl rfl (by exact Nat.le_of_ble_eq_true rfl) dL_law_988 (fun r25 v24 => ?_)
                                  refine v_istore C.1.1 [(6, .int r25), (5, .int r21), (0, .ref b), (1, .ref x0), (2, .ref g.1), (3, .ref o0), (4, .int x4)] (by decide) rfl dL_law_991 ?_
                                  refine v_aload_n C.1.1 4 rfl rfl dL_law_993 ?_
                                  refine v_callLM C [] [] (ct4_thrown t g l v24.2) (cw4_thrown C.1.1 q1878 (by decide)) rfl rfl (by exact Nat.le_of_ble_eq_true rfl) dL_law_994 (fun r27 v26 => ?_)
                                  refine v_iload C.1.1 1 rfl dL_law_997 ?_
                                  refine v_icmp_eq C.1.1 1004 (by decide) dL_law_999 (fun _ => ?_) (fun _ => ?_)
                                  · refine v_iload C.1.1 1 rfl dL_law_1004 ?_
                                    refine v_if_ne C.1.1 1021 (by decide) dL_law_1006 (fun _ => ?_) (fun _ => ?_)
                                    · refine v_aload_n C.1.1 5 rfl rfl dL_law_1009 ?_
                                      refine v_iconst C.1.1 0 (by decide) dL_law_1010 ?_
                                      refine v_chk (fun h28 => ?_)
                                      refine v_Llald C h28 dL_law_1011 ?_
                                      refine v_iload C.1.1 0 rfl dL_law_1012 ?_
                                      refine v_i2l C.1.1 dL_law_1014 ?_
                                      refine v_lcmp C.1.1 dL_law_1015 ?_
                                      refine v_if_eq C.1.1 1021 (by decide) dL_law_1016 (fun _ => ?_) (fun _ => ?_)
                                      · refine v_goto C.1.1 2323 (by decide) dL_law_1021 ?_
                                        refine v_iinc C.1.1 6 [(4, .int (x4 + 6)), (6, .int r25), (5, .int r21), (0, .ref b), (1, .ref x0), (2, .ref g.1), (3, .ref o0)] 6 rfl (by decide) (by decide) rfl dL_law_2323 ?_
                                        refine v_goto C.1.1 23 (by decide) dL_law_2326 ?_
                                        refine v_sub [3, 4, 5, 6, 0] rfl ?_
                                        exact hk (x4 + 6) v26
                                      · refine v_iconst C.1.1 0 (by decide) dL_law_1019 ?_
                                        exact v_lret C dL_law_1020
                                    · refine v_goto C.1.1 2323 (by decide) dL_law_1021 ?_
                                      refine v_iinc C.1.1 6 [(4, .int (x4 + 6)), (6, .int r25), (5, .int r21), (0, .ref b), (1, .ref x0), (2, .ref g.1), (3, .ref o0)] 6 rfl (by decide) (by decide) rfl dL_law_2323 ?_
                                      refine v_goto C.1.1 23 (by decide) dL_law_2326 ?_
                                      refine v_sub [3, 4, 5, 6, 0] rfl ?_
                                      exact hk (x4 + 6) v26
                                  · refine v_iconst C.1.1 0 (by decide) dL_law_1002 ?_
                                    exact v_lret C dL_law_1003
                                · skip
                                  refine v_if (fun h18 => ?_) (fun h18 => ?_)
                                  · refine v_tableIn C.1.1 (984) 1024 (by rw [h18]; decide) (by rw [h18]; decide) (by rw [h18]; rfl) (by decide) dL_law_40 ?_
                                    refine v_aload_n C.1.1 1 rfl rfl dL_law_1024 ?_
                                    refine v_aload_n C.1.1 0 rfl rfl dL_law_1025 ?_
                                    refine v_iload C.1.1 4 rfl dL_law_1026 ?_
                                    refine v_iconst C.1.1 1 (by decide) dL_law_1028 ?_
                                    refine v_iadd C.1.1 dL_law_1029 ?_
                                    refine v_chk (fun h19 => ?_)
                                    refine v_Lscr C h19 dL_law_1030 ?_
                                    refine v_aload_n C.1.1 3 rfl rfl dL_law_1031 ?_
                                    refine v_callLS C [.ref x0, .int (xs (x4 + 1).toNatClampNeg), .ref o0] [] (ctX0_found t G l hl0 x0 (xs (x4 + 1).toNatClampNeg) o0 v.1) (fun _ _ => cwX0_found C.1 q1424 (by decide)) rfl rfl (by exact Nat.le_of_ble_eq_true rfl) dL_law_1032 (fun r21 v20 => ?_)
                                    refine v_istore C.1.1 [(5, .int r21), (0, .ref b), (1, .ref x0), (2, .ref g.1), (3, .ref o0), (4, .int x4)] (by decide) rfl dL_law_1035 ?_
                                    refine v_aload_n C.1.1 3 rfl rfl dL_law_1037 ?_
                                    refine v_aload_n C.1.1 1 rfl rfl dL_law_1038 ?_
                                    refine v_iload C.1.1 5 rfl dL_law_1039 ?_
                                    refine v_iconst C.1.1 1 (by decide) dL_law_1041 ?_
                                    refine v_iadd C.1.1 dL_law_1042 ?_
                                    refine v_chk (fun h22 => ?_)
                                    refine v_Lscr C h22 dL_law_1043 ?_
                                    refine v_callLM C [.int (xs (x4 + 1).toNatClampNeg)] [] (ct4_found t g l (xs (x4 + 1).toNatClampNeg) v20.2) (cw4_found C.1.1 q2196 (by decide)) rfl rfl (by exact Nat.le_of_ble_eq_true rfl) dL_law_1044 (fun r24 v23 => ?_)
                                    refine v_istore C.1.1 [(6, .int r24), (5, .int r21), (0, .ref b), (1, .ref x0), (2, .ref g.1), (3, .ref o0), (4, .int x4)] (by decide) rfl dL_law_1047 ?_
                                    refine v_aload_n C.1.1 4 rfl rfl dL_law_1049 ?_
                                    refine v_callLM C [] [] (ct4_thrown t g l v23.2) (cw4_thrown C.1.1 q1878 (by decide)) rfl rfl (by exact Nat.le_of_ble_eq_true rfl) dL_law_1050 (fun r26 v25 => ?_)
                                    refine v_iload C.1.1 1 rfl dL_law_1053 ?_
                                    refine v_icmp_eq C.1.1 1060 (by decide) dL_law_1055 (fun _ => ?_) (fun _ => ?_)
                                    · refine v_iload C.1.1 1 rfl dL_law_1060 ?_
                                      refine v_if_ne C.1.1 1077 (by decide) dL_law_1062 (fun _ => ?_) (fun _ => ?_)
                                      · refine v_aload_n C.1.1 5 rfl rfl dL_law_1065 ?_
                                        refine v_iconst C.1.1 0 (by decide) dL_law_1066 ?_
                                        refine v_chk (fun h27 => ?_)
                                        refine v_Llald C h27 dL_law_1067 ?_
                                        refine v_iload C.1.1 0 rfl dL_law_1068 ?_
                                        refine v_i2l C.1.1 dL_law_1070 ?_
                                        refine v_lcmp C.1.1 dL_law_1071 ?_
                                        refine v_if_eq C.1.1 1077 (by decide) dL_law_1072 (fun _ => ?_) (fun _ => ?_)
                                        · refine v_goto C.1.1 2323 (by decide) dL_law_1077 ?_
                                          refine v_iinc C.1.1 6 [(4, .int (x4 + 6)), (6, .int r24), (5, .int r21), (0, .ref b), (1, .ref x0), (2, .ref g.1), (3, .ref o0)] 6 rfl (by decide) (by decide) rfl dL_law_2323 ?_
                                          refine v_goto C.1.1 23 (by decide) dL_law_2326 ?_
                                          refine v_sub [3, 4, 5, 6, 0] rfl ?_
                                          exact hk (x4 + 6) v25
                                        · refine v_iconst C.1.1 0 (by decide) dL_law_1075 ?_
                                          exact v_lret C dL_law_1076
                                      · refine v_goto C.1.1 2323 (by decide) dL_law_1077 ?_
                                        refine v_iinc C.1.1 6 [(4, .int (x4 + 6)), (6, .int r24), (5, .int r21), (0, .ref b), (1, .ref x0), (2, .ref g.1), (3, .ref o0)] 6 rfl (by decide) (by decide) rfl dL_law_2323 ?_
                                        refine v_goto C.1.1 23 (by decide) dL_law_2326 ?_
                                        refine v_sub [3, 4, 5, 6, 0] rfl ?_
                                        exact hk (x4 + 6) v25
                                    · refine v_iconst C.1.1 0 (by decide) dL_law_1058 ?_
                                      exact v_lret C dL_law_1059
                                  · skip
                                    refine v_if (fun h19 => ?_) (fun h19 => ?_)
                                    · refine v_tableIn C.1.1 (1040) 1080 (by rw [h19]; decide) (by rw [h19]; decide) (by rw [h19]; rfl) (by decide) dL_law_40 ?_
                                      refine v_aload_n C.1.1 1 rfl rfl dL_law_1080 ?_
                                      refine v_aload_n C.1.1 0 rfl rfl dL_law_1081 ?_
                                      refine v_iload C.1.1 4 rfl dL_law_1082 ?_
                                      refine v_iconst C.1.1 1 (by decide) dL_law_1084 ?_
                                      refine v_iadd C.1.1 dL_law_1085 ?_
                                      refine v_chk (fun h20 => ?_)
                                      refine v_Lscr C h20 dL_law_1086 ?_
                                      refine v_aload_n C.1.1 3 rfl rfl dL_law_1087 ?_
                                      refine v_callLS C [.ref x0, .int (xs (x4 + 1).toNatClampNeg), .ref o0] [] (ctX0_next t G l hl0 x0 (xs (x4 + 1).toNatClampNeg) o0 v.1) (fun _ _ => cwX0_next C.1 q1431 (by decide)) rfl rfl (by exact Nat.le_of_ble_eq_true rfl) dL_law_1088 (fun r22 v21 => ?_)
                                      refine v_istore C.1.1 [(5, .int r22), (0, .ref b), (1, .ref x0), (2, .ref g.1), (3, .ref o0), (4, .int x4)] (by decide) rfl dL_law_1091 ?_
                                      refine v_aload_n C.1.1 3 rfl rfl dL_law_1093 ?_
                                      refine v_aload_n C.1.1 1 rfl rfl dL_law_1094 ?_
                                      refine v_iload C.1.1 5 rfl dL_law_1095 ?_
                                      refine v_iconst C.1.1 1 (by decide) dL_law_1097 ?_
                                      refine v_iadd C.1.1 dL_law_1098 ?_
                                      refine v_chk (fun h23 => ?_)
                                      refine v_Lscr C h23 dL_law_1099 ?_
                                      refine v_callLM C [.int (xs (x4 + 1).toNatClampNeg)] [] (ct4_next t g l (xs (x4 + 1).toNatClampNeg) v21.2) (cw4_next C.1.1 q2200 (by decide)) rfl rfl (by exact Nat.le_of_ble_eq_true rfl) dL_law_1100 (fun r25 v24 => ?_)
                                      refine v_istore C.1.1 [(6, .int r25), (5, .int r22), (0, .ref b), (1, .ref x0), (2, .ref g.1), (3, .ref o0), (4, .int x4)] (by decide) rfl dL_law_1103 ?_
                                      refine v_aload_n C.1.1 4 rfl rfl dL_law_1105 ?_
                                      refine v_callLM C [] [] (ct4_thrown t g l v24.2) (cw4_thrown C.1.1 q1878 (by decide)) rfl rfl (by exact Nat.le_of_ble_eq_true rfl) dL_law_1106 (fun r27 v26 => ?_)
                                      refine v_iload C.1.1 1 rfl dL_law_1109 ?_
                                      refine v_icmp_eq C.1.1 1116 (by decide) dL_law_1111 (fun _ => ?_) (fun _ => ?_)
                                      · refine v_iload C.1.1 1 rfl dL_law_1116 ?_
                                        refine v_if_ne C.1.1 1133 (by decide) dL_law_1118 (fun _ => ?_) (fun _ => ?_)
                                        · refine v_aload_n C.1.1 5 rfl rfl dL_law_1121 ?_
                                          refine v_iconst C.1.1 0 (by decide) dL_law_1122 ?_
                                          refine v_chk (fun h28 => ?_)
                                          refine v_Llald C h28 dL_law_1123 ?_
                                          refine v_iload C.1.1 0 rfl dL_law_1124 ?_
                                          refine v_i2l C.1.1 dL_law_1126 ?_
                                          refine v_lcmp C.1.1 dL_law_1127 ?_
                                          refine v_if_eq C.1.1 1133 (by decide) dL_law_1128 (fun _ => ?_) (fun _ => ?_)
                                          · refine v_goto C.1.1 2323 (by decide) dL_law_1133 ?_
                                            refine v_iinc C.1.1 6 [(4, .int (x4 + 6)), (6, .int r25), (5, .int r22), (0, .ref b), (1, .ref x0), (2, .ref g.1), (3, .ref o0)] 6 rfl (by decide) (by decide) rfl dL_law_2323 ?_
                                            refine v_goto C.1.1 23 (by decide) dL_law_2326 ?_
                                            refine v_sub [3, 4, 5, 6, 0] rfl ?_
                                            exact hk (x4 + 6) v26
                                          · refine v_iconst C.1.1 0 (by decide) dL_law_1131 ?_
                                            exact v_lret C dL_law_1132
                                        · refine v_goto C.1.1 2323 (by decide) dL_law_1133 ?_
                                          refine v_iinc C.1.1 6 [(4, .int (x4 + 6)), (6, .int r25), (5, .int r22), (0, .ref b), (1, .ref x0), (2, .ref g.1), (3, .ref o0)] 6 rfl (by decide) (by decide) rfl dL_law_2323 ?_
                                          refine v_goto C.1.1 23 (by decide) dL_law_2326 ?_
                                          refine v_sub [3, 4, 5, 6, 0] rfl ?_
                                          exact hk (x4 + 6) v26
                                      · refine v_iconst C.1.1 0 (by decide) dL_law_1114 ?_
                                        exact v_lret C dL_law_1115
                                    · skip
                                      refine v_if (fun h20 => ?_) (fun h20 => ?_)
                                      · refine v_tableIn C.1.1 (1096) 1136 (by rw [h20]; decide) (by rw [h20]; decide) (by rw [h20]; rfl) (by decide) dL_law_40 ?_
                                        refine v_aload_n C.1.1 1 rfl rfl dL_law_1136 ?_
                                        refine v_aload_n C.1.1 0 rfl rfl dL_law_1137 ?_
                                        refine v_iload C.1.1 4 rfl dL_law_1138 ?_
                                        refine v_iconst C.1.1 1 (by decide) dL_law_1140 ?_
                                        refine v_iadd C.1.1 dL_law_1141 ?_
                                        refine v_chk (fun h21 => ?_)
                                        refine v_Lscr C h21 dL_law_1142 ?_
                                        refine v_aload_n C.1.1 0 rfl rfl dL_law_1143 ?_
                                        refine v_iload C.1.1 4 rfl dL_law_1144 ?_
                                        refine v_iconst C.1.1 2 (by decide) dL_law_1146 ?_
                                        refine v_iadd C.1.1 dL_law_1147 ?_
                                        refine v_chk (fun h22 => ?_)
                                        refine v_Lscr C h22 dL_law_1148 ?_
                                        refine v_aload_n C.1.1 3 rfl rfl dL_law_1149 ?_
                                        refine v_callLS C [.ref x0, .int (xs (x4 + 1).toNatClampNeg), .int (xs (x4 + 2).toNatClampNeg), .ref o0] [] (ctX0_owes t G l hl0 x0 (xs (x4 + 1).toNatClampNeg) (xs (x4 + 2).toNatClampNeg) o0 v.1) (fun _ _ => cwX0_owes C.1 q1438 (by decide)) rfl rfl (by exact Nat.le_of_ble_eq_true rfl) dL_law_1150 (fun r24 v23 => ?_)
                                        refine v_istore C.1.1 [(5, .int r24), (0, .ref b), (1, .ref x0), (2, .ref g.1), (3, .ref o0), (4, .int x4)] (by decide) rfl dL_law_1153 ?_
                                        refine v_aload_n C.1.1 3 rfl rfl dL_law_1155 ?_
                                        refine v_aload_n C.1.1 1 rfl rfl dL_law_1156 ?_
                                        refine v_iload C.1.1 5 rfl dL_law_1157 ?_
                                        refine v_iconst C.1.1 1 (by decide) dL_law_1159 ?_
                                        refine v_iadd C.1.1 dL_law_1160 ?_
                                        refine v_chk (fun h25 => ?_)
                                        refine v_Lscr C h25 dL_law_1161 ?_
                                        refine v_aload_n C.1.1 1 rfl rfl dL_law_1162 ?_
                                        refine v_iload C.1.1 5 rfl dL_law_1163 ?_
                                        refine v_iconst C.1.1 2 (by decide) dL_law_1165 ?_
                                        refine v_iadd C.1.1 dL_law_1166 ?_
                                        refine v_chk (fun h26 => ?_)
                                        refine v_Lscr C h26 dL_law_1167 ?_
                                        refine v_callLM C [.int (xs (x4 + 1).toNatClampNeg), .int (xs (x4 + 2).toNatClampNeg)] [] (ct4_owes t g l (xs (x4 + 1).toNatClampNeg) (xs (x4 + 2).toNatClampNeg) v23.2) (cw4_owes C.1.1 q2204 (by decide)) rfl rfl (by exact Nat.le_of_ble_eq_true rfl) dL_law_1168 (fun r28 v27 => ?_)
                                        refine v_istore C.1.1 [(6, .int r28), (5, .int r24), (0, .ref b), (1, .ref x0), (2, .ref g.1), (3, .ref o0), (4, .int x4)] (by decide) rfl dL_law_1171 ?_
                                        refine v_aload_n C.1.1 4 rfl rfl dL_law_1173 ?_
                                        refine v_callLM C [] [] (ct4_thrown t g l v27.2) (cw4_thrown C.1.1 q1878 (by decide)) rfl rfl (by exact Nat.le_of_ble_eq_true rfl) dL_law_1174 (fun r30 v29 => ?_)
                                        refine v_iload C.1.1 1 rfl dL_law_1177 ?_
                                        refine v_icmp_eq C.1.1 1184 (by decide) dL_law_1179 (fun _ => ?_) (fun _ => ?_)
                                        · refine v_iload C.1.1 1 rfl dL_law_1184 ?_
                                          refine v_if_ne C.1.1 1201 (by decide) dL_law_1186 (fun _ => ?_) (fun _ => ?_)
                                          · refine v_aload_n C.1.1 5 rfl rfl dL_law_1189 ?_
                                            refine v_iconst C.1.1 0 (by decide) dL_law_1190 ?_
                                            refine v_chk (fun h31 => ?_)
                                            refine v_Llald C h31 dL_law_1191 ?_
                                            refine v_iload C.1.1 0 rfl dL_law_1192 ?_
                                            refine v_i2l C.1.1 dL_law_1194 ?_
                                            refine v_lcmp C.1.1 dL_law_1195 ?_
                                            refine v_if_eq C.1.1 1201 (by decide) dL_law_1196 (fun _ => ?_) (fun _ => ?_)
                                            · refine v_goto C.1.1 2323 (by decide) dL_law_1201 ?_
                                              refine v_iinc C.1.1 6 [(4, .int (x4 + 6)), (6, .int r28), (5, .int r24), (0, .ref b), (1, .ref x0), (2, .ref g.1), (3, .ref o0)] 6 rfl (by decide) (by decide) rfl dL_law_2323 ?_
                                              refine v_goto C.1.1 23 (by decide) dL_law_2326 ?_
                                              refine v_sub [3, 4, 5, 6, 0] rfl ?_
                                              exact hk (x4 + 6) v29
                                            · refine v_iconst C.1.1 0 (by decide) dL_law_1199 ?_
                                              exact v_lret C dL_law_1200
                                          · refine v_goto C.1.1 2323 (by decide) dL_law_1201 ?_
                                            refine v_iinc C.1.1 6 [(4, .int (x4 + 6)), (6, .int r28), (5, .int r24), (0, .ref b), (1, .ref x0), (2, .ref g.1), (3, .ref o0)] 6 rfl (by decide) (by decide) rfl dL_law_2323 ?_
                                            refine v_goto C.1.1 23 (by decide) dL_law_2326 ?_
                                            refine v_sub [3, 4, 5, 6, 0] rfl ?_
                                            exact hk (x4 + 6) v29
                                        · refine v_iconst C.1.1 0 (by decide) dL_law_1182 ?_
                                          exact v_lret C dL_law_1183
                                      · skip
                                        refine v_if (fun h21 => ?_) (fun h21 => ?_)
                                        · refine v_tableIn C.1.1 (1164) 1204 (by rw [h21]; decide) (by rw [h21]; decide) (by rw [h21]; rfl) (by decide) dL_law_40 ?_
                                          refine v_aload_n C.1.1 1 rfl rfl dL_law_1204 ?_
                                          refine v_aload_n C.1.1 0 rfl rfl dL_law_1205 ?_
                                          refine v_iload C.1.1 4 rfl dL_law_1206 ?_
                                          refine v_iconst C.1.1 1 (by decide) dL_law_1208 ?_
                                          refine v_iadd C.1.1 dL_law_1209 ?_
                                          refine v_chk (fun h22 => ?_)
                                          refine v_Lscr C h22 dL_law_1210 ?_
                                          refine v_aload_n C.1.1 3 rfl rfl dL_law_1211 ?_
                                          refine v_callLS C [.ref x0, .int (xs (x4 + 1).toNatClampNeg), .ref o0] [] (ctX0_instead t G l hl0 x0 (xs (x4 + 1).toNatClampNeg) o0 v.1) (fun _ _ => cwX0_instead C.1 q1445 (by decide)) rfl rfl (by exact Nat.le_of_ble_eq_true rfl) dL_law_1212 (fun r24 v23 => ?_)
                                          refine v_istore C.1.1 [(5, .int r24), (0, .ref b), (1, .ref x0), (2, .ref g.1), (3, .ref o0), (4, .int x4)] (by decide) rfl dL_law_1215 ?_
                                          refine v_aload_n C.1.1 3 rfl rfl dL_law_1217 ?_
                                          refine v_aload_n C.1.1 1 rfl rfl dL_law_1218 ?_
                                          refine v_iload C.1.1 5 rfl dL_law_1219 ?_
                                          refine v_iconst C.1.1 1 (by decide) dL_law_1221 ?_
                                          refine v_iadd C.1.1 dL_law_1222 ?_
                                          refine v_chk (fun h25 => ?_)
                                          refine v_Lscr C h25 dL_law_1223 ?_
                                          refine v_callLM C [.int (xs (x4 + 1).toNatClampNeg)] [] (ct4_instead t g l (xs (x4 + 1).toNatClampNeg) v23.2) (cw4_instead C.1.1 q2208 (by decide)) rfl rfl (by exact Nat.le_of_ble_eq_true rfl) dL_law_1224 (fun r27 v26 => ?_)
                                          refine v_istore C.1.1 [(6, .int r27), (5, .int r24), (0, .ref b), (1, .ref x0), (2, .ref g.1), (3, .ref o0), (4, .int x4)] (by decide) rfl dL_law_1227 ?_
                                          refine v_aload_n C.1.1 4 rfl rfl dL_law_1229 ?_
                                          refine v_callLM C [] [] (ct4_thrown t g l v26.2) (cw4_thrown C.1.1 q1878 (by decide)) rfl rfl (by exact Nat.le_of_ble_eq_true rfl) dL_law_1230 (fun r29 v28 => ?_)
                                          refine v_iload C.1.1 1 rfl dL_law_1233 ?_
                                          refine v_icmp_eq C.1.1 1240 (by decide) dL_law_1235 (fun _ => ?_) (fun _ => ?_)
                                          · refine v_iload C.1.1 1 rfl dL_law_1240 ?_
                                            refine v_if_ne C.1.1 1257 (by decide) dL_law_1242 (fun _ => ?_) (fun _ => ?_)
                                            · refine v_aload_n C.1.1 5 rfl rfl dL_law_1245 ?_
                                              refine v_iconst C.1.1 0 (by decide) dL_law_1246 ?_
                                              refine v_chk (fun h30 => ?_)
                                              refine v_Llald C h30 dL_law_1247 ?_
                                              refine v_iload C.1.1 0 rfl dL_law_1248 ?_
                                              refine v_i2l C.1.1 dL_law_1250 ?_
                                              refine v_lcmp C.1.1 dL_law_1251 ?_
                                              refine v_if_eq C.1.1 1257 (by decide) dL_law_1252 (fun _ => ?_) (fun _ => ?_)
                                              · refine v_goto C.1.1 2323 (by decide) dL_law_1257 ?_
                                                refine v_iinc C.1.1 6 [(4, .int (x4 + 6)), (6, .int r27), (5, .int r24), (0, .ref b), (1, .ref x0), (2, .ref g.1), (3, .ref o0)] 6 rfl (by decide) (by decide) rfl dL_law_2323 ?_
                                                refine v_goto C.1.1 23 (by decide) dL_law_2326 ?_
                                                refine v_sub [3, 4, 5, 6, 0] rfl ?_
                                                exact hk (x4 + 6) v28
                                              · refine v_iconst C.1.1 0 (by decide) dL_law_1255 ?_
                                                exact v_lret C dL_law_1256
                                            · refine v_goto C.1.1 2323 (by decide) dL_law_1257 ?_
                                              refine v_iinc C.1.1 6 [(4, .int (x4 + 6)), (6, .int r27), (5, .int r24), (0, .ref b), (1, .ref x0), (2, .ref g.1), (3, .ref o0)] 6 rfl (by decide) (by decide) rfl dL_law_2323 ?_
                                              refine v_goto C.1.1 23 (by decide) dL_law_2326 ?_
                                              refine v_sub [3, 4, 5, 6, 0] rfl ?_
                                              exact hk (x4 + 6) v28
                                          · refine v_iconst C.1.1 0 (by decide) dL_law_1238 ?_
                                            exact v_lret C dL_law_1239
                                        · skip
                                          refine v_if (fun h22 => ?_) (fun h22 => ?_)
                                          · refine v_tableIn C.1.1 (1220) 1260 (by rw [h22]; decide) (by rw [h22]; decide) (by rw [h22]; rfl) (by decide) dL_law_40 ?_
                                            refine v_aload_n C.1.1 1 rfl rfl dL_law_1260 ?_
                                            refine v_aload_n C.1.1 0 rfl rfl dL_law_1261 ?_
                                            refine v_iload C.1.1 4 rfl dL_law_1262 ?_
                                            refine v_iconst C.1.1 1 (by decide) dL_law_1264 ?_
                                            refine v_iadd C.1.1 dL_law_1265 ?_
                                            refine v_chk (fun h23 => ?_)
                                            refine v_Lscr C h23 dL_law_1266 ?_
                                            refine v_aload_n C.1.1 3 rfl rfl dL_law_1267 ?_
                                            refine v_callLS C [.ref x0, .int (xs (x4 + 1).toNatClampNeg), .ref o0] [] (ctX0_out t G l hl0 x0 (xs (x4 + 1).toNatClampNeg) o0 v.1) (fun _ _ => cwX0_out C.1 q1457 (by decide)) rfl rfl (by exact Nat.le_of_ble_eq_true rfl) dL_law_1268 (fun r25 v24 => ?_)
                                            refine v_istore C.1.1 [(5, .int r25), (0, .ref b), (1, .ref x0), (2, .ref g.1), (3, .ref o0), (4, .int x4)] (by decide) rfl dL_law_1271 ?_
                                            refine v_aload_n C.1.1 3 rfl rfl dL_law_1273 ?_
                                            refine v_aload_n C.1.1 1 rfl rfl dL_law_1274 ?_
                                            refine v_iload C.1.1 5 rfl dL_law_1275 ?_
                                            refine v_iconst C.1.1 1 (by decide) dL_law_1277 ?_
                                            refine v_iadd C.1.1 dL_law_1278 ?_
                                            refine v_chk (fun h26 => ?_)
                                            refine v_Lscr C h26 dL_law_1279 ?_
                                            refine v_callLM C [.int (xs (x4 + 1).toNatClampNeg)] [] (ct4_out t g l (xs (x4 + 1).toNatClampNeg) v24.2) (cw4_out C.1.1 q2232 (by decide)) rfl rfl (by exact Nat.le_of_ble_eq_true rfl) dL_law_1280 (fun r28 v27 => ?_)
                                            refine v_istore C.1.1 [(6, .int r28), (5, .int r25), (0, .ref b), (1, .ref x0), (2, .ref g.1), (3, .ref o0), (4, .int x4)] (by decide) rfl dL_law_1283 ?_
                                            refine v_aload_n C.1.1 4 rfl rfl dL_law_1285 ?_
                                            refine v_callLM C [] [] (ct4_thrown t g l v27.2) (cw4_thrown C.1.1 q1878 (by decide)) rfl rfl (by exact Nat.le_of_ble_eq_true rfl) dL_law_1286 (fun r30 v29 => ?_)
                                            refine v_iload C.1.1 1 rfl dL_law_1289 ?_
                                            refine v_icmp_eq C.1.1 1296 (by decide) dL_law_1291 (fun _ => ?_) (fun _ => ?_)
                                            · refine v_iload C.1.1 1 rfl dL_law_1296 ?_
                                              refine v_if_ne C.1.1 1313 (by decide) dL_law_1298 (fun _ => ?_) (fun _ => ?_)
                                              · refine v_aload_n C.1.1 5 rfl rfl dL_law_1301 ?_
                                                refine v_iconst C.1.1 0 (by decide) dL_law_1302 ?_
                                                refine v_chk (fun h31 => ?_)
                                                refine v_Llald C h31 dL_law_1303 ?_
                                                refine v_iload C.1.1 0 rfl dL_law_1304 ?_
                                                refine v_i2l C.1.1 dL_law_1306 ?_
                                                refine v_lcmp C.1.1 dL_law_1307 ?_
                                                refine v_if_eq C.1.1 1313 (by decide) dL_law_1308 (fun _ => ?_) (fun _ => ?_)
                                                · refine v_goto C.1.1 2323 (by decide) dL_law_1313 ?_
                                                  refine v_iinc C.1.1 6 [(4, .int (x4 + 6)), (6, .int r28), (5, .int r25), (0, .ref b), (1, .ref x0), (2, .ref g.1), (3, .ref o0)] 6 rfl (by decide) (by decide) rfl dL_law_2323 ?_
                                                  refine v_goto C.1.1 23 (by decide) dL_law_2326 ?_
                                                  refine v_sub [3, 4, 5, 6, 0] rfl ?_
                                                  exact hk (x4 + 6) v29
                                                · refine v_iconst C.1.1 0 (by decide) dL_law_1311 ?_
                                                  exact v_lret C dL_law_1312
                                              · refine v_goto C.1.1 2323 (by decide) dL_law_1313 ?_
                                                refine v_iinc C.1.1 6 [(4, .int (x4 + 6)), (6, .int r28), (5, .int r25), (0, .ref b), (1, .ref x0), (2, .ref g.1), (3, .ref o0)] 6 rfl (by decide) (by decide) rfl dL_law_2323 ?_
                                                refine v_goto C.1.1 23 (by decide) dL_law_2326 ?_
                                                refine v_sub [3, 4, 5, 6, 0] rfl ?_
                                                exact hk (x4 + 6) v29
                                            · refine v_iconst C.1.1 0 (by decide) dL_law_1294 ?_
                                              exact v_lret C dL_law_1295
                                          · skip
                                            refine v_if (fun h23 => ?_) (fun h23 => ?_)
                                            · refine v_tableIn C.1.1 (1276) 1316 (by rw [h23]; decide) (by rw [h23]; decide) (by rw [h23]; rfl) (by decide) dL_law_40 ?_
                                              refine v_aload_n C.1.1 1 rfl rfl dL_law_1316 ?_
                                              refine v_aload_n C.1.1 0 rfl rfl dL_law_1317 ?_
                                              refine v_iload C.1.1 4 rfl dL_law_1318 ?_
                                              refine v_iconst C.1.1 1 (by decide) dL_law_1320 ?_
                                              refine v_iadd C.1.1 dL_law_1321 ?_
                                              refine v_chk (fun h24 => ?_)
                                              refine v_Lscr C h24 dL_law_1322 ?_
                                              refine v_aload_n C.1.1 3 rfl rfl dL_law_1323 ?_
                                              refine v_callLS C [.ref x0, .int (xs (x4 + 1).toNatClampNeg), .ref o0] [] (ctX0_gate t G l hl0 x0 (xs (x4 + 1).toNatClampNeg) o0 v.1) (fun _ _ => cwX0_gate C.1 q1469 (by decide)) rfl rfl (by exact Nat.le_of_ble_eq_true rfl) dL_law_1324 (fun r26 v25 => ?_)
                                              refine v_istore C.1.1 [(5, .int r26), (0, .ref b), (1, .ref x0), (2, .ref g.1), (3, .ref o0), (4, .int x4)] (by decide) rfl dL_law_1327 ?_
                                              refine v_aload_n C.1.1 3 rfl rfl dL_law_1329 ?_
                                              refine v_aload_n C.1.1 1 rfl rfl dL_law_1330 ?_
                                              refine v_iload C.1.1 5 rfl dL_law_1331 ?_
                                              refine v_iconst C.1.1 1 (by decide) dL_law_1333 ?_
                                              refine v_iadd C.1.1 dL_law_1334 ?_
                                              refine v_chk (fun h27 => ?_)
                                              refine v_Lscr C h27 dL_law_1335 ?_
                                              refine v_callLM C [.int (xs (x4 + 1).toNatClampNeg)] [] (ct4_gate t g l (xs (x4 + 1).toNatClampNeg) v25.2) (cw4_gate C.1.1 q2244 (by decide)) rfl rfl (by exact Nat.le_of_ble_eq_true rfl) dL_law_1336 (fun r29 v28 => ?_)
                                              refine v_istore C.1.1 [(6, .int r29), (5, .int r26), (0, .ref b), (1, .ref x0), (2, .ref g.1), (3, .ref o0), (4, .int x4)] (by decide) rfl dL_law_1339 ?_
                                              refine v_aload_n C.1.1 4 rfl rfl dL_law_1341 ?_
                                              refine v_callLM C [] [] (ct4_thrown t g l v28.2) (cw4_thrown C.1.1 q1878 (by decide)) rfl rfl (by exact Nat.le_of_ble_eq_true rfl) dL_law_1342 (fun r31 v30 => ?_)
                                              refine v_iload C.1.1 1 rfl dL_law_1345 ?_
                                              refine v_icmp_eq C.1.1 1352 (by decide) dL_law_1347 (fun _ => ?_) (fun _ => ?_)
                                              · refine v_iload C.1.1 1 rfl dL_law_1352 ?_
                                                refine v_if_ne C.1.1 1369 (by decide) dL_law_1354 (fun _ => ?_) (fun _ => ?_)
                                                · refine v_aload_n C.1.1 5 rfl rfl dL_law_1357 ?_
                                                  refine v_iconst C.1.1 0 (by decide) dL_law_1358 ?_
                                                  refine v_chk (fun h32 => ?_)
                                                  refine v_Llald C h32 dL_law_1359 ?_
                                                  refine v_iload C.1.1 0 rfl dL_law_1360 ?_
                                                  refine v_i2l C.1.1 dL_law_1362 ?_
                                                  refine v_lcmp C.1.1 dL_law_1363 ?_
                                                  refine v_if_eq C.1.1 1369 (by decide) dL_law_1364 (fun _ => ?_) (fun _ => ?_)
                                                  · refine v_goto C.1.1 2323 (by decide) dL_law_1369 ?_
                                                    refine v_iinc C.1.1 6 [(4, .int (x4 + 6)), (6, .int r29), (5, .int r26), (0, .ref b), (1, .ref x0), (2, .ref g.1), (3, .ref o0)] 6 rfl (by decide) (by decide) rfl dL_law_2323 ?_
                                                    refine v_goto C.1.1 23 (by decide) dL_law_2326 ?_
                                                    refine v_sub [3, 4, 5, 6, 0] rfl ?_
                                                    exact hk (x4 + 6) v30
                                                  · refine v_iconst C.1.1 0 (by decide) dL_law_1367 ?_
                                                    exact v_lret C dL_law_1368
                                                · refine v_goto C.1.1 2323 (by decide) dL_law_1369 ?_
                                                  refine v_iinc C.1.1 6 [(4, .int (x4 + 6)), (6, .int r29), (5, .int r26), (0, .ref b), (1, .ref x0), (2, .ref g.1), (3, .ref o0)] 6 rfl (by decide) (by decide) rfl dL_law_2323 ?_
                                                  refine v_goto C.1.1 23 (by decide) dL_law_2326 ?_
                                                  refine v_sub [3, 4, 5, 6, 0] rfl ?_
                                                  exact hk (x4 + 6) v30
                                              · refine v_iconst C.1.1 0 (by decide) dL_law_1350 ?_
                                                exact v_lret C dL_law_1351
                                            · skip
                                              refine v_if (fun h24 => ?_) (fun h24 => ?_)
                                              · refine v_tableIn C.1.1 (1332) 1372 (by rw [h24]; decide) (by rw [h24]; decide) (by rw [h24]; rfl) (by decide) dL_law_40 ?_
                                                refine v_aload_n C.1.1 1 rfl rfl dL_law_1372 ?_
                                                refine v_aload_n C.1.1 0 rfl rfl dL_law_1373 ?_
                                                refine v_iload C.1.1 4 rfl dL_law_1374 ?_
                                                refine v_iconst C.1.1 1 (by decide) dL_law_1376 ?_
                                                refine v_iadd C.1.1 dL_law_1377 ?_
                                                refine v_chk (fun h25 => ?_)
                                                refine v_Lscr C h25 dL_law_1378 ?_
                                                refine v_aload_n C.1.1 0 rfl rfl dL_law_1379 ?_
                                                refine v_iload C.1.1 4 rfl dL_law_1380 ?_
                                                refine v_iconst C.1.1 2 (by decide) dL_law_1382 ?_
                                                refine v_iadd C.1.1 dL_law_1383 ?_
                                                refine v_chk (fun h26 => ?_)
                                                refine v_Lscr C h26 dL_law_1384 ?_
                                                refine v_aload_n C.1.1 3 rfl rfl dL_law_1385 ?_
                                                refine v_callLS C [.ref x0, .int (xs (x4 + 1).toNatClampNeg), .int (xs (x4 + 2).toNatClampNeg), .ref o0] [] (ctX0_surest t G l hl0 x0 (xs (x4 + 1).toNatClampNeg) (xs (x4 + 2).toNatClampNeg) o0 v.1) (fun _ _ => cwX0_surest C.1 q1476 (by decide)) rfl rfl (by exact Nat.le_of_ble_eq_true rfl) dL_law_1386 (fun r28 v27 => ?_)
                                                refine v_istore C.1.1 [(5, .int r28), (0, .ref b), (1, .ref x0), (2, .ref g.1), (3, .ref o0), (4, .int x4)] (by decide) rfl dL_law_1389 ?_
                                                refine v_aload_n C.1.1 3 rfl rfl dL_law_1391 ?_
                                                refine v_aload_n C.1.1 1 rfl rfl dL_law_1392 ?_
                                                refine v_iload C.1.1 5 rfl dL_law_1393 ?_
                                                refine v_iconst C.1.1 1 (by decide) dL_law_1395 ?_
                                                refine v_iadd C.1.1 dL_law_1396 ?_
                                                refine v_chk (fun h29 => ?_)
                                                refine v_Lscr C h29 dL_law_1397 ?_
                                                refine v_aload_n C.1.1 1 rfl rfl dL_law_1398 ?_
                                                refine v_iload C.1.1 5 rfl dL_law_1399 ?_
                                                refine v_iconst C.1.1 2 (by decide) dL_law_1401 ?_
                                                refine v_iadd C.1.1 dL_law_1402 ?_
                                                refine v_chk (fun h30 => ?_)
                                                refine v_Lscr C h30 dL_law_1403 ?_
                                                refine v_callLM C [.int (xs (x4 + 1).toNatClampNeg), .int (xs (x4 + 2).toNatClampNeg)] [] (ct4_surest t g l (xs (x4 + 1).toNatClampNeg) (xs (x4 + 2).toNatClampNeg) v27.2) (cw4_surest C.1.1 q2248 (by decide)) rfl rfl (by exact Nat.le_of_ble_eq_true rfl) dL_law_1404 (fun r32 v31 => ?_)
                                                refine v_istore C.1.1 [(6, .int r32), (5, .int r28), (0, .ref b), (1, .ref x0), (2, .ref g.1), (3, .ref o0), (4, .int x4)] (by decide) rfl dL_law_1407 ?_
                                                refine v_aload_n C.1.1 4 rfl rfl dL_law_1409 ?_
                                                refine v_callLM C [] [] (ct4_thrown t g l v31.2) (cw4_thrown C.1.1 q1878 (by decide)) rfl rfl (by exact Nat.le_of_ble_eq_true rfl) dL_law_1410 (fun r34 v33 => ?_)
                                                refine v_iload C.1.1 1 rfl dL_law_1413 ?_
                                                refine v_icmp_eq C.1.1 1420 (by decide) dL_law_1415 (fun _ => ?_) (fun _ => ?_)
                                                · refine v_iload C.1.1 1 rfl dL_law_1420 ?_
                                                  refine v_if_ne C.1.1 1437 (by decide) dL_law_1422 (fun _ => ?_) (fun _ => ?_)
                                                  · refine v_aload_n C.1.1 5 rfl rfl dL_law_1425 ?_
                                                    refine v_iconst C.1.1 0 (by decide) dL_law_1426 ?_
                                                    refine v_chk (fun h35 => ?_)
                                                    refine v_Llald C h35 dL_law_1427 ?_
                                                    refine v_iload C.1.1 0 rfl dL_law_1428 ?_
                                                    refine v_i2l C.1.1 dL_law_1430 ?_
                                                    refine v_lcmp C.1.1 dL_law_1431 ?_
                                                    refine v_if_eq C.1.1 1437 (by decide) dL_law_1432 (fun _ => ?_) (fun _ => ?_)
                                                    · refine v_goto C.1.1 2323 (by decide) dL_law_1437 ?_
                                                      refine v_iinc C.1.1 6 [(4, .int (x4 + 6)), (6, .int r32), (5, .int r28), (0, .ref b), (1, .ref x0), (2, .ref g.1), (3, .ref o0)] 6 rfl (by decide) (by decide) rfl dL_law_2323 ?_
                                                      refine v_goto C.1.1 23 (by decide) dL_law_2326 ?_
                                                      refine v_sub [3, 4, 5, 6, 0] rfl ?_
                                                      exact hk (x4 + 6) v33
                                                    · refine v_iconst C.1.1 0 (by decide) dL_law_1435 ?_
                                                      exact v_lret C dL_law_1436
                                                  · refine v_goto C.1.1 2323 (by decide) dL_law_1437 ?_
                                                    refine v_iinc C.1.1 6 [(4, .int (x4 + 6)), (6, .int r32), (5, .int r28), (0, .ref b), (1, .ref x0), (2, .ref g.1), (3, .ref o0)] 6 rfl (by decide) (by decide) rfl dL_law_2323 ?_
                                                    refine v_goto C.1.1 23 (by decide) dL_law_2326 ?_
                                                    refine v_sub [3, 4, 5, 6, 0] rfl ?_
                                                    exact hk (x4 + 6) v33
                                                · refine v_iconst C.1.1 0 (by decide) dL_law_1418 ?_
                                                  exact v_lret C dL_law_1419
                                              · skip
                                                refine v_if (fun h25 => ?_) (fun h25 => ?_)
                                                · refine v_tableIn C.1.1 (1400) 1440 (by rw [h25]; decide) (by rw [h25]; decide) (by rw [h25]; rfl) (by decide) dL_law_40 ?_
                                                  refine v_aload_n C.1.1 1 rfl rfl dL_law_1440 ?_
                                                  refine v_aload_n C.1.1 0 rfl rfl dL_law_1441 ?_
                                                  refine v_iload C.1.1 4 rfl dL_law_1442 ?_
                                                  refine v_iconst C.1.1 1 (by decide) dL_law_1444 ?_
                                                  refine v_iadd C.1.1 dL_law_1445 ?_
                                                  refine v_chk (fun h26 => ?_)
                                                  refine v_Lscr C h26 dL_law_1446 ?_
                                                  refine v_aload_n C.1.1 3 rfl rfl dL_law_1447 ?_
                                                  refine v_callLS C [.ref x0, .int (xs (x4 + 1).toNatClampNeg), .ref o0] [] (ctX0_close t G l hl0 x0 (xs (x4 + 1).toNatClampNeg) o0 v.1) (fun _ _ => cwX0_close C.1 q1488 (by decide)) rfl rfl (by exact Nat.le_of_ble_eq_true rfl) dL_law_1448 (fun r28 v27 => ?_)
                                                  refine v_istore C.1.1 [(5, .int r28), (0, .ref b), (1, .ref x0), (2, .ref g.1), (3, .ref o0), (4, .int x4)] (by decide) rfl dL_law_1451 ?_
                                                  refine v_aload_n C.1.1 3 rfl rfl dL_law_1453 ?_
                                                  refine v_aload_n C.1.1 1 rfl rfl dL_law_1454 ?_
                                                  refine v_iload C.1.1 5 rfl dL_law_1455 ?_
                                                  refine v_iconst C.1.1 1 (by decide) dL_law_1457 ?_
                                                  refine v_iadd C.1.1 dL_law_1458 ?_
                                                  refine v_chk (fun h29 => ?_)
                                                  refine v_Lscr C h29 dL_law_1459 ?_
                                                  refine v_callLM C [.int (xs (x4 + 1).toNatClampNeg)] [] (ct4_close t g l (xs (x4 + 1).toNatClampNeg) v27.2) (cw4_close C.1.1 q2256 (by decide)) rfl rfl (by exact Nat.le_of_ble_eq_true rfl) dL_law_1460 (fun r31 v30 => ?_)
                                                  refine v_istore C.1.1 [(6, .int r31), (5, .int r28), (0, .ref b), (1, .ref x0), (2, .ref g.1), (3, .ref o0), (4, .int x4)] (by decide) rfl dL_law_1463 ?_
                                                  refine v_aload_n C.1.1 4 rfl rfl dL_law_1465 ?_
                                                  refine v_callLM C [] [] (ct4_thrown t g l v30.2) (cw4_thrown C.1.1 q1878 (by decide)) rfl rfl (by exact Nat.le_of_ble_eq_true rfl) dL_law_1466 (fun r33 v32 => ?_)
                                                  refine v_iload C.1.1 1 rfl dL_law_1469 ?_
                                                  refine v_icmp_eq C.1.1 1476 (by decide) dL_law_1471 (fun _ => ?_) (fun _ => ?_)
                                                  · refine v_iload C.1.1 1 rfl dL_law_1476 ?_
                                                    refine v_if_ne C.1.1 1493 (by decide) dL_law_1478 (fun _ => ?_) (fun _ => ?_)
                                                    · refine v_aload_n C.1.1 5 rfl rfl dL_law_1481 ?_
                                                      refine v_iconst C.1.1 0 (by decide) dL_law_1482 ?_
                                                      refine v_chk (fun h34 => ?_)
                                                      refine v_Llald C h34 dL_law_1483 ?_
                                                      refine v_iload C.1.1 0 rfl dL_law_1484 ?_
                                                      refine v_i2l C.1.1 dL_law_1486 ?_
                                                      refine v_lcmp C.1.1 dL_law_1487 ?_
                                                      refine v_if_eq C.1.1 1493 (by decide) dL_law_1488 (fun _ => ?_) (fun _ => ?_)
                                                      · refine v_goto C.1.1 2323 (by decide) dL_law_1493 ?_
                                                        refine v_iinc C.1.1 6 [(4, .int (x4 + 6)), (6, .int r31), (5, .int r28), (0, .ref b), (1, .ref x0), (2, .ref g.1), (3, .ref o0)] 6 rfl (by decide) (by decide) rfl dL_law_2323 ?_
                                                        refine v_goto C.1.1 23 (by decide) dL_law_2326 ?_
                                                        refine v_sub [3, 4, 5, 6, 0] rfl ?_
                                                        exact hk (x4 + 6) v32
                                                      · refine v_iconst C.1.1 0 (by decide) dL_law_1491 ?_
                                                        exact v_lret C dL_law_1492
                                                    · refine v_goto C.1.1 2323 (by decide) dL_law_1493 ?_
                                                      refine v_iinc C.1.1 6 [(4, .int (x4 + 6)), (6, .int r31), (5, .int r28), (0, .ref b), (1, .ref x0), (2, .ref g.1), (3, .ref o0)] 6 rfl (by decide) (by decide) rfl dL_law_2323 ?_
                                                      refine v_goto C.1.1 23 (by decide) dL_law_2326 ?_
                                                      refine v_sub [3, 4, 5, 6, 0] rfl ?_
                                                      exact hk (x4 + 6) v32
                                                  · refine v_iconst C.1.1 0 (by decide) dL_law_1474 ?_
                                                    exact v_lret C dL_law_1475
                                                · skip
                                                  refine v_if (fun h26 => ?_) (fun h26 => ?_)
                                                  · refine v_tableIn C.1.1 (1456) 1496 (by rw [h26]; decide) (by rw [h26]; decide) (by rw [h26]; rfl) (by decide) dL_law_40 ?_
                                                    refine v_aload_n C.1.1 1 rfl rfl dL_law_1496 ?_
                                                    refine v_chk (fun h29 => ?_)
                                                    refine v_callLV C [] [] (ctX1_spared t G l hl0 x0 v.1) (fun _ _ => cwX1_spared C.1 q686 (by decide)) (ci := 0) (eq_of_beq h29) (by decide) rfl rfl rfl (by exact Nat.le_of_ble_eq_true rfl) dL_law_1497 (fun r28 v27 => ?_)
                                                    refine v_aload_n C.1.1 2 rfl rfl dL_law_1500 ?_
                                                    refine v_callLM C [] [.int r28] (ct4_spared t g l v27.2) (cw4_spared C.1.1 q2264 (by decide)) rfl rfl (by exact Nat.le_of_ble_eq_true rfl) dL_law_1501 (fun r31 v30 => ?_)
                                                    refine v_icmp_eq C.1.1 2323 (by decide) dL_law_1504 (fun _ => ?_) (fun _ => ?_)
                                                    · refine v_iinc C.1.1 6 [(4, .int (x4 + 6)), (0, .ref b), (1, .ref x0), (2, .ref g.1), (3, .ref o0)] 4 rfl (by decide) (by decide) rfl dL_law_2323 ?_
                                                      refine v_goto C.1.1 23 (by decide) dL_law_2326 ?_
                                                      refine v_sub [1, 2, 3, 4, 0] rfl ?_
                                                      exact hk (x4 + 6) v30
                                                    · refine v_iconst C.1.1 0 (by decide) dL_law_1507 ?_
                                                      exact v_lret C dL_law_1508
                                                  · skip
                                                    refine v_if (fun h27 => ?_) (fun h27 => ?_)
                                                    · refine v_tableIn C.1.1 (1469) 1509 (by rw [h27]; decide) (by rw [h27]; decide) (by rw [h27]; rfl) (by decide) dL_law_40 ?_
                                                      refine v_aload_n C.1.1 1 rfl rfl dL_law_1509 ?_
                                                      refine v_aload_n C.1.1 0 rfl rfl dL_law_1510 ?_
                                                      refine v_iload C.1.1 4 rfl dL_law_1511 ?_
                                                      refine v_iconst C.1.1 1 (by decide) dL_law_1513 ?_
                                                      refine v_iadd C.1.1 dL_law_1514 ?_
                                                      refine v_chk (fun h28 => ?_)
                                                      refine v_Lscr C h28 dL_law_1515 ?_
                                                      refine v_aload_n C.1.1 0 rfl rfl dL_law_1516 ?_
                                                      refine v_iload C.1.1 4 rfl dL_law_1517 ?_
                                                      refine v_iconst C.1.1 2 (by decide) dL_law_1519 ?_
                                                      refine v_iadd C.1.1 dL_law_1520 ?_
                                                      refine v_chk (fun h29 => ?_)
                                                      refine v_Lscr C h29 dL_law_1521 ?_
                                                      refine v_aload_n C.1.1 0 rfl rfl dL_law_1522 ?_
                                                      refine v_iload C.1.1 4 rfl dL_law_1523 ?_
                                                      refine v_iconst C.1.1 3 (by decide) dL_law_1525 ?_
                                                      refine v_iadd C.1.1 dL_law_1526 ?_
                                                      refine v_chk (fun h30 => ?_)
                                                      refine v_Lscr C h30 dL_law_1527 ?_
                                                      refine v_if_eq C.1.1 1535 (by decide) dL_law_1528 (fun _ => ?_) (fun _ => ?_)
                                                      · refine v_iconst C.1.1 0 (by decide) dL_law_1535 ?_
                                                        exact whL_1536 hl0 C k hk x4 (xs (x4 + 1).toNatClampNeg) (xs (x4 + 2).toNatClampNeg) 0 v
                                                      · refine v_iconst C.1.1 1 (by decide) dL_law_1531 ?_
                                                        refine v_goto C.1.1 1536 (by decide) dL_law_1532 ?_
                                                        exact whL_1536 hl0 C k hk x4 (xs (x4 + 1).toNatClampNeg) (xs (x4 + 2).toNatClampNeg) 1 v
                                                    · skip
                                                      refine v_if (fun h28 => ?_) (fun h28 => ?_)
                                                      · refine v_tableIn C.1.1 (1565) 1605 (by rw [h28]; decide) (by rw [h28]; decide) (by rw [h28]; rfl) (by decide) dL_law_40 ?_
                                                        refine v_aload_n C.1.1 1 rfl rfl dL_law_1605 ?_
                                                        refine v_chk (fun h30 => ?_)
                                                        refine v_callLV C [] [] (ctX1_forget t G l hl0 x0 v.1) (fun _ _ => cwX1_forget C.1 q696 (by decide)) (ci := 0) (eq_of_beq h30) (by decide) rfl rfl rfl (by exact Nat.le_of_ble_eq_true rfl) dL_law_1606 (fun _ v29 => ?_)
                                                        refine v_aload_n C.1.1 2 rfl rfl dL_law_1609 ?_
                                                        refine v_callLM C [] [] (ct4_forget t g l v29.2) (cw4_forget C.1.1 q2272 (by decide)) rfl rfl (by exact Nat.le_of_ble_eq_true rfl) dL_law_1610 (fun _ v31 => ?_)
                                                        refine v_goto C.1.1 2323 (by decide) dL_law_1613 ?_
                                                        refine v_iinc C.1.1 6 [(4, .int (x4 + 6)), (0, .ref b), (1, .ref x0), (2, .ref g.1), (3, .ref o0)] 4 rfl (by decide) (by decide) rfl dL_law_2323 ?_
                                                        refine v_goto C.1.1 23 (by decide) dL_law_2326 ?_
                                                        refine v_sub [1, 2, 3, 4, 0] rfl ?_
                                                        exact hk (x4 + 6) v31
                                                      · skip
                                                        refine v_if (fun h29 => ?_) (fun h29 => ?_)
                                                        · refine v_tableIn C.1.1 (1576) 1616 (by rw [h29]; decide) (by rw [h29]; decide) (by rw [h29]; rfl) (by decide) dL_law_40 ?_
                                                          refine v_aload_n C.1.1 1 rfl rfl dL_law_1616 ?_
                                                          refine v_aload_n C.1.1 0 rfl rfl dL_law_1617 ?_
                                                          refine v_iload C.1.1 4 rfl dL_law_1618 ?_
                                                          refine v_iconst C.1.1 1 (by decide) dL_law_1620 ?_
                                                          refine v_iadd C.1.1 dL_law_1621 ?_
                                                          refine v_chk (fun h30 => ?_)
                                                          refine v_Lscr C h30 dL_law_1622 ?_
                                                          refine v_aload_n C.1.1 3 rfl rfl dL_law_1623 ?_
                                                          refine v_callLS C [.ref x0, .int (xs (x4 + 1).toNatClampNeg), .ref o0] [] (ctX0_scribe t G l hl0 x0 (xs (x4 + 1).toNatClampNeg) o0 v.1) (fun _ _ => cwX0_scribe C.1 q1503 (by decide)) rfl rfl (by exact Nat.le_of_ble_eq_true rfl) dL_law_1624 (fun r32 v31 => ?_)
                                                          refine v_istore C.1.1 [(5, .int r32), (0, .ref b), (1, .ref x0), (2, .ref g.1), (3, .ref o0), (4, .int x4)] (by decide) rfl dL_law_1627 ?_
                                                          refine v_aload_n C.1.1 3 rfl rfl dL_law_1629 ?_
                                                          refine v_aload_n C.1.1 1 rfl rfl dL_law_1630 ?_
                                                          refine v_iload C.1.1 5 rfl dL_law_1631 ?_
                                                          refine v_iconst C.1.1 1 (by decide) dL_law_1633 ?_
                                                          refine v_iadd C.1.1 dL_law_1634 ?_
                                                          refine v_chk (fun h33 => ?_)
                                                          refine v_Lscr C h33 dL_law_1635 ?_
                                                          refine v_callLM C [.int (xs (x4 + 1).toNatClampNeg)] [] (ct4_scribe t g l (xs (x4 + 1).toNatClampNeg) v31.2) (cw4_scribe C.1.1 q2276 (by decide)) rfl rfl (by exact Nat.le_of_ble_eq_true rfl) dL_law_1636 (fun r35 v34 => ?_)
                                                          refine v_istore C.1.1 [(6, .int r35), (5, .int r32), (0, .ref b), (1, .ref x0), (2, .ref g.1), (3, .ref o0), (4, .int x4)] (by decide) rfl dL_law_1639 ?_
                                                          refine v_aload_n C.1.1 4 rfl rfl dL_law_1641 ?_
                                                          refine v_callLM C [] [] (ct4_thrown t g l v34.2) (cw4_thrown C.1.1 q1878 (by decide)) rfl rfl (by exact Nat.le_of_ble_eq_true rfl) dL_law_1642 (fun r37 v36 => ?_)
                                                          refine v_iload C.1.1 1 rfl dL_law_1645 ?_
                                                          refine v_icmp_eq C.1.1 1652 (by decide) dL_law_1647 (fun _ => ?_) (fun _ => ?_)
                                                          · refine v_iload C.1.1 1 rfl dL_law_1652 ?_
                                                            refine v_if_ne C.1.1 1669 (by decide) dL_law_1654 (fun _ => ?_) (fun _ => ?_)
                                                            · refine v_aload_n C.1.1 5 rfl rfl dL_law_1657 ?_
                                                              refine v_iconst C.1.1 0 (by decide) dL_law_1658 ?_
                                                              refine v_chk (fun h38 => ?_)
                                                              refine v_Llald C h38 dL_law_1659 ?_
                                                              refine v_iload C.1.1 0 rfl dL_law_1660 ?_
                                                              refine v_i2l C.1.1 dL_law_1662 ?_
                                                              refine v_lcmp C.1.1 dL_law_1663 ?_
                                                              refine v_if_eq C.1.1 1669 (by decide) dL_law_1664 (fun _ => ?_) (fun _ => ?_)
                                                              · refine v_goto C.1.1 2323 (by decide) dL_law_1669 ?_
                                                                refine v_iinc C.1.1 6 [(4, .int (x4 + 6)), (6, .int r35), (5, .int r32), (0, .ref b), (1, .ref x0), (2, .ref g.1), (3, .ref o0)] 6 rfl (by decide) (by decide) rfl dL_law_2323 ?_
                                                                refine v_goto C.1.1 23 (by decide) dL_law_2326 ?_
                                                                refine v_sub [3, 4, 5, 6, 0] rfl ?_
                                                                exact hk (x4 + 6) v36
                                                              · refine v_iconst C.1.1 0 (by decide) dL_law_1667 ?_
                                                                exact v_lret C dL_law_1668
                                                            · refine v_goto C.1.1 2323 (by decide) dL_law_1669 ?_
                                                              refine v_iinc C.1.1 6 [(4, .int (x4 + 6)), (6, .int r35), (5, .int r32), (0, .ref b), (1, .ref x0), (2, .ref g.1), (3, .ref o0)] 6 rfl (by decide) (by decide) rfl dL_law_2323 ?_
                                                              refine v_goto C.1.1 23 (by decide) dL_law_2326 ?_
                                                              refine v_sub [3, 4, 5, 6, 0] rfl ?_
                                                              exact hk (x4 + 6) v36
                                                          · refine v_iconst C.1.1 0 (by decide) dL_law_1650 ?_
                                                            exact v_lret C dL_law_1651
                                                        · skip
                                                          refine v_if (fun h30 => ?_) (fun h30 => ?_)
                                                          · refine v_tableIn C.1.1 (1632) 1672 (by rw [h30]; decide) (by rw [h30]; decide) (by rw [h30]; rfl) (by decide) dL_law_40 ?_
                                                            refine v_aload_n C.1.1 1 rfl rfl dL_law_1672 ?_
                                                            refine v_aload_n C.1.1 0 rfl rfl dL_law_1673 ?_
                                                            refine v_iload C.1.1 4 rfl dL_law_1674 ?_
                                                            refine v_iconst C.1.1 1 (by decide) dL_law_1676 ?_
                                                            refine v_iadd C.1.1 dL_law_1677 ?_
                                                            refine v_chk (fun h31 => ?_)
                                                            refine v_Lscr C h31 dL_law_1678 ?_
                                                            refine v_aload_n C.1.1 3 rfl rfl dL_law_1679 ?_
                                                            refine v_callLS C [.ref x0, .int (xs (x4 + 1).toNatClampNeg), .ref o0] [] (ctX0_tells t G l hl0 x0 (xs (x4 + 1).toNatClampNeg) o0 v.1) (fun _ _ => cwX0_tells C.1 q1519 (by decide)) rfl rfl (by exact Nat.le_of_ble_eq_true rfl) dL_law_1680 (fun r33 v32 => ?_)
                                                            refine v_istore C.1.1 [(5, .int r33), (0, .ref b), (1, .ref x0), (2, .ref g.1), (3, .ref o0), (4, .int x4)] (by decide) rfl dL_law_1683 ?_
                                                            refine v_aload_n C.1.1 3 rfl rfl dL_law_1685 ?_
                                                            refine v_aload_n C.1.1 1 rfl rfl dL_law_1686 ?_
                                                            refine v_iload C.1.1 5 rfl dL_law_1687 ?_
                                                            refine v_iconst C.1.1 1 (by decide) dL_law_1689 ?_
                                                            refine v_iadd C.1.1 dL_law_1690 ?_
                                                            refine v_chk (fun h34 => ?_)
                                                            refine v_Lscr C h34 dL_law_1691 ?_
                                                            refine v_callLM C [.int (xs (x4 + 1).toNatClampNeg)] [] (ct4_tells t g l (xs (x4 + 1).toNatClampNeg) v32.2) (cw4_tells C.1.1 q2292 (by decide)) rfl rfl (by exact Nat.le_of_ble_eq_true rfl) dL_law_1692 (fun r36 v35 => ?_)
                                                            refine v_istore C.1.1 [(6, .int r36), (5, .int r33), (0, .ref b), (1, .ref x0), (2, .ref g.1), (3, .ref o0), (4, .int x4)] (by decide) rfl dL_law_1695 ?_
                                                            refine v_aload_n C.1.1 4 rfl rfl dL_law_1697 ?_
                                                            refine v_callLM C [] [] (ct4_thrown t g l v35.2) (cw4_thrown C.1.1 q1878 (by decide)) rfl rfl (by exact Nat.le_of_ble_eq_true rfl) dL_law_1698 (fun r38 v37 => ?_)
                                                            refine v_iload C.1.1 1 rfl dL_law_1701 ?_
                                                            refine v_icmp_eq C.1.1 1708 (by decide) dL_law_1703 (fun _ => ?_) (fun _ => ?_)
                                                            · refine v_iload C.1.1 1 rfl dL_law_1708 ?_
                                                              refine v_if_ne C.1.1 1725 (by decide) dL_law_1710 (fun _ => ?_) (fun _ => ?_)
                                                              · refine v_aload_n C.1.1 5 rfl rfl dL_law_1713 ?_
                                                                refine v_iconst C.1.1 0 (by decide) dL_law_1714 ?_
                                                                refine v_chk (fun h39 => ?_)
                                                                refine v_Llald C h39 dL_law_1715 ?_
                                                                refine v_iload C.1.1 0 rfl dL_law_1716 ?_
                                                                refine v_i2l C.1.1 dL_law_1718 ?_
                                                                refine v_lcmp C.1.1 dL_law_1719 ?_
                                                                refine v_if_eq C.1.1 1725 (by decide) dL_law_1720 (fun _ => ?_) (fun _ => ?_)
                                                                · refine v_goto C.1.1 2323 (by decide) dL_law_1725 ?_
                                                                  refine v_iinc C.1.1 6 [(4, .int (x4 + 6)), (6, .int r36), (5, .int r33), (0, .ref b), (1, .ref x0), (2, .ref g.1), (3, .ref o0)] 6 rfl (by decide) (by decide) rfl dL_law_2323 ?_
                                                                  refine v_goto C.1.1 23 (by decide) dL_law_2326 ?_
                                                                  refine v_sub [3, 4, 5, 6, 0] rfl ?_
                                                                  exact hk (x4 + 6) v37
                                                                · refine v_iconst C.1.1 0 (by decide) dL_law_1723 ?_
                                                                  exact v_lret C dL_law_1724
                                                              · refine v_goto C.1.1 2323 (by decide) dL_law_1725 ?_
                                                                refine v_iinc C.1.1 6 [(4, .int (x4 + 6)), (6, .int r36), (5, .int r33), (0, .ref b), (1, .ref x0), (2, .ref g.1), (3, .ref o0)] 6 rfl (by decide) (by decide) rfl dL_law_2323 ?_
                                                                refine v_goto C.1.1 23 (by decide) dL_law_2326 ?_
                                                                refine v_sub [3, 4, 5, 6, 0] rfl ?_
                                                                exact hk (x4 + 6) v37
                                                            · refine v_iconst C.1.1 0 (by decide) dL_law_1706 ?_
                                                              exact v_lret C dL_law_1707
                                                          · skip
                                                            refine v_if (fun h31 => ?_) (fun h31 => ?_)
                                                            · refine v_tableIn C.1.1 (1688) 1728 (by rw [h31]; decide) (by rw [h31]; decide) (by rw [h31]; rfl) (by decide) dL_law_40 ?_
                                                              refine v_aload_n C.1.1 1 rfl rfl dL_law_1728 ?_
                                                              refine v_aload_n C.1.1 0 rfl rfl dL_law_1729 ?_
                                                              refine v_iload C.1.1 4 rfl dL_law_1730 ?_
                                                              refine v_iconst C.1.1 1 (by decide) dL_law_1732 ?_
                                                              refine v_iadd C.1.1 dL_law_1733 ?_
                                                              refine v_chk (fun h32 => ?_)
                                                              refine v_Lscr C h32 dL_law_1734 ?_
                                                              refine v_aload_n C.1.1 3 rfl rfl dL_law_1735 ?_
                                                              refine v_callLS C [.ref x0, .int (xs (x4 + 1).toNatClampNeg), .ref o0] [] (ctX0_roll t G l hl0 x0 (xs (x4 + 1).toNatClampNeg) o0 v.1) (fun _ _ => cwX0_roll C.1 q1526 (by decide)) rfl rfl (by exact Nat.le_of_ble_eq_true rfl) dL_law_1736 (fun r34 v33 => ?_)
                                                              refine v_istore C.1.1 [(5, .int r34), (0, .ref b), (1, .ref x0), (2, .ref g.1), (3, .ref o0), (4, .int x4)] (by decide) rfl dL_law_1739 ?_
                                                              refine v_aload_n C.1.1 3 rfl rfl dL_law_1741 ?_
                                                              refine v_aload_n C.1.1 1 rfl rfl dL_law_1742 ?_
                                                              refine v_iload C.1.1 5 rfl dL_law_1743 ?_
                                                              refine v_iconst C.1.1 1 (by decide) dL_law_1745 ?_
                                                              refine v_iadd C.1.1 dL_law_1746 ?_
                                                              refine v_chk (fun h35 => ?_)
                                                              refine v_Lscr C h35 dL_law_1747 ?_
                                                              refine v_callLM C [.int (xs (x4 + 1).toNatClampNeg)] [] (ct4_roll t g l (xs (x4 + 1).toNatClampNeg) v33.2) (cw4_roll C.1.1 q2296 (by decide)) rfl rfl (by exact Nat.le_of_ble_eq_true rfl) dL_law_1748 (fun r37 v36 => ?_)
                                                              refine v_istore C.1.1 [(6, .int r37), (5, .int r34), (0, .ref b), (1, .ref x0), (2, .ref g.1), (3, .ref o0), (4, .int x4)] (by decide) rfl dL_law_1751 ?_
                                                              refine v_aload_n C.1.1 4 rfl rfl dL_law_1753 ?_
                                                              refine v_callLM C [] [] (ct4_thrown t g l v36.2) (cw4_thrown C.1.1 q1878 (by decide)) rfl rfl (by exact Nat.le_of_ble_eq_true rfl) dL_law_1754 (fun r39 v38 => ?_)
                                                              refine v_iload C.1.1 1 rfl dL_law_1757 ?_
                                                              refine v_icmp_eq C.1.1 1764 (by decide) dL_law_1759 (fun _ => ?_) (fun _ => ?_)
                                                              · refine v_iload C.1.1 1 rfl dL_law_1764 ?_
                                                                refine v_if_ne C.1.1 1781 (by decide) dL_law_1766 (fun _ => ?_) (fun _ => ?_)
                                                                · refine v_aload_n C.1.1 5 rfl rfl dL_law_1769 ?_
                                                                  refine v_iconst C.1.1 0 (by decide) dL_law_1770 ?_
                                                                  refine v_chk (fun h40 => ?_)
                                                                  refine v_Llald C h40 dL_law_1771 ?_
                                                                  refine v_iload C.1.1 0 rfl dL_law_1772 ?_
                                                                  refine v_i2l C.1.1 dL_law_1774 ?_
                                                                  refine v_lcmp C.1.1 dL_law_1775 ?_
                                                                  refine v_if_eq C.1.1 1781 (by decide) dL_law_1776 (fun _ => ?_) (fun _ => ?_)
                                                                  · refine v_goto C.1.1 2323 (by decide) dL_law_1781 ?_
                                                                    refine v_iinc C.1.1 6 [(4, .int (x4 + 6)), (6, .int r37), (5, .int r34), (0, .ref b), (1, .ref x0), (2, .ref g.1), (3, .ref o0)] 6 rfl (by decide) (by decide) rfl dL_law_2323 ?_
                                                                    refine v_goto C.1.1 23 (by decide) dL_law_2326 ?_
                                                                    refine v_sub [3, 4, 5, 6, 0] rfl ?_
                                                                    exact hk (x4 + 6) v38
                                                                  · refine v_iconst C.1.1 0 (by decide) dL_law_1779 ?_
                                                                    exact v_lret C dL_law_1780
                                                                · refine v_goto C.1.1 2323 (by decide) dL_law_1781 ?_
                                                                  refine v_iinc C.1.1 6 [(4, .int (x4 + 6)), (6, .int r37), (5, .int r34), (0, .ref b), (1, .ref x0), (2, .ref g.1), (3, .ref o0)] 6 rfl (by decide) (by decide) rfl dL_law_2323 ?_
                                                                  refine v_goto C.1.1 23 (by decide) dL_law_2326 ?_
                                                                  refine v_sub [3, 4, 5, 6, 0] rfl ?_
                                                                  exact hk (x4 + 6) v38
                                                              · refine v_iconst C.1.1 0 (by decide) dL_law_1762 ?_
                                                                exact v_lret C dL_law_1763
                                                            · skip
                                                              refine v_if (fun h32 => ?_) (fun h32 => ?_)
                                                              · refine v_tableIn C.1.1 (1744) 1784 (by rw [h32]; decide) (by rw [h32]; decide) (by rw [h32]; rfl) (by decide) dL_law_40 ?_
                                                                refine v_aload_n C.1.1 1 rfl rfl dL_law_1784 ?_
                                                                refine v_aload_n C.1.1 0 rfl rfl dL_law_1785 ?_
                                                                refine v_iload C.1.1 4 rfl dL_law_1786 ?_
                                                                refine v_iconst C.1.1 1 (by decide) dL_law_1788 ?_
                                                                refine v_iadd C.1.1 dL_law_1789 ?_
                                                                refine v_chk (fun h33 => ?_)
                                                                refine v_Lscr C h33 dL_law_1790 ?_
                                                                refine v_aload_n C.1.1 0 rfl rfl dL_law_1791 ?_
                                                                refine v_iload C.1.1 4 rfl dL_law_1792 ?_
                                                                refine v_iconst C.1.1 2 (by decide) dL_law_1794 ?_
                                                                refine v_iadd C.1.1 dL_law_1795 ?_
                                                                refine v_chk (fun h34 => ?_)
                                                                refine v_Lscr C h34 dL_law_1796 ?_
                                                                refine v_aload_n C.1.1 0 rfl rfl dL_law_1797 ?_
                                                                refine v_iload C.1.1 4 rfl dL_law_1798 ?_
                                                                refine v_iconst C.1.1 3 (by decide) dL_law_1800 ?_
                                                                refine v_iadd C.1.1 dL_law_1801 ?_
                                                                refine v_chk (fun h35 => ?_)
                                                                refine v_Lscr C h35 dL_law_1802 ?_
                                                                refine v_aload_n C.1.1 3 rfl rfl dL_law_1803 ?_
                                                                refine v_callLS C [.ref x0, .int (xs (x4 + 1).toNatClampNeg), .int (xs (x4 + 2).toNatClampNeg), .int (xs (x4 + 3).toNatClampNeg), .ref o0] [] (ctX0_bargain t G l hl0 x0 (xs (x4 + 1).toNatClampNeg) (xs (x4 + 2).toNatClampNeg) (xs (x4 + 3).toNatClampNeg) o0 v.1) (fun _ _ => cwX0_bargain C.1 q1537 (by decide)) rfl rfl (by exact Nat.le_of_ble_eq_true rfl) dL_law_1804 (fun r37 v36 => ?_)
                                                                refine v_istore C.1.1 [(5, .int r37), (0, .ref b), (1, .ref x0), (2, .ref g.1), (3, .ref o0), (4, .int x4)] (by decide) rfl dL_law_1807 ?_
                                                                refine v_aload_n C.1.1 3 rfl rfl dL_law_1809 ?_
                                                                refine v_aload_n C.1.1 1 rfl rfl dL_law_1810 ?_
                                                                refine v_iload C.1.1 5 rfl dL_law_1811 ?_
                                                                refine v_iconst C.1.1 1 (by decide) dL_law_1813 ?_
                                                                refine v_iadd C.1.1 dL_law_1814 ?_
                                                                refine v_chk (fun h38 => ?_)
                                                                refine v_Lscr C h38 dL_law_1815 ?_
                                                                refine v_aload_n C.1.1 1 rfl rfl dL_law_1816 ?_
                                                                refine v_iload C.1.1 5 rfl dL_law_1817 ?_
                                                                refine v_iconst C.1.1 2 (by decide) dL_law_1819 ?_
                                                                refine v_iadd C.1.1 dL_law_1820 ?_
                                                                refine v_chk (fun h39 => ?_)
                                                                refine v_Lscr C h39 dL_law_1821 ?_
                                                                refine v_aload_n C.1.1 1 rfl rfl dL_law_1822 ?_
                                                                refine v_iload C.1.1 5 rfl dL_law_1823 ?_
                                                                refine v_iconst C.1.1 3 (by decide) dL_law_1825 ?_
                                                                refine v_iadd C.1.1 dL_law_1826 ?_
                                                                refine v_chk (fun h40 => ?_)
                                                                refine v_Lscr C h40 dL_law_1827 ?_
                                                                refine v_callLM C [.int (xs (x4 + 1).toNatClampNeg), .int (xs (x4 + 2).toNatClampNeg), .int (xs (x4 + 3).toNatClampNeg)] [] (ct4_bargain t g l (xs (x4 + 1).toNatClampNeg) (xs (x4 + 2).toNatClampNeg) (xs (x4 + 3).toNatClampNeg) v36.2) (cw4_bargain C.1.1 q2300 (by decide)) rfl rfl (by exact Nat.le_of_ble_eq_true rfl) dL_law_1828 (fun r42 v41 => ?_)
                                                                refine v_istore C.1.1 [(6, .int r42), (5, .int r37), (0, .ref b), (1, .ref x0), (2, .ref g.1), (3, .ref o0), (4, .int x4)] (by decide) rfl dL_law_1831 ?_
                                                                refine v_aload_n C.1.1 4 rfl rfl dL_law_1833 ?_
                                                                refine v_callLM C [] [] (ct4_thrown t g l v41.2) (cw4_thrown C.1.1 q1878 (by decide)) rfl rfl (by exact Nat.le_of_ble_eq_true rfl) dL_law_1834 (fun r44 v43 => ?_)
                                                                refine v_iload C.1.1 1 rfl dL_law_1837 ?_
                                                                refine v_icmp_eq C.1.1 1844 (by decide) dL_law_1839 (fun _ => ?_) (fun _ => ?_)
                                                                · refine v_iload C.1.1 1 rfl dL_law_1844 ?_
                                                                  refine v_if_ne C.1.1 1861 (by decide) dL_law_1846 (fun _ => ?_) (fun _ => ?_)
                                                                  · refine v_aload_n C.1.1 5 rfl rfl dL_law_1849 ?_
                                                                    refine v_iconst C.1.1 0 (by decide) dL_law_1850 ?_
                                                                    refine v_chk (fun h45 => ?_)
                                                                    refine v_Llald C h45 dL_law_1851 ?_
                                                                    refine v_iload C.1.1 0 rfl dL_law_1852 ?_
                                                                    refine v_i2l C.1.1 dL_law_1854 ?_
                                                                    refine v_lcmp C.1.1 dL_law_1855 ?_
                                                                    refine v_if_eq C.1.1 1861 (by decide) dL_law_1856 (fun _ => ?_) (fun _ => ?_)
                                                                    · refine v_goto C.1.1 2323 (by decide) dL_law_1861 ?_
                                                                      refine v_iinc C.1.1 6 [(4, .int (x4 + 6)), (6, .int r42), (5, .int r37), (0, .ref b), (1, .ref x0), (2, .ref g.1), (3, .ref o0)] 6 rfl (by decide) (by decide) rfl dL_law_2323 ?_
                                                                      refine v_goto C.1.1 23 (by decide) dL_law_2326 ?_
                                                                      refine v_sub [3, 4, 5, 6, 0] rfl ?_
                                                                      exact hk (x4 + 6) v43
                                                                    · refine v_iconst C.1.1 0 (by decide) dL_law_1859 ?_
                                                                      exact v_lret C dL_law_1860
                                                                  · refine v_goto C.1.1 2323 (by decide) dL_law_1861 ?_
                                                                    refine v_iinc C.1.1 6 [(4, .int (x4 + 6)), (6, .int r42), (5, .int r37), (0, .ref b), (1, .ref x0), (2, .ref g.1), (3, .ref o0)] 6 rfl (by decide) (by decide) rfl dL_law_2323 ?_
                                                                    refine v_goto C.1.1 23 (by decide) dL_law_2326 ?_
                                                                    refine v_sub [3, 4, 5, 6, 0] rfl ?_
                                                                    exact hk (x4 + 6) v43
                                                                · refine v_iconst C.1.1 0 (by decide) dL_law_1842 ?_
                                                                  exact v_lret C dL_law_1843
                                                              · skip
                                                                refine v_if (fun h33 => ?_) (fun h33 => ?_)
                                                                · refine v_tableIn C.1.1 (1824) 1864 (by rw [h33]; decide) (by rw [h33]; decide) (by rw [h33]; rfl) (by decide) dL_law_40 ?_
                                                                  refine v_aload_n C.1.1 1 rfl rfl dL_law_1864 ?_
                                                                  refine v_aload_n C.1.1 0 rfl rfl dL_law_1865 ?_
                                                                  refine v_iload C.1.1 4 rfl dL_law_1866 ?_
                                                                  refine v_iconst C.1.1 1 (by decide) dL_law_1868 ?_
                                                                  refine v_iadd C.1.1 dL_law_1869 ?_
                                                                  refine v_chk (fun h34 => ?_)
                                                                  refine v_Lscr C h34 dL_law_1870 ?_
                                                                  refine v_aload_n C.1.1 0 rfl rfl dL_law_1871 ?_
                                                                  refine v_iload C.1.1 4 rfl dL_law_1872 ?_
                                                                  refine v_iconst C.1.1 2 (by decide) dL_law_1874 ?_
                                                                  refine v_iadd C.1.1 dL_law_1875 ?_
                                                                  refine v_chk (fun h35 => ?_)
                                                                  refine v_Lscr C h35 dL_law_1876 ?_
                                                                  refine v_aload_n C.1.1 0 rfl rfl dL_law_1877 ?_
                                                                  refine v_iload C.1.1 4 rfl dL_law_1878 ?_
                                                                  refine v_iconst C.1.1 3 (by decide) dL_law_1880 ?_
                                                                  refine v_iadd C.1.1 dL_law_1881 ?_
                                                                  refine v_chk (fun h36 => ?_)
                                                                  refine v_Lscr C h36 dL_law_1882 ?_
                                                                  refine v_aload_n C.1.1 3 rfl rfl dL_law_1883 ?_
                                                                  refine v_callLS C [.ref x0, .int (xs (x4 + 1).toNatClampNeg), .int (xs (x4 + 2).toNatClampNeg), .int (xs (x4 + 3).toNatClampNeg), .ref o0] [] (ctX0_lists t G l hl0 x0 (xs (x4 + 1).toNatClampNeg) (xs (x4 + 2).toNatClampNeg) (xs (x4 + 3).toNatClampNeg) o0 v.1) (fun _ _ => cwX0_lists C.1 q1553 (by decide)) rfl rfl (by exact Nat.le_of_ble_eq_true rfl) dL_law_1884 (fun r38 v37 => ?_)
                                                                  refine v_istore C.1.1 [(5, .int r38), (0, .ref b), (1, .ref x0), (2, .ref g.1), (3, .ref o0), (4, .int x4)] (by decide) rfl dL_law_1887 ?_
                                                                  refine v_aload_n C.1.1 3 rfl rfl dL_law_1889 ?_
                                                                  refine v_aload_n C.1.1 1 rfl rfl dL_law_1890 ?_
                                                                  refine v_iload C.1.1 5 rfl dL_law_1891 ?_
                                                                  refine v_iconst C.1.1 1 (by decide) dL_law_1893 ?_
                                                                  refine v_iadd C.1.1 dL_law_1894 ?_
                                                                  refine v_chk (fun h39 => ?_)
                                                                  refine v_Lscr C h39 dL_law_1895 ?_
                                                                  refine v_aload_n C.1.1 1 rfl rfl dL_law_1896 ?_
                                                                  refine v_iload C.1.1 5 rfl dL_law_1897 ?_
                                                                  refine v_iconst C.1.1 2 (by decide) dL_law_1899 ?_
                                                                  refine v_iadd C.1.1 dL_law_1900 ?_
                                                                  refine v_chk (fun h40 => ?_)
                                                                  refine v_Lscr C h40 dL_law_1901 ?_
                                                                  refine v_aload_n C.1.1 1 rfl rfl dL_law_1902 ?_
                                                                  refine v_iload C.1.1 5 rfl dL_law_1903 ?_
                                                                  refine v_iconst C.1.1 3 (by decide) dL_law_1905 ?_
                                                                  refine v_iadd C.1.1 dL_law_1906 ?_
                                                                  refine v_chk (fun h41 => ?_)
                                                                  refine v_Lscr C h41 dL_law_1907 ?_
                                                                  refine v_callLM C [.int (xs (x4 + 1).toNatClampNeg), .int (xs (x4 + 2).toNatClampNeg), .int (xs (x4 + 3).toNatClampNeg)] [] (ct4_lists t g l (xs (x4 + 1).toNatClampNeg) (xs (x4 + 2).toNatClampNeg) (xs (x4 + 3).toNatClampNeg) v37.2) (cw4_lists C.1.1 q2312 (by decide)) rfl rfl (by exact Nat.le_of_ble_eq_true rfl) dL_law_1908 (fun r43 v42 => ?_)
                                                                  refine v_istore C.1.1 [(6, .int r43), (5, .int r38), (0, .ref b), (1, .ref x0), (2, .ref g.1), (3, .ref o0), (4, .int x4)] (by decide) rfl dL_law_1911 ?_
                                                                  refine v_aload_n C.1.1 4 rfl rfl dL_law_1913 ?_
                                                                  refine v_callLM C [] [] (ct4_thrown t g l v42.2) (cw4_thrown C.1.1 q1878 (by decide)) rfl rfl (by exact Nat.le_of_ble_eq_true rfl) dL_law_1914 (fun r45 v44 => ?_)
                                                                  refine v_iload C.1.1 1 rfl dL_law_1917 ?_
                                                                  refine v_icmp_eq C.1.1 1924 (by decide) dL_law_1919 (fun _ => ?_) (fun _ => ?_)
                                                                  · refine v_iload C.1.1 1 rfl dL_law_1924 ?_
                                                                    refine v_if_ne C.1.1 1941 (by decide) dL_law_1926 (fun _ => ?_) (fun _ => ?_)
                                                                    · refine v_aload_n C.1.1 5 rfl rfl dL_law_1929 ?_
                                                                      refine v_iconst C.1.1 0 (by decide) dL_law_1930 ?_
                                                                      refine v_chk (fun h46 => ?_)
                                                                      refine v_Llald C h46 dL_law_1931 ?_
                                                                      refine v_iload C.1.1 0 rfl dL_law_1932 ?_
                                                                      refine v_i2l C.1.1 dL_law_1934 ?_
                                                                      refine v_lcmp C.1.1 dL_law_1935 ?_
                                                                      refine v_if_eq C.1.1 1941 (by decide) dL_law_1936 (fun _ => ?_) (fun _ => ?_)
                                                                      · refine v_goto C.1.1 2323 (by decide) dL_law_1941 ?_
                                                                        refine v_iinc C.1.1 6 [(4, .int (x4 + 6)), (6, .int r43), (5, .int r38), (0, .ref b), (1, .ref x0), (2, .ref g.1), (3, .ref o0)] 6 rfl (by decide) (by decide) rfl dL_law_2323 ?_
                                                                        refine v_goto C.1.1 23 (by decide) dL_law_2326 ?_
                                                                        refine v_sub [3, 4, 5, 6, 0] rfl ?_
                                                                        exact hk (x4 + 6) v44
                                                                      · refine v_iconst C.1.1 0 (by decide) dL_law_1939 ?_
                                                                        exact v_lret C dL_law_1940
                                                                    · refine v_goto C.1.1 2323 (by decide) dL_law_1941 ?_
                                                                      refine v_iinc C.1.1 6 [(4, .int (x4 + 6)), (6, .int r43), (5, .int r38), (0, .ref b), (1, .ref x0), (2, .ref g.1), (3, .ref o0)] 6 rfl (by decide) (by decide) rfl dL_law_2323 ?_
                                                                      refine v_goto C.1.1 23 (by decide) dL_law_2326 ?_
                                                                      refine v_sub [3, 4, 5, 6, 0] rfl ?_
                                                                      exact hk (x4 + 6) v44
                                                                  · refine v_iconst C.1.1 0 (by decide) dL_law_1922 ?_
                                                                    exact v_lret C dL_law_1923
                                                                · skip
                                                                  refine v_if (fun h34 => ?_) (fun h34 => ?_)
                                                                  · refine v_tableIn C.1.1 (1904) 1944 (by rw [h34]; decide) (by rw [h34]; decide) (by rw [h34]; rfl) (by decide) dL_law_40 ?_
                                                                    refine v_aload_n C.1.1 1 rfl rfl dL_law_1944 ?_
                                                                    refine v_aload_n C.1.1 0 rfl rfl dL_law_1945 ?_
                                                                    refine v_iload C.1.1 4 rfl dL_law_1946 ?_
                                                                    refine v_iconst C.1.1 1 (by decide) dL_law_1948 ?_
                                                                    refine v_iadd C.1.1 dL_law_1949 ?_
                                                                    refine v_chk (fun h35 => ?_)
                                                                    refine v_Lscr C h35 dL_law_1950 ?_
                                                                    refine v_aload_n C.1.1 0 rfl rfl dL_law_1951 ?_
                                                                    refine v_iload C.1.1 4 rfl dL_law_1952 ?_
                                                                    refine v_iconst C.1.1 2 (by decide) dL_law_1954 ?_
                                                                    refine v_iadd C.1.1 dL_law_1955 ?_
                                                                    refine v_chk (fun h36 => ?_)
                                                                    refine v_Lscr C h36 dL_law_1956 ?_
                                                                    refine v_aload_n C.1.1 3 rfl rfl dL_law_1957 ?_
                                                                    refine v_callLS C [.ref x0, .int (xs (x4 + 1).toNatClampNeg), .int (xs (x4 + 2).toNatClampNeg), .ref o0] [] (ctX0_far t G l hl0 x0 (xs (x4 + 1).toNatClampNeg) (xs (x4 + 2).toNatClampNeg) o0 v.1) (fun _ _ => cwX0_far C.1 q1570 (by decide)) rfl rfl (by exact Nat.le_of_ble_eq_true rfl) dL_law_1958 (fun r38 v37 => ?_)
                                                                    refine v_istore C.1.1 [(5, .int r38), (0, .ref b), (1, .ref x0), (2, .ref g.1), (3, .ref o0), (4, .int x4)] (by decide) rfl dL_law_1961 ?_
                                                                    refine v_aload_n C.1.1 3 rfl rfl dL_law_1963 ?_
                                                                    refine v_aload_n C.1.1 1 rfl rfl dL_law_1964 ?_
                                                                    refine v_iload C.1.1 5 rfl dL_law_1965 ?_
                                                                    refine v_iconst C.1.1 1 (by decide) dL_law_1967 ?_
                                                                    refine v_iadd C.1.1 dL_law_1968 ?_
                                                                    refine v_chk (fun h39 => ?_)
                                                                    refine v_Lscr C h39 dL_law_1969 ?_
                                                                    refine v_aload_n C.1.1 1 rfl rfl dL_law_1970 ?_
                                                                    refine v_iload C.1.1 5 rfl dL_law_1971 ?_
                                                                    refine v_iconst C.1.1 2 (by decide) dL_law_1973 ?_
                                                                    refine v_iadd C.1.1 dL_law_1974 ?_
                                                                    refine v_chk (fun h40 => ?_)
                                                                    refine v_Lscr C h40 dL_law_1975 ?_
                                                                    refine v_callLM C [.int (xs (x4 + 1).toNatClampNeg), .int (xs (x4 + 2).toNatClampNeg)] [] (ct4_far t g l (xs (x4 + 1).toNatClampNeg) (xs (x4 + 2).toNatClampNeg) v37.2) (cw4_far C.1.1 q2325 (by decide)) rfl rfl (by exact Nat.le_of_ble_eq_true rfl) dL_law_1976 (fun r42 v41 => ?_)
                                                                    refine v_istore C.1.1 [(6, .int r42), (5, .int r38), (0, .ref b), (1, .ref x0), (2, .ref g.1), (3, .ref o0), (4, .int x4)] (by decide) rfl dL_law_1979 ?_
                                                                    refine v_aload_n C.1.1 4 rfl rfl dL_law_1981 ?_
                                                                    refine v_callLM C [] [] (ct4_thrown t g l v41.2) (cw4_thrown C.1.1 q1878 (by decide)) rfl rfl (by exact Nat.le_of_ble_eq_true rfl) dL_law_1982 (fun r44 v43 => ?_)
                                                                    refine v_iload C.1.1 1 rfl dL_law_1985 ?_
                                                                    refine v_icmp_eq C.1.1 1992 (by decide) dL_law_1987 (fun _ => ?_) (fun _ => ?_)
                                                                    · refine v_iload C.1.1 1 rfl dL_law_1992 ?_
                                                                      refine v_if_ne C.1.1 2009 (by decide) dL_law_1994 (fun _ => ?_) (fun _ => ?_)
                                                                      · refine v_aload_n C.1.1 5 rfl rfl dL_law_1997 ?_
                                                                        refine v_iconst C.1.1 0 (by decide) dL_law_1998 ?_
                                                                        refine v_chk (fun h45 => ?_)
                                                                        refine v_Llald C h45 dL_law_1999 ?_
                                                                        refine v_iload C.1.1 0 rfl dL_law_2000 ?_
                                                                        refine v_i2l C.1.1 dL_law_2002 ?_
                                                                        refine v_lcmp C.1.1 dL_law_2003 ?_
                                                                        refine v_if_eq C.1.1 2009 (by decide) dL_law_2004 (fun _ => ?_) (fun _ => ?_)
                                                                        · refine v_goto C.1.1 2323 (by decide) dL_law_2009 ?_
                                                                          refine v_iinc C.1.1 6 [(4, .int (x4 + 6)), (6, .int r42), (5, .int r38), (0, .ref b), (1, .ref x0), (2, .ref g.1), (3, .ref o0)] 6 rfl (by decide) (by decide) rfl dL_law_2323 ?_
                                                                          refine v_goto C.1.1 23 (by decide) dL_law_2326 ?_
                                                                          refine v_sub [3, 4, 5, 6, 0] rfl ?_
                                                                          exact hk (x4 + 6) v43
                                                                        · refine v_iconst C.1.1 0 (by decide) dL_law_2007 ?_
                                                                          exact v_lret C dL_law_2008
                                                                      · refine v_goto C.1.1 2323 (by decide) dL_law_2009 ?_
                                                                        refine v_iinc C.1.1 6 [(4, .int (x4 + 6)), (6, .int r42), (5, .int r38), (0, .ref b), (1, .ref x0), (2, .ref g.1), (3, .ref o0)] 6 rfl (by decide) (by decide) rfl dL_law_2323 ?_
                                                                        refine v_goto C.1.1 23 (by decide) dL_law_2326 ?_
                                                                        refine v_sub [3, 4, 5, 6, 0] rfl ?_
                                                                        exact hk (x4 + 6) v43
                                                                    · refine v_iconst C.1.1 0 (by decide) dL_law_1990 ?_
                                                                      exact v_lret C dL_law_1991
                                                                  · skip
                                                                    refine v_if (fun h35 => ?_) (fun h35 => ?_)
                                                                    · refine v_tableIn C.1.1 (1972) 2012 (by rw [h35]; decide) (by rw [h35]; decide) (by rw [h35]; rfl) (by decide) dL_law_40 ?_
                                                                      refine v_aload_n C.1.1 1 rfl rfl dL_law_2012 ?_
                                                                      refine v_aload_n C.1.1 0 rfl rfl dL_law_2013 ?_
                                                                      refine v_iload C.1.1 4 rfl dL_law_2014 ?_
                                                                      refine v_iconst C.1.1 1 (by decide) dL_law_2016 ?_
                                                                      refine v_iadd C.1.1 dL_law_2017 ?_
                                                                      refine v_chk (fun h36 => ?_)
                                                                      refine v_Lscr C h36 dL_law_2018 ?_
                                                                      refine v_aload_n C.1.1 3 rfl rfl dL_law_2019 ?_
                                                                      refine v_callLS C [.ref x0, .int (xs (x4 + 1).toNatClampNeg), .ref o0] [] (ctX0_refuge t G l hl0 x0 (xs (x4 + 1).toNatClampNeg) o0 v.1) (fun _ _ => cwX0_refuge C.1 q1577 (by decide)) rfl rfl (by exact Nat.le_of_ble_eq_true rfl) dL_law_2020 (fun r38 v37 => ?_)
                                                                      refine v_istore C.1.1 [(5, .int r38), (0, .ref b), (1, .ref x0), (2, .ref g.1), (3, .ref o0), (4, .int x4)] (by decide) rfl dL_law_2023 ?_
                                                                      refine v_aload_n C.1.1 3 rfl rfl dL_law_2025 ?_
                                                                      refine v_aload_n C.1.1 1 rfl rfl dL_law_2026 ?_
                                                                      refine v_iload C.1.1 5 rfl dL_law_2027 ?_
                                                                      refine v_iconst C.1.1 1 (by decide) dL_law_2029 ?_
                                                                      refine v_iadd C.1.1 dL_law_2030 ?_
                                                                      refine v_chk (fun h39 => ?_)
                                                                      refine v_Lscr C h39 dL_law_2031 ?_
                                                                      refine v_callLM C [.int (xs (x4 + 1).toNatClampNeg)] [] (ct4_refuge t g l (xs (x4 + 1).toNatClampNeg) v37.2) (cw4_refuge C.1.1 q2329 (by decide)) rfl rfl (by exact Nat.le_of_ble_eq_true rfl) dL_law_2032 (fun r41 v40 => ?_)
                                                                      refine v_istore C.1.1 [(6, .int r41), (5, .int r38), (0, .ref b), (1, .ref x0), (2, .ref g.1), (3, .ref o0), (4, .int x4)] (by decide) rfl dL_law_2035 ?_
                                                                      refine v_aload_n C.1.1 4 rfl rfl dL_law_2037 ?_
                                                                      refine v_callLM C [] [] (ct4_thrown t g l v40.2) (cw4_thrown C.1.1 q1878 (by decide)) rfl rfl (by exact Nat.le_of_ble_eq_true rfl) dL_law_2038 (fun r43 v42 => ?_)
                                                                      refine v_iload C.1.1 1 rfl dL_law_2041 ?_
                                                                      refine v_icmp_eq C.1.1 2048 (by decide) dL_law_2043 (fun _ => ?_) (fun _ => ?_)
                                                                      · refine v_iload C.1.1 1 rfl dL_law_2048 ?_
                                                                        refine v_if_ne C.1.1 2065 (by decide) dL_law_2050 (fun _ => ?_) (fun _ => ?_)
                                                                        · refine v_aload_n C.1.1 5 rfl rfl dL_law_2053 ?_
                                                                          refine v_iconst C.1.1 0 (by decide) dL_law_2054 ?_
                                                                          refine v_chk (fun h44 => ?_)
                                                                          refine v_Llald C h44 dL_law_2055 ?_
                                                                          refine v_iload C.1.1 0 rfl dL_law_2056 ?_
                                                                          refine v_i2l C.1.1 dL_law_2058 ?_
                                                                          refine v_lcmp C.1.1 dL_law_2059 ?_
                                                                          refine v_if_eq C.1.1 2065 (by decide) dL_law_2060 (fun _ => ?_) (fun _ => ?_)
                                                                          · refine v_goto C.1.1 2323 (by decide) dL_law_2065 ?_
                                                                            refine v_iinc C.1.1 6 [(4, .int (x4 + 6)), (6, .int r41), (5, .int r38), (0, .ref b), (1, .ref x0), (2, .ref g.1), (3, .ref o0)] 6 rfl (by decide) (by decide) rfl dL_law_2323 ?_
                                                                            refine v_goto C.1.1 23 (by decide) dL_law_2326 ?_
                                                                            refine v_sub [3, 4, 5, 6, 0] rfl ?_
                                                                            exact hk (x4 + 6) v42
                                                                          · refine v_iconst C.1.1 0 (by decide) dL_law_2063 ?_
                                                                            exact v_lret C dL_law_2064
                                                                        · refine v_goto C.1.1 2323 (by decide) dL_law_2065 ?_
                                                                          refine v_iinc C.1.1 6 [(4, .int (x4 + 6)), (6, .int r41), (5, .int r38), (0, .ref b), (1, .ref x0), (2, .ref g.1), (3, .ref o0)] 6 rfl (by decide) (by decide) rfl dL_law_2323 ?_
                                                                          refine v_goto C.1.1 23 (by decide) dL_law_2326 ?_
                                                                          refine v_sub [3, 4, 5, 6, 0] rfl ?_
                                                                          exact hk (x4 + 6) v42
                                                                      · refine v_iconst C.1.1 0 (by decide) dL_law_2046 ?_
                                                                        exact v_lret C dL_law_2047
                                                                    · skip
                                                                      refine v_if (fun h36 => ?_) (fun h36 => ?_)
                                                                      · refine v_tableIn C.1.1 (2028) 2068 (by rw [h36]; decide) (by rw [h36]; decide) (by rw [h36]; rfl) (by decide) dL_law_40 ?_
                                                                        refine v_aload_n C.1.1 1 rfl rfl dL_law_2068 ?_
                                                                        refine v_chk (fun h39 => ?_)
                                                                        refine v_callLV C [] [] (ctX1_richest t G l hl0 x0 v.1) (fun _ _ => cwX1_richest C.1 q700 (by decide)) (ci := 0) (eq_of_beq h39) (by decide) rfl rfl rfl (by exact Nat.le_of_ble_eq_true rfl) dL_law_2069 (fun r38 v37 => ?_)
                                                                        refine v_aload_n C.1.1 2 rfl rfl dL_law_2072 ?_
                                                                        refine v_callLM C [] [.int r38] (ct4_richest t g l v37.2) (cw4_richest C.1.1 q2224 (by decide)) rfl rfl (by exact Nat.le_of_ble_eq_true rfl) dL_law_2073 (fun r41 v40 => ?_)
                                                                        refine v_icmp_eq C.1.1 2323 (by decide) dL_law_2076 (fun _ => ?_) (fun _ => ?_)
                                                                        · refine v_iinc C.1.1 6 [(4, .int (x4 + 6)), (0, .ref b), (1, .ref x0), (2, .ref g.1), (3, .ref o0)] 4 rfl (by decide) (by decide) rfl dL_law_2323 ?_
                                                                          refine v_goto C.1.1 23 (by decide) dL_law_2326 ?_
                                                                          refine v_sub [1, 2, 3, 4, 0] rfl ?_
                                                                          exact hk (x4 + 6) v40
                                                                        · refine v_iconst C.1.1 0 (by decide) dL_law_2079 ?_
                                                                          exact v_lret C dL_law_2080
                                                                      · skip
                                                                        refine v_if (fun h37 => ?_) (fun h37 => ?_)
                                                                        · refine v_tableIn C.1.1 (2041) 2081 (by rw [h37]; decide) (by rw [h37]; decide) (by rw [h37]; rfl) (by decide) dL_law_40 ?_
                                                                          refine v_aload_n C.1.1 1 rfl rfl dL_law_2081 ?_
                                                                          refine v_aload_n C.1.1 0 rfl rfl dL_law_2082 ?_
                                                                          refine v_iload C.1.1 4 rfl dL_law_2083 ?_
                                                                          refine v_iconst C.1.1 1 (by decide) dL_law_2085 ?_
                                                                          refine v_iadd C.1.1 dL_law_2086 ?_
                                                                          refine v_chk (fun h38 => ?_)
                                                                          refine v_Lscr C h38 dL_law_2087 ?_
                                                                          refine v_aload_n C.1.1 3 rfl rfl dL_law_2088 ?_
                                                                          refine v_callLS C [.ref x0, .int (xs (x4 + 1).toNatClampNeg), .ref o0] [] (ctX0_worst t G l hl0 x0 (xs (x4 + 1).toNatClampNeg) o0 v.1) (fun _ _ => cwX0_worst C.1 q1588 (by decide)) rfl rfl (by exact Nat.le_of_ble_eq_true rfl) dL_law_2089 (fun r40 v39 => ?_)
                                                                          refine v_istore C.1.1 [(5, .int r40), (0, .ref b), (1, .ref x0), (2, .ref g.1), (3, .ref o0), (4, .int x4)] (by decide) rfl dL_law_2092 ?_
                                                                          refine v_aload_n C.1.1 3 rfl rfl dL_law_2094 ?_
                                                                          refine v_aload_n C.1.1 1 rfl rfl dL_law_2095 ?_
                                                                          refine v_iload C.1.1 5 rfl dL_law_2096 ?_
                                                                          refine v_iconst C.1.1 1 (by decide) dL_law_2098 ?_
                                                                          refine v_iadd C.1.1 dL_law_2099 ?_
                                                                          refine v_chk (fun h41 => ?_)
                                                                          refine v_Lscr C h41 dL_law_2100 ?_
                                                                          refine v_callLM C [.int (xs (x4 + 1).toNatClampNeg)] [] (ct4_worst t g l (xs (x4 + 1).toNatClampNeg) v39.2) (cw4_worst C.1.1 q2216 (by decide)) rfl rfl (by exact Nat.le_of_ble_eq_true rfl) dL_law_2101 (fun r43 v42 => ?_)
                                                                          refine v_istore C.1.1 [(6, .int r43), (5, .int r40), (0, .ref b), (1, .ref x0), (2, .ref g.1), (3, .ref o0), (4, .int x4)] (by decide) rfl dL_law_2104 ?_
                                                                          refine v_aload_n C.1.1 4 rfl rfl dL_law_2106 ?_
                                                                          refine v_callLM C [] [] (ct4_thrown t g l v42.2) (cw4_thrown C.1.1 q1878 (by decide)) rfl rfl (by exact Nat.le_of_ble_eq_true rfl) dL_law_2107 (fun r45 v44 => ?_)
                                                                          refine v_iload C.1.1 1 rfl dL_law_2110 ?_
                                                                          refine v_icmp_eq C.1.1 2117 (by decide) dL_law_2112 (fun _ => ?_) (fun _ => ?_)
                                                                          · refine v_iload C.1.1 1 rfl dL_law_2117 ?_
                                                                            refine v_if_ne C.1.1 2134 (by decide) dL_law_2119 (fun _ => ?_) (fun _ => ?_)
                                                                            · refine v_aload_n C.1.1 5 rfl rfl dL_law_2122 ?_
                                                                              refine v_iconst C.1.1 0 (by decide) dL_law_2123 ?_
                                                                              refine v_chk (fun h46 => ?_)
                                                                              refine v_Llald C h46 dL_law_2124 ?_
                                                                              refine v_iload C.1.1 0 rfl dL_law_2125 ?_
                                                                              refine v_i2l C.1.1 dL_law_2127 ?_
                                                                              refine v_lcmp C.1.1 dL_law_2128 ?_
                                                                              refine v_if_eq C.1.1 2134 (by decide) dL_law_2129 (fun _ => ?_) (fun _ => ?_)
                                                                              · refine v_goto C.1.1 2323 (by decide) dL_law_2134 ?_
                                                                                refine v_iinc C.1.1 6 [(4, .int (x4 + 6)), (6, .int r43), (5, .int r40), (0, .ref b), (1, .ref x0), (2, .ref g.1), (3, .ref o0)] 6 rfl (by decide) (by decide) rfl dL_law_2323 ?_
                                                                                refine v_goto C.1.1 23 (by decide) dL_law_2326 ?_
                                                                                refine v_sub [3, 4, 5, 6, 0] rfl ?_
                                                                                exact hk (x4 + 6) v44
                                                                              · refine v_iconst C.1.1 0 (by decide) dL_law_2132 ?_
                                                                                exact v_lret C dL_law_2133
                                                                            · refine v_goto C.1.1 2323 (by decide) dL_law_2134 ?_
                                                                              refine v_iinc C.1.1 6 [(4, .int (x4 + 6)), (6, .int r43), (5, .int r40), (0, .ref b), (1, .ref x0), (2, .ref g.1), (3, .ref o0)] 6 rfl (by decide) (by decide) rfl dL_law_2323 ?_
                                                                              refine v_goto C.1.1 23 (by decide) dL_law_2326 ?_
                                                                              refine v_sub [3, 4, 5, 6, 0] rfl ?_
                                                                              exact hk (x4 + 6) v44
                                                                          · refine v_iconst C.1.1 0 (by decide) dL_law_2115 ?_
                                                                            exact v_lret C dL_law_2116
                                                                        · skip
                                                                          refine v_if (fun h38 => ?_) (fun h38 => ?_)
                                                                          · refine v_tableIn C.1.1 (2097) 2137 (by rw [h38]; decide) (by rw [h38]; decide) (by rw [h38]; rfl) (by decide) dL_law_40 ?_
                                                                            refine v_aload_n C.1.1 1 rfl rfl dL_law_2137 ?_
                                                                            refine v_chk (fun h41 => ?_)
                                                                            refine v_callLV C [] [] (ctX1_idle t G l hl0 x0 v.1) (fun _ _ => cwX1_idle C.1 q708 (by decide)) (ci := 0) (eq_of_beq h41) (by decide) rfl rfl rfl (by exact Nat.le_of_ble_eq_true rfl) dL_law_2138 (fun r40 v39 => ?_)
                                                                            refine v_aload_n C.1.1 2 rfl rfl dL_law_2141 ?_
                                                                            refine v_callLM C [] [.int r40] (ct4_idle t g l v39.2) (cw4_idle C.1.1 q2220 (by decide)) rfl rfl (by exact Nat.le_of_ble_eq_true rfl) dL_law_2142 (fun r43 v42 => ?_)
                                                                            refine v_icmp_eq C.1.1 2323 (by decide) dL_law_2145 (fun _ => ?_) (fun _ => ?_)
                                                                            · refine v_iinc C.1.1 6 [(4, .int (x4 + 6)), (0, .ref b), (1, .ref x0), (2, .ref g.1), (3, .ref o0)] 4 rfl (by decide) (by decide) rfl dL_law_2323 ?_
                                                                              refine v_goto C.1.1 23 (by decide) dL_law_2326 ?_
                                                                              refine v_sub [1, 2, 3, 4, 0] rfl ?_
                                                                              exact hk (x4 + 6) v42
                                                                            · refine v_iconst C.1.1 0 (by decide) dL_law_2148 ?_
                                                                              exact v_lret C dL_law_2149
                                                                          · skip
                                                                            refine v_if (fun h39 => ?_) (fun h39 => ?_)
                                                                            · refine v_tableIn C.1.1 (2110) 2150 (by rw [h39]; decide) (by rw [h39]; decide) (by rw [h39]; rfl) (by decide) dL_law_40 ?_
                                                                              refine v_aload_n C.1.1 1 rfl rfl dL_law_2150 ?_
                                                                              refine v_aload_n C.1.1 0 rfl rfl dL_law_2151 ?_
                                                                              refine v_iload C.1.1 4 rfl dL_law_2152 ?_
                                                                              refine v_iconst C.1.1 1 (by decide) dL_law_2154 ?_
                                                                              refine v_iadd C.1.1 dL_law_2155 ?_
                                                                              refine v_chk (fun h40 => ?_)
                                                                              refine v_Lscr C h40 dL_law_2156 ?_
                                                                              refine v_aload_n C.1.1 0 rfl rfl dL_law_2157 ?_
                                                                              refine v_iload C.1.1 4 rfl dL_law_2158 ?_
                                                                              refine v_iconst C.1.1 2 (by decide) dL_law_2160 ?_
                                                                              refine v_iadd C.1.1 dL_law_2161 ?_
                                                                              refine v_chk (fun h41 => ?_)
                                                                              refine v_Lscr C h41 dL_law_2162 ?_
                                                                              refine v_aload_n C.1.1 3 rfl rfl dL_law_2163 ?_
                                                                              refine v_callLS C [.ref x0, .int (xs (x4 + 1).toNatClampNeg), .int (xs (x4 + 2).toNatClampNeg), .ref o0] [] (ctX0_stay t G l hl0 x0 (xs (x4 + 1).toNatClampNeg) (xs (x4 + 2).toNatClampNeg) o0 v.1) (fun _ _ => cwX0_stay C.1 q1595 (by decide)) rfl rfl (by exact Nat.le_of_ble_eq_true rfl) dL_law_2164 (fun r43 v42 => ?_)
                                                                              refine v_istore C.1.1 [(5, .int r43), (0, .ref b), (1, .ref x0), (2, .ref g.1), (3, .ref o0), (4, .int x4)] (by decide) rfl dL_law_2167 ?_
                                                                              refine v_aload_n C.1.1 3 rfl rfl dL_law_2169 ?_
                                                                              refine v_aload_n C.1.1 1 rfl rfl dL_law_2170 ?_
                                                                              refine v_iload C.1.1 5 rfl dL_law_2171 ?_
                                                                              refine v_iconst C.1.1 1 (by decide) dL_law_2173 ?_
                                                                              refine v_iadd C.1.1 dL_law_2174 ?_
                                                                              refine v_chk (fun h44 => ?_)
                                                                              refine v_Lscr C h44 dL_law_2175 ?_
                                                                              refine v_aload_n C.1.1 1 rfl rfl dL_law_2176 ?_
                                                                              refine v_iload C.1.1 5 rfl dL_law_2177 ?_
                                                                              refine v_iconst C.1.1 2 (by decide) dL_law_2179 ?_
                                                                              refine v_iadd C.1.1 dL_law_2180 ?_
                                                                              refine v_chk (fun h45 => ?_)
                                                                              refine v_Lscr C h45 dL_law_2181 ?_
                                                                              refine v_callLM C [.int (xs (x4 + 1).toNatClampNeg), .int (xs (x4 + 2).toNatClampNeg)] [] (ct4_stay t g l (xs (x4 + 1).toNatClampNeg) (xs (x4 + 2).toNatClampNeg) v42.2) (cw4_stay C.1.1 q2228 (by decide)) rfl rfl (by exact Nat.le_of_ble_eq_true rfl) dL_law_2182 (fun r47 v46 => ?_)
                                                                              refine v_istore C.1.1 [(6, .int r47), (5, .int r43), (0, .ref b), (1, .ref x0), (2, .ref g.1), (3, .ref o0), (4, .int x4)] (by decide) rfl dL_law_2185 ?_
                                                                              refine v_aload_n C.1.1 4 rfl rfl dL_law_2187 ?_
                                                                              refine v_callLM C [] [] (ct4_thrown t g l v46.2) (cw4_thrown C.1.1 q1878 (by decide)) rfl rfl (by exact Nat.le_of_ble_eq_true rfl) dL_law_2188 (fun r49 v48 => ?_)
                                                                              refine v_iload C.1.1 1 rfl dL_law_2191 ?_
                                                                              refine v_icmp_eq C.1.1 2198 (by decide) dL_law_2193 (fun _ => ?_) (fun _ => ?_)
                                                                              · refine v_iload C.1.1 1 rfl dL_law_2198 ?_
                                                                                refine v_if_ne C.1.1 2215 (by decide) dL_law_2200 (fun _ => ?_) (fun _ => ?_)
                                                                                · refine v_aload_n C.1.1 5 rfl rfl dL_law_2203 ?_
                                                                                  refine v_iconst C.1.1 0 (by decide) dL_law_2204 ?_
                                                                                  refine v_chk (fun h50 => ?_)
                                                                                  refine v_Llald C h50 dL_law_2205 ?_
                                                                                  refine v_iload C.1.1 0 rfl dL_law_2206 ?_
                                                                                  refine v_i2l C.1.1 dL_law_2208 ?_
                                                                                  refine v_lcmp C.1.1 dL_law_2209 ?_
                                                                                  refine v_if_eq C.1.1 2215 (by decide) dL_law_2210 (fun _ => ?_) (fun _ => ?_)
                                                                                  · refine v_goto C.1.1 2323 (by decide) dL_law_2215 ?_
                                                                                    refine v_iinc C.1.1 6 [(4, .int (x4 + 6)), (6, .int r47), (5, .int r43), (0, .ref b), (1, .ref x0), (2, .ref g.1), (3, .ref o0)] 6 rfl (by decide) (by decide) rfl dL_law_2323 ?_
                                                                                    refine v_goto C.1.1 23 (by decide) dL_law_2326 ?_
                                                                                    refine v_sub [3, 4, 5, 6, 0] rfl ?_
                                                                                    exact hk (x4 + 6) v48
                                                                                  · refine v_iconst C.1.1 0 (by decide) dL_law_2213 ?_
                                                                                    exact v_lret C dL_law_2214
                                                                                · refine v_goto C.1.1 2323 (by decide) dL_law_2215 ?_
                                                                                  refine v_iinc C.1.1 6 [(4, .int (x4 + 6)), (6, .int r47), (5, .int r43), (0, .ref b), (1, .ref x0), (2, .ref g.1), (3, .ref o0)] 6 rfl (by decide) (by decide) rfl dL_law_2323 ?_
                                                                                  refine v_goto C.1.1 23 (by decide) dL_law_2326 ?_
                                                                                  refine v_sub [3, 4, 5, 6, 0] rfl ?_
                                                                                  exact hk (x4 + 6) v48
                                                                              · refine v_iconst C.1.1 0 (by decide) dL_law_2196 ?_
                                                                                exact v_lret C dL_law_2197
                                                                            · skip
                                                                              refine v_if (fun h40 => ?_) (fun h40 => ?_)
                                                                              · refine v_tableIn C.1.1 (2178) 2218 (by rw [h40]; decide) (by rw [h40]; decide) (by rw [h40]; rfl) (by decide) dL_law_40 ?_
                                                                                refine v_aload_n C.1.1 1 rfl rfl dL_law_2218 ?_
                                                                                refine v_chk (fun h43 => ?_)
                                                                                refine v_callLV C [] [] (ctX1_sought t G l hl0 x0 v.1) (fun _ _ => cwX1_sought C.1 q713 (by decide)) (ci := 0) (eq_of_beq h43) (by decide) rfl rfl rfl (by exact Nat.le_of_ble_eq_true rfl) dL_law_2219 (fun r42 v41 => ?_)
                                                                                refine v_aload_n C.1.1 2 rfl rfl dL_law_2222 ?_
                                                                                refine v_callLM C [] [.int r42] (ct4_sought t g l v41.2) (cw4_sought C.1.1 q2333 (by decide)) rfl rfl (by exact Nat.le_of_ble_eq_true rfl) dL_law_2223 (fun r45 v44 => ?_)
                                                                                refine v_icmp_eq C.1.1 2323 (by decide) dL_law_2226 (fun _ => ?_) (fun _ => ?_)
                                                                                · refine v_iinc C.1.1 6 [(4, .int (x4 + 6)), (0, .ref b), (1, .ref x0), (2, .ref g.1), (3, .ref o0)] 4 rfl (by decide) (by decide) rfl dL_law_2323 ?_
                                                                                  refine v_goto C.1.1 23 (by decide) dL_law_2326 ?_
                                                                                  refine v_sub [1, 2, 3, 4, 0] rfl ?_
                                                                                  exact hk (x4 + 6) v44
                                                                                · refine v_iconst C.1.1 0 (by decide) dL_law_2229 ?_
                                                                                  exact v_lret C dL_law_2230
                                                                              · skip
                                                                                refine v_if (fun h41 => ?_) (fun h41 => ?_)
                                                                                · refine v_tableIn C.1.1 (2191) 2231 (by rw [h41]; decide) (by rw [h41]; decide) (by rw [h41]; rfl) (by decide) dL_law_40 ?_
                                                                                  refine v_aload_n C.1.1 1 rfl rfl dL_law_2231 ?_
                                                                                  refine v_aload_n C.1.1 0 rfl rfl dL_law_2232 ?_
                                                                                  refine v_iload C.1.1 4 rfl dL_law_2233 ?_
                                                                                  refine v_iconst C.1.1 1 (by decide) dL_law_2235 ?_
                                                                                  refine v_iadd C.1.1 dL_law_2236 ?_
                                                                                  refine v_chk (fun h42 => ?_)
                                                                                  refine v_Lscr C h42 dL_law_2237 ?_
                                                                                  refine v_aload_n C.1.1 0 rfl rfl dL_law_2238 ?_
                                                                                  refine v_iload C.1.1 4 rfl dL_law_2239 ?_
                                                                                  refine v_iconst C.1.1 2 (by decide) dL_law_2241 ?_
                                                                                  refine v_iadd C.1.1 dL_law_2242 ?_
                                                                                  refine v_chk (fun h43 => ?_)
                                                                                  refine v_Lscr C h43 dL_law_2243 ?_
                                                                                  refine v_aload_n C.1.1 3 rfl rfl dL_law_2244 ?_
                                                                                  refine v_callLS C [.ref x0, .int (xs (x4 + 1).toNatClampNeg), .int (xs (x4 + 2).toNatClampNeg), .ref o0] [] (ctX0_steps t G l hl0 x0 (xs (x4 + 1).toNatClampNeg) (xs (x4 + 2).toNatClampNeg) o0 v.1) (fun _ _ => cwX0_steps C.1 q1602 (by decide)) rfl rfl (by exact Nat.le_of_ble_eq_true rfl) dL_law_2245 (fun r45 v44 => ?_)
                                                                                  refine v_istore C.1.1 [(5, .int r45), (0, .ref b), (1, .ref x0), (2, .ref g.1), (3, .ref o0), (4, .int x4)] (by decide) rfl dL_law_2248 ?_
                                                                                  refine v_aload_n C.1.1 3 rfl rfl dL_law_2250 ?_
                                                                                  refine v_aload_n C.1.1 1 rfl rfl dL_law_2251 ?_
                                                                                  refine v_iload C.1.1 5 rfl dL_law_2252 ?_
                                                                                  refine v_iconst C.1.1 1 (by decide) dL_law_2254 ?_
                                                                                  refine v_iadd C.1.1 dL_law_2255 ?_
                                                                                  refine v_chk (fun h46 => ?_)
                                                                                  refine v_Lscr C h46 dL_law_2256 ?_
                                                                                  refine v_aload_n C.1.1 1 rfl rfl dL_law_2257 ?_
                                                                                  refine v_iload C.1.1 5 rfl dL_law_2258 ?_
                                                                                  refine v_iconst C.1.1 2 (by decide) dL_law_2260 ?_
                                                                                  refine v_iadd C.1.1 dL_law_2261 ?_
                                                                                  refine v_chk (fun h47 => ?_)
                                                                                  refine v_Lscr C h47 dL_law_2262 ?_
                                                                                  refine v_callLM C [.int (xs (x4 + 1).toNatClampNeg), .int (xs (x4 + 2).toNatClampNeg)] [] (ct4_steps t g l (xs (x4 + 1).toNatClampNeg) (xs (x4 + 2).toNatClampNeg) v44.2) (cw4_steps C.1.1 q2337 (by decide)) rfl rfl (by exact Nat.le_of_ble_eq_true rfl) dL_law_2263 (fun r49 v48 => ?_)
                                                                                  refine v_istore C.1.1 [(6, .int r49), (5, .int r45), (0, .ref b), (1, .ref x0), (2, .ref g.1), (3, .ref o0), (4, .int x4)] (by decide) rfl dL_law_2266 ?_
                                                                                  refine v_aload_n C.1.1 4 rfl rfl dL_law_2268 ?_
                                                                                  refine v_callLM C [] [] (ct4_thrown t g l v48.2) (cw4_thrown C.1.1 q1878 (by decide)) rfl rfl (by exact Nat.le_of_ble_eq_true rfl) dL_law_2269 (fun r51 v50 => ?_)
                                                                                  refine v_iload C.1.1 1 rfl dL_law_2272 ?_
                                                                                  refine v_icmp_eq C.1.1 2279 (by decide) dL_law_2274 (fun _ => ?_) (fun _ => ?_)
                                                                                  · refine v_iload C.1.1 1 rfl dL_law_2279 ?_
                                                                                    refine v_if_ne C.1.1 2296 (by decide) dL_law_2281 (fun _ => ?_) (fun _ => ?_)
                                                                                    · refine v_aload_n C.1.1 5 rfl rfl dL_law_2284 ?_
                                                                                      refine v_iconst C.1.1 0 (by decide) dL_law_2285 ?_
                                                                                      refine v_chk (fun h52 => ?_)
                                                                                      refine v_Llald C h52 dL_law_2286 ?_
                                                                                      refine v_iload C.1.1 0 rfl dL_law_2287 ?_
                                                                                      refine v_i2l C.1.1 dL_law_2289 ?_
                                                                                      refine v_lcmp C.1.1 dL_law_2290 ?_
                                                                                      refine v_if_eq C.1.1 2296 (by decide) dL_law_2291 (fun _ => ?_) (fun _ => ?_)
                                                                                      · refine v_goto C.1.1 2323 (by decide) dL_law_2296 ?_
                                                                                        refine v_iinc C.1.1 6 [(4, .int (x4 + 6)), (6, .int r49), (5, .int r45), (0, .ref b), (1, .ref x0), (2, .ref g.1), (3, .ref o0)] 6 rfl (by decide) (by decide) rfl dL_law_2323 ?_
                                                                                        refine v_goto C.1.1 23 (by decide) dL_law_2326 ?_
                                                                                        refine v_sub [3, 4, 5, 6, 0] rfl ?_
                                                                                        exact hk (x4 + 6) v50
                                                                                      · refine v_iconst C.1.1 0 (by decide) dL_law_2294 ?_
                                                                                        exact v_lret C dL_law_2295
                                                                                    · refine v_goto C.1.1 2323 (by decide) dL_law_2296 ?_
                                                                                      refine v_iinc C.1.1 6 [(4, .int (x4 + 6)), (6, .int r49), (5, .int r45), (0, .ref b), (1, .ref x0), (2, .ref g.1), (3, .ref o0)] 6 rfl (by decide) (by decide) rfl dL_law_2323 ?_
                                                                                      refine v_goto C.1.1 23 (by decide) dL_law_2326 ?_
                                                                                      refine v_sub [3, 4, 5, 6, 0] rfl ?_
                                                                                      exact hk (x4 + 6) v50
                                                                                  · refine v_iconst C.1.1 0 (by decide) dL_law_2277 ?_
                                                                                    exact v_lret C dL_law_2278
                                                                                · skip
                                                                                  refine v_if (fun h42 => ?_) (fun h42 => ?_)
                                                                                  · refine v_tableIn C.1.1 (2259) 2299 (by rw [h42]; decide) (by rw [h42]; decide) (by rw [h42]; rfl) (by decide) dL_law_40 ?_
                                                                                    refine v_aload_n C.1.1 1 rfl rfl dL_law_2299 ?_
                                                                                    refine v_chk (fun h44 => ?_)
                                                                                    refine v_callLV C [] [] (ctX1_image t G l hl0 x0 v.1) (fun _ _ => cwX1_image C.1 q719 (by decide)) (ci := 0) (eq_of_beq h44) (by decide) rfl rfl rfl (by exact Nat.le_of_ble_eq_true rfl) dL_law_2300 (fun _ v43 => ?_)
                                                                                    refine v_aload_n C.1.1 2 rfl rfl dL_law_2303 ?_
                                                                                    refine v_callLM C [] [] (ct4_image t g l v43.2) (cw4_image C.1.1 q2341 (by decide)) rfl rfl (by exact Nat.le_of_ble_eq_true rfl) dL_law_2304 (fun _ v45 => ?_)
                                                                                    refine v_goto C.1.1 2323 (by decide) dL_law_2307 ?_
                                                                                    refine v_iinc C.1.1 6 [(4, .int (x4 + 6)), (0, .ref b), (1, .ref x0), (2, .ref g.1), (3, .ref o0)] 4 rfl (by decide) (by decide) rfl dL_law_2323 ?_
                                                                                    refine v_goto C.1.1 23 (by decide) dL_law_2326 ?_
                                                                                    refine v_sub [1, 2, 3, 4, 0] rfl ?_
                                                                                    exact hk (x4 + 6) v45
                                                                                  · skip
                                                                                    refine v_if (fun h43 => ?_) (fun h43 => ?_)
                                                                                    · refine v_tableIn C.1.1 (2270) 2310 (by rw [h43]; decide) (by rw [h43]; decide) (by rw [h43]; rfl) (by decide) dL_law_40 ?_
                                                                                      refine v_aload_n C.1.1 1 rfl rfl dL_law_2310 ?_
                                                                                      refine v_chk (fun h46 => ?_)
                                                                                      refine v_callLV C [] [] (ctX1_restore t G l hl0 x0 v.1) (fun _ _ => cwX1_restore C.1 q747 (by decide)) (ci := 0) (eq_of_beq h46) (by decide) rfl rfl rfl (by exact Nat.le_of_ble_eq_true rfl) dL_law_2311 (fun r45 v44 => ?_)
                                                                                      refine v_aload_n C.1.1 2 rfl rfl dL_law_2314 ?_
                                                                                      refine v_callLM C [] [.int r45] (ct4_restore t g l v44.2) (cw4_restore C.1.1 q2345 (by decide)) rfl rfl (by exact Nat.le_of_ble_eq_true rfl) dL_law_2315 (fun r48 v47 => ?_)
                                                                                      refine v_icmp_eq C.1.1 2323 (by decide) dL_law_2318 (fun _ => ?_) (fun _ => ?_)
                                                                                      · refine v_iinc C.1.1 6 [(4, .int (x4 + 6)), (0, .ref b), (1, .ref x0), (2, .ref g.1), (3, .ref o0)] 4 rfl (by decide) (by decide) rfl dL_law_2323 ?_
                                                                                        refine v_goto C.1.1 23 (by decide) dL_law_2326 ?_
                                                                                        refine v_sub [1, 2, 3, 4, 0] rfl ?_
                                                                                        exact hk (x4 + 6) v47
                                                                                      · refine v_iconst C.1.1 0 (by decide) dL_law_2321 ?_
                                                                                        exact v_lret C dL_law_2322
                                                                                    · skip
                                                                                      refine v_tableOut C.1.1 2323 (by have := lv_neT (a := 0) h3 (by decide); have := lv_neT (a := 1) h4 (by decide); have := lv_neT (a := 2) h5 (by decide); have := lv_neT (a := 3) h6 (by decide); have := lv_neT (a := 4) h7 (by decide); have := lv_neT (a := 5) h8 (by decide); have := lv_neT (a := 6) h9 (by decide); have := lv_neT (a := 7) h10 (by decide); have := lv_neT (a := 8) h11 (by decide); have := lv_neT (a := 9) h12 (by decide); have := lv_neT (a := 10) h13 (by decide); have := lv_neT (a := 11) h14 (by decide); have := lv_neT (a := 12) h15 (by decide); have := lv_neT (a := 13) h16 (by decide); have := lv_neT (a := 14) h17 (by decide); have := lv_neT (a := 15) h18 (by decide); have := lv_neT (a := 16) h19 (by decide); have := lv_neT (a := 17) h20 (by decide); have := lv_neT (a := 18) h21 (by decide); have := lv_neT (a := 19) h22 (by decide); have := lv_neT (a := 20) h23 (by decide); have := lv_neT (a := 21) h24 (by decide); have := lv_neT (a := 22) h25 (by decide); have := lv_neT (a := 23) h26 (by decide); have := lv_neT (a := 24) h27 (by decide); have := lv_neT (a := 25) h28 (by decide); have := lv_neT (a := 26) h29 (by decide); have := lv_neT (a := 27) h30 (by decide); have := lv_neT (a := 28) h31 (by decide); have := lv_neT (a := 29) h32 (by decide); have := lv_neT (a := 30) h33 (by decide); have := lv_neT (a := 31) h34 (by decide); have := lv_neT (a := 32) h35 (by decide); have := lv_neT (a := 33) h36 (by decide); have := lv_neT (a := 34) h37 (by decide); have := lv_neT (a := 35) h38 (by decide); have := lv_neT (a := 36) h39 (by decide); have := lv_neT (a := 37) h40 (by decide); have := lv_neT (a := 38) h41 (by decide); have := lv_neT (a := 39) h42 (by decide); have := lv_neT (a := 40) h43 (by decide); omega) (by decide) dL_law_40 ?_
                                                                                      refine v_iinc C.1.1 6 [(4, .int (x4 + 6)), (0, .ref b), (1, .ref x0), (2, .ref g.1), (3, .ref o0)] 4 rfl (by decide) (by decide) rfl dL_law_2323 ?_
                                                                                      refine v_goto C.1.1 23 (by decide) dL_law_2326 ?_
                                                                                      refine v_sub [1, 2, 3, 4, 0] rfl ?_
                                                                                      exact hk (x4 + 6) v
def hL_start (x0 o0 n0 : Nat) (xs : Nat → Int32) (v : LST) : Option OL :=
  ml1 (hL_23 x0 o0 n0 xs) FUEL 0 v
theorem whL_start {t : TT} {G : GH} {g : GM} {l : Launch} {p : Program} {e : Env} {s : State} {m : MethodId} {b : Nat} {below : List Frame} {meth : Method} {c : Code} {x0 o0 n0 : Nat} {xs : Nat → Int32} (hl0 : l.stackTraces = false) (C : CxL t G g l p s m b meth c n0 xs) (v : LST) : VL t G g p l e s m b below meth c 20 [(3, .ref o0), (2, .ref g.1), (1, .ref x0), (0, .ref b)] [] v (hL_start x0 o0 n0 xs v) := by
  unfold hL_start
  refine v_iconst C.1.1 0 (by decide) dL_law_20 ?_
  refine v_istore C.1.1 [(4, .int 0), (3, .ref o0), (2, .ref g.1), (1, .ref x0), (0, .ref b)] (by decide) rfl dL_law_21 ?_
  refine v_sub [4, 3, 2, 1, 0] rfl ?_
  exact whL_23 hl0 C FUEL 0 v
