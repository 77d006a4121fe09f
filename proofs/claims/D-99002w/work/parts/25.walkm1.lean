/-! walks of WhiteBoardModel, printed by tools/gen.py -/
set_option maxRecDepth 100000
section
variable {t : TT} {g : GM} {l : Launch}
abbrev LV_thrown : Nat := 0
def f4_thrown (u : MS) : Option (Int32 × MS) :=
  some ((u.1 0), u)
theorem ct4_thrown (t : TT) (g : GM) (l : Launch) (u : MS) : CtM mkI t g l yX4_thrown cX4_thrown 1 (some .int) LV_thrown [.ref g.1] u (f4_thrown u) := by
  refine ctM_of [(0, .ref g.1)] rfl (Nat.le_of_ble_eq_true rfl) rfl (fun p e s m args below meth c C => ?_)
  unfold f4_thrown
  refine v_aload_n C 0 rfl rfl dX4_thrown_0 ?_
  refine v_getMi C 0 (by decide) (by decide) q1615 rfl dX4_thrown_1 ?_
  exact v_iretM C dX4_thrown_4
theorem cw4_thrown {t : TT} {p : Program} {s : State} {m : MethodId} {args : Array Value} {meth : Method} {c : Code} {y0 : MethodName} {cc0 : ByteArray} {nL0 : Nat} {ret0 : Option FieldType} (C : Cx t p s m args meth c y0 cc0 nL0 ret0) {index lv : Nat} (hq : Cond.methodLink y0.cls index yX4_thrown ∈ lw_all) (hR : LV_thrown + 1 ≤ lv) : CallW (rmM lv) s args y0.cls RX4 index yX4_thrown cX4_thrown 1 (some .int) (ws_ yX4_thrown cX4_thrown 1 (some .int)) (rmM LV_thrown) 0 0 0 :=
  cwV 0 C.2.2.2.2.1 (lw_V hq q1879 q1880 q127 q1881) rfl rfl rfl (by decide +kernel) ⟨hR, by show 8 + (1 + 11) + 100 * LV_thrown ≤ 100 * lv; omega⟩
abbrev LV_lays : Nat := 0
def f4_lays_3 (p1 : Int32) (k : Int32 → MS → Option (Unit × MS)) (x2 : Int32) (u : MS) : Option (Unit × MS) :=
  if x2 < 0 then
    some ((), u)
  else
    mchk (inbM (u.1 19) 18) <|
    mlet (mA u 18 (u.1 19).toNatClampNeg ((p1 >>> (x2 &&& 31)) &&& 255)) fun u2 =>
    mlet (mS u2 19 ((u2.1 19) + 1)) fun u3 =>
    k (x2 + (-8)) u3
theorem w4_lays_3 {p : Program} {e : Env} {s : State} {m : MethodId} {args : Array Value} {below : List Frame} {meth : Method} {c : Code} (C : Cx t p s m args meth c yX4_lays cX4_lays 3 none) (p1 : Int32) (n : Nat) (x2 : Int32) (u : MS) : VM mkU t g p l e LV_lays s m args below meth c 3 3 [(0, .ref g.1), (1, .int p1), (2, .int x2)] [] u (ml1 (f4_lays_3 p1) n x2 u) := by
  refine vl1 (L := fun x2 => [(0, .ref g.1), (1, .int p1), (2, .int x2)]) (fun k hk x2 u => ?_) n x2 u
  unfold f4_lays_3
  refine v_iload_n C 2 rfl rfl dX4_lays_3 ?_
  refine v_if_lt C 39 (by decide) dX4_lays_4 (fun _ => ?_) (fun _ => ?_)
  · exact v_vretM C dX4_lays_39
  · refine v_aload_n C 0 rfl rfl dX4_lays_7 ?_
    refine v_getMa C 18 (by decide) (by decide) q1633 rfl dX4_lays_8 ?_
    refine v_aload_n C 0 rfl rfl dX4_lays_11 ?_
    refine v_getMi C 19 (by decide) (by decide) q1634 rfl dX4_lays_12 ?_
    refine v_iload_n C 1 rfl rfl dX4_lays_15 ?_
    refine v_iload_n C 2 rfl rfl dX4_lays_16 ?_
    refine v_ishr C dX4_lays_17 ?_
    refine v_sipush C 255 (by decide) dX4_lays_18 ?_
    refine v_iand C dX4_lays_21 ?_
    refine v_chk (fun h1 => ?_)
    refine v_iastM C h1 dX4_lays_22 (fun u2 => ?_)
    refine v_aload_n C 0 rfl rfl dX4_lays_23 ?_
    refine v_dup C rfl dX4_lays_24 ?_
    refine v_getMi C 19 (by decide) (by decide) q1634 rfl dX4_lays_25 ?_
    refine v_iconst C 1 (by decide) dX4_lays_28 ?_
    refine v_iadd C dX4_lays_29 ?_
    refine v_putMi C 19 (by decide) (by decide) q1634 rfl rfl (by decide +kernel) dX4_lays_30 (fun u3 => ?_)
    refine v_iinc C (-8) [(2, .int (x2 + (-8))), (0, .ref g.1), (1, .int p1)] 2 rfl (by decide) (by decide) rfl dX4_lays_33 ?_
    refine v_goto C 3 (by decide) dX4_lays_36 ?_
    refine v_sub [1, 2, 0] rfl ?_
    exact hk (x2 + (-8)) u3
def f4_lays (p1 : Int32) (u : MS) : Option (Unit × MS) :=
  ml1 (f4_lays_3 p1) FUEL 24 u
theorem ct4_lays (t : TT) (g : GM) (l : Launch) (p1 : Int32) (u : MS) : CtM mkU t g l yX4_lays cX4_lays 3 none LV_lays [.ref g.1, .int p1] u (f4_lays p1 u) := by
  refine ctM_of [(0, .ref g.1), (1, .int p1)] rfl (Nat.le_of_ble_eq_true rfl) rfl (fun p e s m args below meth c C => ?_)
  unfold f4_lays
  refine v_bipush C 24 (by decide) dX4_lays_0 ?_
  refine v_istore_n C [(2, .int 24), (0, .ref g.1), (1, .int p1)] rfl (by decide) rfl dX4_lays_2 ?_
  refine v_sub [1, 2, 0] rfl ?_
  exact w4_lays_3 C p1 FUEL 24 u
theorem cw4_lays {t : TT} {p : Program} {s : State} {m : MethodId} {args : Array Value} {meth : Method} {c : Code} {y0 : MethodName} {cc0 : ByteArray} {nL0 : Nat} {ret0 : Option FieldType} (C : Cx t p s m args meth c y0 cc0 nL0 ret0) {index lv : Nat} (hq : Cond.methodLink y0.cls index yX4_lays ∈ lw_all) (hR : LV_lays + 1 ≤ lv) : CallW (rmM lv) s args y0.cls RX4 index yX4_lays cX4_lays 3 none (ws_ yX4_lays cX4_lays 3 none) (rmM LV_lays) 0 0 1 :=
  cwV 1 C.2.2.2.2.1 (lw_V hq q1888 qs53 q127 q1889) rfl rfl rfl (by decide +kernel) ⟨hR, by show 8 + (3 + 11) + 100 * LV_lays ≤ 100 * lv; omega⟩
abbrev LV_feed : Nat := 1
def f4_feed (p1 : Int32) (p2 : Int32) (p3 : Int32) (p4 : Int32) (p5 : Int32) (u : MS) : Option (Int32 × MS) :=
  mlet (mS u 0 0) fun u1 =>
  if ((u1.1 19) + 20) ≤ 700 then
    mb (f4_lays p1 u1) fun _ u2 =>
    mb (f4_lays p2 u2) fun _ u3 =>
    mb (f4_lays p3 u3) fun _ u4 =>
    mb (f4_lays p4 u4) fun _ u5 =>
    mb (f4_lays p5 u5) fun _ u6 =>
    some ((u6.1 19), u6)
  else
    some (-1, u1)
theorem ct4_feed (t : TT) (g : GM) (l : Launch) (p1 : Int32) (p2 : Int32) (p3 : Int32) (p4 : Int32) (p5 : Int32) (u : MS) : CtM mkI t g l yX4_feed cX4_feed 6 (some .int) LV_feed [.ref g.1, .int p1, .int p2, .int p3, .int p4, .int p5] u (f4_feed p1 p2 p3 p4 p5 u) := by
  refine ctM_of [(0, .ref g.1), (1, .int p1), (2, .int p2), (3, .int p3), (4, .int p4), (5, .int p5)] rfl (Nat.le_of_ble_eq_true rfl) rfl (fun p e s m args below meth c C => ?_)
  unfold f4_feed
  refine v_aload_n C 0 rfl rfl dX4_feed_0 ?_
  refine v_iconst C 0 (by decide) dX4_feed_1 ?_
  refine v_putMi C 0 (by decide) (by decide) q1615 rfl rfl (by decide +kernel) dX4_feed_2 (fun u1 => ?_)
  refine v_aload_n C 0 rfl rfl dX4_feed_5 ?_
  refine v_getMi C 19 (by decide) (by decide) q1634 rfl dX4_feed_6 ?_
  refine v_bipush C 20 (by decide) dX4_feed_9 ?_
  refine v_iadd C dX4_feed_11 ?_
  refine v_sipush C 700 (by decide) dX4_feed_12 ?_
  refine v_icmp_le C 20 (by decide) dX4_feed_15 (fun _ => ?_) (fun _ => ?_)
  · refine v_aload_n C 0 rfl rfl dX4_feed_20 ?_
    refine v_iload_n C 1 rfl rfl dX4_feed_21 ?_
    refine v_callVM C [.int p1] [] (ct4_lays t g l p1 u1) (cw4_lays C q1886 (by decide)) rfl rfl (Nat.le_of_ble_eq_true rfl) dX4_feed_22 (fun _ u2 => ?_)
    refine v_aload_n C 0 rfl rfl dX4_feed_25 ?_
    refine v_iload_n C 2 rfl rfl dX4_feed_26 ?_
    refine v_callVM C [.int p2] [] (ct4_lays t g l p2 u2) (cw4_lays C q1886 (by decide)) rfl rfl (Nat.le_of_ble_eq_true rfl) dX4_feed_27 (fun _ u3 => ?_)
    refine v_aload_n C 0 rfl rfl dX4_feed_30 ?_
    refine v_iload_n C 3 rfl rfl dX4_feed_31 ?_
    refine v_callVM C [.int p3] [] (ct4_lays t g l p3 u3) (cw4_lays C q1886 (by decide)) rfl rfl (Nat.le_of_ble_eq_true rfl) dX4_feed_32 (fun _ u4 => ?_)
    refine v_aload_n C 0 rfl rfl dX4_feed_35 ?_
    refine v_iload C 4 rfl dX4_feed_36 ?_
    refine v_callVM C [.int p4] [] (ct4_lays t g l p4 u4) (cw4_lays C q1886 (by decide)) rfl rfl (Nat.le_of_ble_eq_true rfl) dX4_feed_38 (fun _ u5 => ?_)
    refine v_aload_n C 0 rfl rfl dX4_feed_41 ?_
    refine v_iload C 5 rfl dX4_feed_42 ?_
    refine v_callVM C [.int p5] [] (ct4_lays t g l p5 u5) (cw4_lays C q1886 (by decide)) rfl rfl (Nat.le_of_ble_eq_true rfl) dX4_feed_44 (fun _ u6 => ?_)
    refine v_aload_n C 0 rfl rfl dX4_feed_47 ?_
    refine v_getMi C 19 (by decide) (by decide) q1634 rfl dX4_feed_48 ?_
    exact v_iretM C dX4_feed_51
  · refine v_iconst C (-1) (by decide) dX4_feed_18 ?_
    exact v_iretM C dX4_feed_19
theorem cw4_feed {t : TT} {p : Program} {s : State} {m : MethodId} {args : Array Value} {meth : Method} {c : Code} {y0 : MethodName} {cc0 : ByteArray} {nL0 : Nat} {ret0 : Option FieldType} (C : Cx t p s m args meth c y0 cc0 nL0 ret0) {index lv : Nat} (hq : Cond.methodLink y0.cls index yX4_feed ∈ lw_all) (hR : LV_feed + 1 ≤ lv) : CallW (rmM lv) s args y0.cls RX4 index yX4_feed cX4_feed 6 (some .int) (ws_ yX4_feed cX4_feed 6 (some .int)) (rmM LV_feed) 0 0 5 :=
  cwV 5 C.2.2.2.2.1 (lw_V hq q1883 q1884 q127 q1885) rfl rfl rfl (by decide +kernel) ⟨hR, by show 8 + (6 + 11) + 100 * LV_feed ≤ 100 * lv; omega⟩
abbrev LV_right : Nat := 0
def f4_right_16 (p1 : Int32) (p2 : Int32) (u : MS) : Option (Int32 × MS) :=
  if (u.1 0) = 0 then
    rz 1 u
  else
    rz 0 u
theorem w4_right_16 {p : Program} {e : Env} {s : State} {m : MethodId} {args : Array Value} {below : List Frame} {meth : Method} {c : Code} (C : Cx t p s m args meth c yX4_right cX4_right 3 (some .boolean)) (p1 : Int32) (p2 : Int32) (u : MS) : VM mkI t g p l e LV_right s m args below meth c 3 16 [(0, .ref g.1)] [] u (f4_right_16 p1 p2 u) := by
  unfold f4_right_16
  refine v_aload_n C 0 rfl rfl dX4_right_16 ?_
  refine v_getMi C 0 (by decide) (by decide) q1615 rfl dX4_right_17 ?_
  refine v_if_ne C 27 (by decide) dX4_right_20 (fun _ => ?_) (fun _ => ?_)
  · refine v_iconst C 1 (by decide) dX4_right_23 ?_
    refine v_goto C 28 (by decide) dX4_right_24 ?_
    exact v_zretM C dX4_right_28
  · refine v_iconst C 0 (by decide) dX4_right_27 ?_
    exact v_zretM C dX4_right_28
def f4_right (p1 : Int32) (p2 : Int32) (u : MS) : Option (Int32 × MS) :=
  if (u.1 0) = 0 then
    if p1 = 0 then
      mlet (mS u 0 p2) fun u1 =>
      f4_right_16 p1 p2 u1
    else
      f4_right_16 p1 p2 u
  else
    f4_right_16 p1 p2 u
theorem ct4_right (t : TT) (g : GM) (l : Launch) (p1 : Int32) (p2 : Int32) (u : MS) : CtM mkI t g l yX4_right cX4_right 3 (some .boolean) LV_right [.ref g.1, .int p1, .int p2] u (f4_right p1 p2 u) := by
  refine ctM_of [(0, .ref g.1), (1, .int p1), (2, .int p2)] rfl (Nat.le_of_ble_eq_true rfl) rfl (fun p e s m args below meth c C => ?_)
  unfold f4_right
  refine v_aload_n C 0 rfl rfl dX4_right_0 ?_
  refine v_getMi C 0 (by decide) (by decide) q1615 rfl dX4_right_1 ?_
  refine v_if_ne C 16 (by decide) dX4_right_4 (fun _ => ?_) (fun _ => ?_)
  · refine v_iload_n C 1 rfl rfl dX4_right_7 ?_
    refine v_if_ne C 16 (by decide) dX4_right_8 (fun _ => ?_) (fun _ => ?_)
    · refine v_aload_n C 0 rfl rfl dX4_right_11 ?_
      refine v_iload_n C 2 rfl rfl dX4_right_12 ?_
      refine v_putMi C 0 (by decide) (by decide) q1615 rfl rfl (by decide +kernel) dX4_right_13 (fun u1 => ?_)
      refine v_sub [0] rfl ?_
      exact w4_right_16 C p1 p2 u1
    · refine v_sub [0] rfl ?_
      exact w4_right_16 C p1 p2 u
  · refine v_sub [0] rfl ?_
    exact w4_right_16 C p1 p2 u
theorem cw4_right {t : TT} {p : Program} {s : State} {m : MethodId} {args : Array Value} {meth : Method} {c : Code} {y0 : MethodName} {cc0 : ByteArray} {nL0 : Nat} {ret0 : Option FieldType} (C : Cx t p s m args meth c y0 cc0 nL0 ret0) {index lv : Nat} (hq : Cond.methodLink y0.cls index yX4_right ∈ lw_all) (hR : LV_right + 1 ≤ lv) : CallW (rmM lv) s args y0.cls RX4 index yX4_right cX4_right 3 (some .boolean) (ws_ yX4_right cX4_right 3 (some .boolean)) (rmM LV_right) 0 0 2 :=
  cwV 2 C.2.2.2.2.1 (lw_V hq q1896 qs54 q127 q1897) rfl rfl rfl (by decide +kernel) ⟨hR, by show 8 + (3 + 11) + 100 * LV_right ≤ 100 * lv; omega⟩
abbrev LV_byteAt : Nat := 0
def f4_byteAt (p1 : Int32) (u : MS) : Option (Int32 × MS) :=
  if (u.1 23) ≤ p1 then
    some (0, u)
  else
    mchk (inbM p1 18) <|
    some ((u.2.1 18 p1.toNatClampNeg), u)
theorem ct4_byteAt (t : TT) (g : GM) (l : Launch) (p1 : Int32) (u : MS) : CtM mkI t g l yX4_byteAt cX4_byteAt 2 (some .int) LV_byteAt [.ref g.1, .int p1] u (f4_byteAt p1 u) := by
  refine ctM_of [(0, .ref g.1), (1, .int p1)] rfl (Nat.le_of_ble_eq_true rfl) rfl (fun p e s m args below meth c C => ?_)
  unfold f4_byteAt
  refine v_iload_n C 1 rfl rfl dX4_byteAt_0 ?_
  refine v_aload_n C 0 rfl rfl dX4_byteAt_1 ?_
  refine v_getMi C 23 (by decide) (by decide) q1638 rfl dX4_byteAt_2 ?_
  refine v_icmp_ge C 17 (by decide) dX4_byteAt_5 (fun _ => ?_) (fun _ => ?_)
  · refine v_iconst C 0 (by decide) dX4_byteAt_17 ?_
    exact v_iretM C dX4_byteAt_18
  · refine v_aload_n C 0 rfl rfl dX4_byteAt_8 ?_
    refine v_getMa C 18 (by decide) (by decide) q1633 rfl dX4_byteAt_9 ?_
    refine v_iload_n C 1 rfl rfl dX4_byteAt_12 ?_
    refine v_chk (fun h1 => ?_)
    refine v_ialdM C h1 dX4_byteAt_13 ?_
    refine v_goto C 18 (by decide) dX4_byteAt_14 ?_
    exact v_iretM C dX4_byteAt_18
theorem cw4_byteAt {t : TT} {p : Program} {s : State} {m : MethodId} {args : Array Value} {meth : Method} {c : Code} {y0 : MethodName} {cc0 : ByteArray} {nL0 : Nat} {ret0 : Option FieldType} (C : Cx t p s m args meth c y0 cc0 nL0 ret0) {index lv : Nat} (hq : Cond.methodLink y0.cls index yX4_byteAt ∈ lw_all) (hR : LV_byteAt + 1 ≤ lv) : CallW (rmM lv) s args y0.cls RX4 index yX4_byteAt cX4_byteAt 2 (some .int) (ws_ yX4_byteAt cX4_byteAt 2 (some .int)) (rmM LV_byteAt) 0 0 1 :=
  cwV 1 C.2.2.2.2.1 (lw_V hq q1904 qs56 q127 q1905) rfl rfl rfl (by decide +kernel) ⟨hR, by show 8 + (2 + 11) + 100 * LV_byteAt ≤ 100 * lv; omega⟩
abbrev LV_isLetter : Nat := 0
def f4_isLetter (p0 : Int32) (u : MS) : Option (Int32 × MS) :=
  if p0 < 97 then
    rz 0 u
  else
    if 122 < p0 then
      rz 0 u
    else
      rz 1 u
theorem ct4_isLetter (t : TT) (g : GM) (l : Launch) (p0 : Int32) (u : MS) : CtM mkI t g l yX4_isLetter cX4_isLetter 1 (some .boolean) LV_isLetter [.int p0] u (f4_isLetter p0 u) := by
  refine ctM_of [(0, .int p0)] rfl (Nat.le_of_ble_eq_true rfl) rfl (fun p e s m args below meth c C => ?_)
  unfold f4_isLetter
  refine v_iload_n C 0 rfl rfl dX4_isLetter_0 ?_
  refine v_bipush C 97 (by decide) dX4_isLetter_1 ?_
  refine v_icmp_lt C 16 (by decide) dX4_isLetter_3 (fun _ => ?_) (fun _ => ?_)
  · refine v_iconst C 0 (by decide) dX4_isLetter_16 ?_
    exact v_zretM C dX4_isLetter_17
  · refine v_iload_n C 0 rfl rfl dX4_isLetter_6 ?_
    refine v_bipush C 122 (by decide) dX4_isLetter_7 ?_
    refine v_icmp_gt C 16 (by decide) dX4_isLetter_9 (fun _ => ?_) (fun _ => ?_)
    · refine v_iconst C 0 (by decide) dX4_isLetter_16 ?_
      exact v_zretM C dX4_isLetter_17
    · refine v_iconst C 1 (by decide) dX4_isLetter_12 ?_
      refine v_goto C 17 (by decide) dX4_isLetter_13 ?_
      exact v_zretM C dX4_isLetter_17
theorem cw4_isLetter {t : TT} {p : Program} {s : State} {m : MethodId} {args : Array Value} {meth : Method} {c : Code} {y0 : MethodName} {cc0 : ByteArray} {nL0 : Nat} {ret0 : Option FieldType} (C : Cx t p s m args meth c y0 cc0 nL0 ret0) {index lv : Nat} (hq : Cond.methodLink y0.cls index yX4_isLetter ∈ lw_all) (hR : LV_isLetter + 1 ≤ lv) : CallB (rmM lv) s args y0.cls index yX4_isLetter cX4_isLetter 1 (some .boolean) (ws_ yX4_isLetter cX4_isLetter 1 (some .boolean)) (rmM LV_isLetter) 0 0 1 ∧ (Cond.static yX4_isLetter).before args s = true :=
  ⟨callB_of 1 C.2.2.2.2.1 (lw_meth q1908) rfl rfl rfl (C.2.2.2.2.1 _ q127) (C.2.2.2.2.1 _ hq) (by decide +kernel) ⟨hR, by show 8 + (1 + 11) + 100 * LV_isLetter ≤ 100 * lv; omega⟩, C.2.2.2.2.1 _ q1907⟩
abbrev LV_isDigit : Nat := 0
def f4_isDigit (p0 : Int32) (u : MS) : Option (Int32 × MS) :=
  if p0 < 48 then
    rz 0 u
  else
    if 57 < p0 then
      rz 0 u
    else
      rz 1 u
theorem ct4_isDigit (t : TT) (g : GM) (l : Launch) (p0 : Int32) (u : MS) : CtM mkI t g l yX4_isDigit cX4_isDigit 1 (some .boolean) LV_isDigit [.int p0] u (f4_isDigit p0 u) := by
  refine ctM_of [(0, .int p0)] rfl (Nat.le_of_ble_eq_true rfl) rfl (fun p e s m args below meth c C => ?_)
  unfold f4_isDigit
  refine v_iload_n C 0 rfl rfl dX4_isDigit_0 ?_
  refine v_bipush C 48 (by decide) dX4_isDigit_1 ?_
  refine v_icmp_lt C 16 (by decide) dX4_isDigit_3 (fun _ => ?_) (fun _ => ?_)
  · refine v_iconst C 0 (by decide) dX4_isDigit_16 ?_
    exact v_zretM C dX4_isDigit_17
  · refine v_iload_n C 0 rfl rfl dX4_isDigit_6 ?_
    refine v_bipush C 57 (by decide) dX4_isDigit_7 ?_
    refine v_icmp_gt C 16 (by decide) dX4_isDigit_9 (fun _ => ?_) (fun _ => ?_)
    · refine v_iconst C 0 (by decide) dX4_isDigit_16 ?_
      exact v_zretM C dX4_isDigit_17
    · refine v_iconst C 1 (by decide) dX4_isDigit_12 ?_
      refine v_goto C 17 (by decide) dX4_isDigit_13 ?_
      exact v_zretM C dX4_isDigit_17
theorem cw4_isDigit {t : TT} {p : Program} {s : State} {m : MethodId} {args : Array Value} {meth : Method} {c : Code} {y0 : MethodName} {cc0 : ByteArray} {nL0 : Nat} {ret0 : Option FieldType} (C : Cx t p s m args meth c y0 cc0 nL0 ret0) {index lv : Nat} (hq : Cond.methodLink y0.cls index yX4_isDigit ∈ lw_all) (hR : LV_isDigit + 1 ≤ lv) : CallB (rmM lv) s args y0.cls index yX4_isDigit cX4_isDigit 1 (some .boolean) (ws_ yX4_isDigit cX4_isDigit 1 (some .boolean)) (rmM LV_isDigit) 0 0 1 ∧ (Cond.static yX4_isDigit).before args s = true :=
  ⟨callB_of 1 C.2.2.2.2.1 (lw_meth q1911) rfl rfl rfl (C.2.2.2.2.1 _ q127) (C.2.2.2.2.1 _ hq) (by decide +kernel) ⟨hR, by show 8 + (1 + 11) + 100 * LV_isDigit ≤ 100 * lv; omega⟩, C.2.2.2.2.1 _ q1910⟩
abbrev LV_goes : Nat := 1
def f4_goes_323 (u : MS) : Option (Unit × MS) :=
  mlet (mS u 25 3) fun u1 =>
  mlet (mS u1 27 ((u1.1 24) - (u1.1 26))) fun u2 =>
  some ((), u2)
theorem w4_goes_323 {p : Program} {e : Env} {s : State} {m : MethodId} {args : Array Value} {below : List Frame} {meth : Method} {c : Code} (C : Cx t p s m args meth c yX4_goes cX4_goes 2 none) (u : MS) : VM mkU t g p l e LV_goes s m args below meth c 2 323 [(0, .ref g.1)] [.ref g.1] u (f4_goes_323 u) := by
  unfold f4_goes_323
  refine v_iconst C 3 (by decide) dX4_goes_323 ?_
  refine v_goto C 328 (by decide) dX4_goes_324 ?_
  refine v_putMi C 25 (by decide) (by decide) q1640 rfl rfl (by decide +kernel) dX4_goes_328 (fun u1 => ?_)
  refine v_aload_n C 0 rfl rfl dX4_goes_331 ?_
  refine v_aload_n C 0 rfl rfl dX4_goes_332 ?_
  refine v_getMi C 24 (by decide) (by decide) q1639 rfl dX4_goes_333 ?_
  refine v_aload_n C 0 rfl rfl dX4_goes_336 ?_
  refine v_getMi C 26 (by decide) (by decide) q1641 rfl dX4_goes_337 ?_
  refine v_isub C dX4_goes_340 ?_
  refine v_putMi C 27 (by decide) (by decide) q1642 rfl rfl (by decide +kernel) dX4_goes_341 (fun u2 => ?_)
  exact v_vretM C dX4_goes_344
def f4_goes_187 (k : MS → Option (Unit × MS)) (u : MS) : Option (Unit × MS) :=
  mb (f4_byteAt (u.1 24) u) fun r2 u1 =>
  mb (f4_isDigit r2 u1) fun r4 u3 =>
  if r4 = 0 then
    mlet (mS u3 25 2) fun u5 =>
    mlet (mS u5 27 ((u5.1 24) - (u5.1 26))) fun u6 =>
    some ((), u6)
  else
    if 4 ≤ ((u3.1 24) - (u3.1 26)) then
      mlet (mS u3 24 ((u3.1 24) + 1)) fun u5 =>
      k u5
    else
      mb (f4_byteAt (u3.1 24) u3) fun r6 u5 =>
      mlet (mS u5 28 (((10 * (u3.1 28)) + r6) - 48)) fun u7 =>
      mlet (mS u7 24 ((u7.1 24) + 1)) fun u8 =>
      k u8
theorem w4_goes_187 {p : Program} {e : Env} {s : State} {m : MethodId} {args : Array Value} {below : List Frame} {meth : Method} {c : Code} (C : Cx t p s m args meth c yX4_goes cX4_goes 2 none) (n : Nat) (u : MS) : VM mkU t g p l e LV_goes s m args below meth c 2 187 [(0, .ref g.1)] [] u (ml0 (f4_goes_187) n u) := by
  refine vl0 (L := [(0, .ref g.1)]) (fun k hk u => ?_) n u
  unfold f4_goes_187
  refine v_aload_n C 0 rfl rfl dX4_goes_187 ?_
  refine v_aload_n C 0 rfl rfl dX4_goes_188 ?_
  refine v_getMi C 24 (by decide) (by decide) q1639 rfl dX4_goes_189 ?_
  refine v_callVM C [.int (u.1 24)] [] (ct4_byteAt t g l (u.1 24) u) (cw4_byteAt C q1902 (by decide)) rfl rfl (Nat.le_of_ble_eq_true rfl) dX4_goes_192 (fun r2 u1 => ?_)
  refine v_callSM C [.int r2] [] (ct4_isDigit t g l r2 u1) (cw4_isDigit C q1909 (by decide)) rfl rfl (Nat.le_of_ble_eq_true rfl) dX4_goes_195 (fun r4 u3 => ?_)
  refine v_if_eq C 250 (by decide) dX4_goes_198 (fun _ => ?_) (fun _ => ?_)
  · refine v_aload_n C 0 rfl rfl dX4_goes_250 ?_
    refine v_iconst C 2 (by decide) dX4_goes_251 ?_
    refine v_putMi C 25 (by decide) (by decide) q1640 rfl rfl (by decide +kernel) dX4_goes_252 (fun u5 => ?_)
    refine v_goto C 331 (by decide) dX4_goes_255 ?_
    refine v_aload_n C 0 rfl rfl dX4_goes_331 ?_
    refine v_aload_n C 0 rfl rfl dX4_goes_332 ?_
    refine v_getMi C 24 (by decide) (by decide) q1639 rfl dX4_goes_333 ?_
    refine v_aload_n C 0 rfl rfl dX4_goes_336 ?_
    refine v_getMi C 26 (by decide) (by decide) q1641 rfl dX4_goes_337 ?_
    refine v_isub C dX4_goes_340 ?_
    refine v_putMi C 27 (by decide) (by decide) q1642 rfl rfl (by decide +kernel) dX4_goes_341 (fun u6 => ?_)
    exact v_vretM C dX4_goes_344
  · refine v_aload_n C 0 rfl rfl dX4_goes_201 ?_
    refine v_getMi C 24 (by decide) (by decide) q1639 rfl dX4_goes_202 ?_
    refine v_aload_n C 0 rfl rfl dX4_goes_205 ?_
    refine v_getMi C 26 (by decide) (by decide) q1641 rfl dX4_goes_206 ?_
    refine v_isub C dX4_goes_209 ?_
    refine v_iconst C 4 (by decide) dX4_goes_210 ?_
    refine v_icmp_ge C 237 (by decide) dX4_goes_211 (fun _ => ?_) (fun _ => ?_)
    · refine v_aload_n C 0 rfl rfl dX4_goes_237 ?_
      refine v_dup C rfl dX4_goes_238 ?_
      refine v_getMi C 24 (by decide) (by decide) q1639 rfl dX4_goes_239 ?_
      refine v_iconst C 1 (by decide) dX4_goes_242 ?_
      refine v_iadd C dX4_goes_243 ?_
      refine v_putMi C 24 (by decide) (by decide) q1639 rfl rfl (by decide +kernel) dX4_goes_244 (fun u5 => ?_)
      refine v_goto C 187 (by decide) dX4_goes_247 ?_
      exact hk u5
    · refine v_aload_n C 0 rfl rfl dX4_goes_214 ?_
      refine v_bipush C 10 (by decide) dX4_goes_215 ?_
      refine v_aload_n C 0 rfl rfl dX4_goes_217 ?_
      refine v_getMi C 28 (by decide) (by decide) q1643 rfl dX4_goes_218 ?_
      refine v_imul C dX4_goes_221 ?_
      refine v_aload_n C 0 rfl rfl dX4_goes_222 ?_
      refine v_aload_n C 0 rfl rfl dX4_goes_223 ?_
      refine v_getMi C 24 (by decide) (by decide) q1639 rfl dX4_goes_224 ?_
      refine v_callVM C [.int (u3.1 24)] [.int (10 * (u3.1 28)), .ref g.1] (ct4_byteAt t g l (u3.1 24) u3) (cw4_byteAt C q1902 (by decide)) rfl rfl (Nat.le_of_ble_eq_true rfl) dX4_goes_227 (fun r6 u5 => ?_)
      refine v_iadd C dX4_goes_230 ?_
      refine v_bipush C 48 (by decide) dX4_goes_231 ?_
      refine v_isub C dX4_goes_233 ?_
      refine v_putMi C 28 (by decide) (by decide) q1643 rfl rfl (by decide +kernel) dX4_goes_234 (fun u7 => ?_)
      refine v_aload_n C 0 rfl rfl dX4_goes_237 ?_
      refine v_dup C rfl dX4_goes_238 ?_
      refine v_getMi C 24 (by decide) (by decide) q1639 rfl dX4_goes_239 ?_
      refine v_iconst C 1 (by decide) dX4_goes_242 ?_
      refine v_iadd C dX4_goes_243 ?_
      refine v_putMi C 24 (by decide) (by decide) q1639 rfl rfl (by decide +kernel) dX4_goes_244 (fun u8 => ?_)
      refine v_goto C 187 (by decide) dX4_goes_247 ?_
      exact hk u8
def f4_goes_108 (k : MS → Option (Unit × MS)) (u : MS) : Option (Unit × MS) :=
  mb (f4_byteAt (u.1 24) u) fun r2 u1 =>
  mb (f4_isLetter r2 u1) fun r4 u3 =>
  if r4 = 0 then
    mlet (mS u3 25 1) fun u5 =>
    mlet (mS u5 27 ((u5.1 24) - (u5.1 26))) fun u6 =>
    some ((), u6)
  else
    if 6 ≤ ((u3.1 24) - (u3.1 26)) then
      mlet (mS u3 24 ((u3.1 24) + 1)) fun u5 =>
      k u5
    else
      mb (f4_byteAt (u3.1 24) u3) fun r6 u5 =>
      mlet (mJ u5 ((u3.2.2 <<< (Int32.toInt64 5 &&& 63)) ||| (Int32.toInt64 (r6 - 96)))) fun u7 =>
      mlet (mS u7 24 ((u7.1 24) + 1)) fun u8 =>
      k u8
theorem w4_goes_108 {p : Program} {e : Env} {s : State} {m : MethodId} {args : Array Value} {below : List Frame} {meth : Method} {c : Code} (C : Cx t p s m args meth c yX4_goes cX4_goes 2 none) (n : Nat) (u : MS) : VM mkU t g p l e LV_goes s m args below meth c 2 108 [(0, .ref g.1)] [] u (ml0 (f4_goes_108) n u) := by
  refine vl0 (L := [(0, .ref g.1)]) (fun k hk u => ?_) n u
  unfold f4_goes_108
  refine v_aload_n C 0 rfl rfl dX4_goes_108 ?_
  refine v_aload_n C 0 rfl rfl dX4_goes_109 ?_
  refine v_getMi C 24 (by decide) (by decide) q1639 rfl dX4_goes_110 ?_
  refine v_callVM C [.int (u.1 24)] [] (ct4_byteAt t g l (u.1 24) u) (cw4_byteAt C q1902 (by decide)) rfl rfl (Nat.le_of_ble_eq_true rfl) dX4_goes_113 (fun r2 u1 => ?_)
  refine v_callSM C [.int r2] [] (ct4_isLetter t g l r2 u1) (cw4_isLetter C q1906 (by decide)) rfl rfl (Nat.le_of_ble_eq_true rfl) dX4_goes_116 (fun r4 u3 => ?_)
  refine v_if_eq C 172 (by decide) dX4_goes_119 (fun _ => ?_) (fun _ => ?_)
  · refine v_aload_n C 0 rfl rfl dX4_goes_172 ?_
    refine v_iconst C 1 (by decide) dX4_goes_173 ?_
    refine v_putMi C 25 (by decide) (by decide) q1640 rfl rfl (by decide +kernel) dX4_goes_174 (fun u5 => ?_)
    refine v_goto C 331 (by decide) dX4_goes_177 ?_
    refine v_aload_n C 0 rfl rfl dX4_goes_331 ?_
    refine v_aload_n C 0 rfl rfl dX4_goes_332 ?_
    refine v_getMi C 24 (by decide) (by decide) q1639 rfl dX4_goes_333 ?_
    refine v_aload_n C 0 rfl rfl dX4_goes_336 ?_
    refine v_getMi C 26 (by decide) (by decide) q1641 rfl dX4_goes_337 ?_
    refine v_isub C dX4_goes_340 ?_
    refine v_putMi C 27 (by decide) (by decide) q1642 rfl rfl (by decide +kernel) dX4_goes_341 (fun u6 => ?_)
    exact v_vretM C dX4_goes_344
  · refine v_aload_n C 0 rfl rfl dX4_goes_122 ?_
    refine v_getMi C 24 (by decide) (by decide) q1639 rfl dX4_goes_123 ?_
    refine v_aload_n C 0 rfl rfl dX4_goes_126 ?_
    refine v_getMi C 26 (by decide) (by decide) q1641 rfl dX4_goes_127 ?_
    refine v_isub C dX4_goes_130 ?_
    refine v_bipush C 6 (by decide) dX4_goes_131 ?_
    refine v_icmp_ge C 159 (by decide) dX4_goes_133 (fun _ => ?_) (fun _ => ?_)
    · refine v_aload_n C 0 rfl rfl dX4_goes_159 ?_
      refine v_dup C rfl dX4_goes_160 ?_
      refine v_getMi C 24 (by decide) (by decide) q1639 rfl dX4_goes_161 ?_
      refine v_iconst C 1 (by decide) dX4_goes_164 ?_
      refine v_iadd C dX4_goes_165 ?_
      refine v_putMi C 24 (by decide) (by decide) q1639 rfl rfl (by decide +kernel) dX4_goes_166 (fun u5 => ?_)
      refine v_goto C 108 (by decide) dX4_goes_169 ?_
      exact hk u5
    · refine v_aload_n C 0 rfl rfl dX4_goes_136 ?_
      refine v_aload_n C 0 rfl rfl dX4_goes_137 ?_
      refine v_getMl C 30 (by decide) (by decide) q1645 rfl dX4_goes_138 ?_
      refine v_iconst C 5 (by decide) dX4_goes_141 ?_
      refine v_lshl C dX4_goes_142 ?_
      refine v_aload_n C 0 rfl rfl dX4_goes_143 ?_
      refine v_aload_n C 0 rfl rfl dX4_goes_144 ?_
      refine v_getMi C 24 (by decide) (by decide) q1639 rfl dX4_goes_145 ?_
      refine v_callVM C [.int (u3.1 24)] [.long (u3.2.2 <<< (Int32.toInt64 5 &&& 63)), .ref g.1] (ct4_byteAt t g l (u3.1 24) u3) (cw4_byteAt C q1902 (by decide)) rfl rfl (Nat.le_of_ble_eq_true rfl) dX4_goes_148 (fun r6 u5 => ?_)
      refine v_bipush C 96 (by decide) dX4_goes_151 ?_
      refine v_isub C dX4_goes_153 ?_
      refine v_i2l C dX4_goes_154 ?_
      refine v_lor C dX4_goes_155 ?_
      refine v_putMl C 30 rfl q1645 (by decide +kernel) dX4_goes_156 (fun u7 => ?_)
      refine v_aload_n C 0 rfl rfl dX4_goes_159 ?_
      refine v_dup C rfl dX4_goes_160 ?_
      refine v_getMi C 24 (by decide) (by decide) q1639 rfl dX4_goes_161 ?_
      refine v_iconst C 1 (by decide) dX4_goes_164 ?_
      refine v_iadd C dX4_goes_165 ?_
      refine v_putMi C 24 (by decide) (by decide) q1639 rfl rfl (by decide +kernel) dX4_goes_166 (fun u8 => ?_)
      refine v_goto C 108 (by decide) dX4_goes_169 ?_
      exact hk u8
def f4_goes_50 (u : MS) : Option (Unit × MS) :=
  mlet (mS u 26 (u.1 24)) fun u1 =>
  mlet (mJ u1 0) fun u2 =>
  mlet (mS u2 28 0) fun u3 =>
  mb (f4_byteAt (u3.1 24) u3) fun r5 u4 =>
  mlet (mS u4 29 r5) fun u6 =>
  if (u6.1 24) < (u6.1 23) then
    mb (f4_isLetter r5 u6) fun r8 u7 =>
    if r8 = 0 then
      mb (f4_isDigit r5 u7) fun r10 u9 =>
      if r10 = 0 then
        mlet (mS u9 24 ((u9.1 24) + 1)) fun u11 =>
        if r5 = 59 then
          f4_goes_323 u11
        else
          if r5 = 40 then
            f4_goes_323 u11
          else
            if r5 = 41 then
              f4_goes_323 u11
            else
              if r5 = 43 then
                f4_goes_323 u11
              else
                if r5 = 45 then
                  f4_goes_323 u11
                else
                  if r5 = 42 then
                    f4_goes_323 u11
                  else
                    if r5 = 47 then
                      f4_goes_323 u11
                    else
                      if r5 = 60 then
                        f4_goes_323 u11
                      else
                        if r5 = 61 then
                          f4_goes_323 u11
                        else
                          mlet (mS u11 25 4) fun u12 =>
                          mlet (mS u12 27 ((u12.1 24) - (u12.1 26))) fun u13 =>
                          some ((), u13)
      else
        ml0 (f4_goes_187) FUEL u9
    else
      ml0 (f4_goes_108) FUEL u7
  else
    mlet (mS u6 25 0) fun u7 =>
    mlet (mS u7 27 ((u7.1 24) - (u7.1 26))) fun u8 =>
    some ((), u8)
theorem w4_goes_50 {p : Program} {e : Env} {s : State} {m : MethodId} {args : Array Value} {below : List Frame} {meth : Method} {c : Code} (C : Cx t p s m args meth c yX4_goes cX4_goes 2 none) (u : MS) : VM mkU t g p l e LV_goes s m args below meth c 2 50 [(0, .ref g.1)] [] u (f4_goes_50 u) := by
  unfold f4_goes_50
  refine v_aload_n C 0 rfl rfl dX4_goes_50 ?_
  refine v_aload_n C 0 rfl rfl dX4_goes_51 ?_
  refine v_getMi C 24 (by decide) (by decide) q1639 rfl dX4_goes_52 ?_
  refine v_putMi C 26 (by decide) (by decide) q1641 rfl rfl (by decide +kernel) dX4_goes_55 (fun u1 => ?_)
  refine v_aload_n C 0 rfl rfl dX4_goes_58 ?_
  refine v_lconst C 0 (by decide) dX4_goes_59 ?_
  refine v_putMl C 30 rfl q1645 (by decide +kernel) dX4_goes_60 (fun u2 => ?_)
  refine v_aload_n C 0 rfl rfl dX4_goes_63 ?_
  refine v_iconst C 0 (by decide) dX4_goes_64 ?_
  refine v_putMi C 28 (by decide) (by decide) q1643 rfl rfl (by decide +kernel) dX4_goes_65 (fun u3 => ?_)
  refine v_aload_n C 0 rfl rfl dX4_goes_68 ?_
  refine v_aload_n C 0 rfl rfl dX4_goes_69 ?_
  refine v_getMi C 24 (by decide) (by decide) q1639 rfl dX4_goes_70 ?_
  refine v_callVM C [.int (u3.1 24)] [] (ct4_byteAt t g l (u3.1 24) u3) (cw4_byteAt C q1902 (by decide)) rfl rfl (Nat.le_of_ble_eq_true rfl) dX4_goes_73 (fun r5 u4 => ?_)
  refine v_istore_n C [(1, .int r5), (0, .ref g.1)] rfl (by decide) rfl dX4_goes_76 ?_
  refine v_aload_n C 1 rfl rfl dX4_goes_77 ?_
  refine v_iload_n C 0 rfl rfl dX4_goes_78 ?_
  refine v_putMi C 29 (by decide) (by decide) q1644 rfl rfl (by decide +kernel) dX4_goes_79 (fun u6 => ?_)
  refine v_aload_n C 1 rfl rfl dX4_goes_82 ?_
  refine v_getMi C 24 (by decide) (by decide) q1639 rfl dX4_goes_83 ?_
  refine v_aload_n C 1 rfl rfl dX4_goes_86 ?_
  refine v_getMi C 23 (by decide) (by decide) q1638 rfl dX4_goes_87 ?_
  refine v_icmp_lt C 101 (by decide) dX4_goes_90 (fun _ => ?_) (fun _ => ?_)
  · refine v_iload_n C 0 rfl rfl dX4_goes_101 ?_
    refine v_callSM C [.int r5] [] (ct4_isLetter t g l r5 u6) (cw4_isLetter C q1906 (by decide)) rfl rfl (Nat.le_of_ble_eq_true rfl) dX4_goes_102 (fun r8 u7 => ?_)
    refine v_if_eq C 180 (by decide) dX4_goes_105 (fun _ => ?_) (fun _ => ?_)
    · refine v_iload_n C 0 rfl rfl dX4_goes_180 ?_
      refine v_callSM C [.int r5] [] (ct4_isDigit t g l r5 u7) (cw4_isDigit C q1909 (by decide)) rfl rfl (Nat.le_of_ble_eq_true rfl) dX4_goes_181 (fun r10 u9 => ?_)
      refine v_if_eq C 258 (by decide) dX4_goes_184 (fun _ => ?_) (fun _ => ?_)
      · refine v_aload_n C 1 rfl rfl dX4_goes_258 ?_
        refine v_dup C rfl dX4_goes_259 ?_
        refine v_getMi C 24 (by decide) (by decide) q1639 rfl dX4_goes_260 ?_
        refine v_iconst C 1 (by decide) dX4_goes_263 ?_
        refine v_iadd C dX4_goes_264 ?_
        refine v_putMi C 24 (by decide) (by decide) q1639 rfl rfl (by decide +kernel) dX4_goes_265 (fun u11 => ?_)
        refine v_aload_n C 1 rfl rfl dX4_goes_268 ?_
        refine v_iload_n C 0 rfl rfl dX4_goes_269 ?_
        refine v_bipush C 59 (by decide) dX4_goes_270 ?_
        refine v_icmp_eq C 323 (by decide) dX4_goes_272 (fun _ => ?_) (fun _ => ?_)
        · refine v_sub [1] rfl ?_
          exact w4_goes_323 C u11
        · refine v_iload_n C 0 rfl rfl dX4_goes_275 ?_
          refine v_bipush C 40 (by decide) dX4_goes_276 ?_
          refine v_icmp_eq C 323 (by decide) dX4_goes_278 (fun _ => ?_) (fun _ => ?_)
          · refine v_sub [1] rfl ?_
            exact w4_goes_323 C u11
          · refine v_iload_n C 0 rfl rfl dX4_goes_281 ?_
            refine v_bipush C 41 (by decide) dX4_goes_282 ?_
            refine v_icmp_eq C 323 (by decide) dX4_goes_284 (fun _ => ?_) (fun _ => ?_)
            · refine v_sub [1] rfl ?_
              exact w4_goes_323 C u11
            · refine v_iload_n C 0 rfl rfl dX4_goes_287 ?_
              refine v_bipush C 43 (by decide) dX4_goes_288 ?_
              refine v_icmp_eq C 323 (by decide) dX4_goes_290 (fun _ => ?_) (fun _ => ?_)
              · refine v_sub [1] rfl ?_
                exact w4_goes_323 C u11
              · refine v_iload_n C 0 rfl rfl dX4_goes_293 ?_
                refine v_bipush C 45 (by decide) dX4_goes_294 ?_
                refine v_icmp_eq C 323 (by decide) dX4_goes_296 (fun _ => ?_) (fun _ => ?_)
                · refine v_sub [1] rfl ?_
                  exact w4_goes_323 C u11
                · refine v_iload_n C 0 rfl rfl dX4_goes_299 ?_
                  refine v_bipush C 42 (by decide) dX4_goes_300 ?_
                  refine v_icmp_eq C 323 (by decide) dX4_goes_302 (fun _ => ?_) (fun _ => ?_)
                  · refine v_sub [1] rfl ?_
                    exact w4_goes_323 C u11
                  · refine v_iload_n C 0 rfl rfl dX4_goes_305 ?_
                    refine v_bipush C 47 (by decide) dX4_goes_306 ?_
                    refine v_icmp_eq C 323 (by decide) dX4_goes_308 (fun _ => ?_) (fun _ => ?_)
                    · refine v_sub [1] rfl ?_
                      exact w4_goes_323 C u11
                    · refine v_iload_n C 0 rfl rfl dX4_goes_311 ?_
                      refine v_bipush C 60 (by decide) dX4_goes_312 ?_
                      refine v_icmp_eq C 323 (by decide) dX4_goes_314 (fun _ => ?_) (fun _ => ?_)
                      · refine v_sub [1] rfl ?_
                        exact w4_goes_323 C u11
                      · refine v_iload_n C 0 rfl rfl dX4_goes_317 ?_
                        refine v_bipush C 61 (by decide) dX4_goes_318 ?_
                        refine v_icmp_ne C 327 (by decide) dX4_goes_320 (fun _ => ?_) (fun _ => ?_)
                        · refine v_sub [1] rfl ?_
                          exact w4_goes_323 C u11
                        · refine v_iconst C 4 (by decide) dX4_goes_327 ?_
                          refine v_putMi C 25 (by decide) (by decide) q1640 rfl rfl (by decide +kernel) dX4_goes_328 (fun u12 => ?_)
                          refine v_aload_n C 1 rfl rfl dX4_goes_331 ?_
                          refine v_aload_n C 1 rfl rfl dX4_goes_332 ?_
                          refine v_getMi C 24 (by decide) (by decide) q1639 rfl dX4_goes_333 ?_
                          refine v_aload_n C 1 rfl rfl dX4_goes_336 ?_
                          refine v_getMi C 26 (by decide) (by decide) q1641 rfl dX4_goes_337 ?_
                          refine v_isub C dX4_goes_340 ?_
                          refine v_putMi C 27 (by decide) (by decide) q1642 rfl rfl (by decide +kernel) dX4_goes_341 (fun u13 => ?_)
                          exact v_vretM C dX4_goes_344
      · refine v_sub [1] rfl ?_
        exact w4_goes_187 C FUEL u9
    · refine v_sub [1] rfl ?_
      exact w4_goes_108 C FUEL u7
  · refine v_aload_n C 1 rfl rfl dX4_goes_93 ?_
    refine v_iconst C 0 (by decide) dX4_goes_94 ?_
    refine v_putMi C 25 (by decide) (by decide) q1640 rfl rfl (by decide +kernel) dX4_goes_95 (fun u7 => ?_)
    refine v_goto C 331 (by decide) dX4_goes_98 ?_
    refine v_aload_n C 1 rfl rfl dX4_goes_331 ?_
    refine v_aload_n C 1 rfl rfl dX4_goes_332 ?_
    refine v_getMi C 24 (by decide) (by decide) q1639 rfl dX4_goes_333 ?_
    refine v_aload_n C 1 rfl rfl dX4_goes_336 ?_
    refine v_getMi C 26 (by decide) (by decide) q1641 rfl dX4_goes_337 ?_
    refine v_isub C dX4_goes_340 ?_
    refine v_putMi C 27 (by decide) (by decide) q1642 rfl rfl (by decide +kernel) dX4_goes_341 (fun u8 => ?_)
    exact v_vretM C dX4_goes_344
def f4_goes_0 (k : MS → Option (Unit × MS)) (u : MS) : Option (Unit × MS) :=
  if (u.1 23) ≤ (u.1 24) then
    f4_goes_50 u
  else
    mb (f4_byteAt (u.1 24) u) fun r2 u1 =>
    if r2 = 32 then
      mlet (mS u1 24 ((u1.1 24) + 1)) fun u3 =>
      k u3
    else
      mb (f4_byteAt (u1.1 24) u1) fun r4 u3 =>
      if r4 = 10 then
        mlet (mS u3 24 ((u3.1 24) + 1)) fun u5 =>
        k u5
      else
        f4_goes_50 u3
theorem w4_goes_0 {p : Program} {e : Env} {s : State} {m : MethodId} {args : Array Value} {below : List Frame} {meth : Method} {c : Code} (C : Cx t p s m args meth c yX4_goes cX4_goes 2 none) (n : Nat) (u : MS) : VM mkU t g p l e LV_goes s m args below meth c 2 0 [(0, .ref g.1)] [] u (ml0 (f4_goes_0) n u) := by
  refine vl0 (L := [(0, .ref g.1)]) (fun k hk u => ?_) n u
  unfold f4_goes_0
  refine v_aload_n C 0 rfl rfl dX4_goes_0 ?_
  refine v_getMi C 24 (by decide) (by decide) q1639 rfl dX4_goes_1 ?_
  refine v_aload_n C 0 rfl rfl dX4_goes_4 ?_
  refine v_getMi C 23 (by decide) (by decide) q1638 rfl dX4_goes_5 ?_
  refine v_icmp_ge C 50 (by decide) dX4_goes_8 (fun _ => ?_) (fun _ => ?_)
  · exact w4_goes_50 C u
  · refine v_aload_n C 0 rfl rfl dX4_goes_11 ?_
    refine v_aload_n C 0 rfl rfl dX4_goes_12 ?_
    refine v_getMi C 24 (by decide) (by decide) q1639 rfl dX4_goes_13 ?_
    refine v_callVM C [.int (u.1 24)] [] (ct4_byteAt t g l (u.1 24) u) (cw4_byteAt C q1902 (by decide)) rfl rfl (Nat.le_of_ble_eq_true rfl) dX4_goes_16 (fun r2 u1 => ?_)
    refine v_bipush C 32 (by decide) dX4_goes_19 ?_
    refine v_icmp_eq C 37 (by decide) dX4_goes_21 (fun _ => ?_) (fun _ => ?_)
    · refine v_aload_n C 0 rfl rfl dX4_goes_37 ?_
      refine v_dup C rfl dX4_goes_38 ?_
      refine v_getMi C 24 (by decide) (by decide) q1639 rfl dX4_goes_39 ?_
      refine v_iconst C 1 (by decide) dX4_goes_42 ?_
      refine v_iadd C dX4_goes_43 ?_
      refine v_putMi C 24 (by decide) (by decide) q1639 rfl rfl (by decide +kernel) dX4_goes_44 (fun u3 => ?_)
      refine v_goto C 0 (by decide) dX4_goes_47 ?_
      exact hk u3
    · refine v_aload_n C 0 rfl rfl dX4_goes_24 ?_
      refine v_aload_n C 0 rfl rfl dX4_goes_25 ?_
      refine v_getMi C 24 (by decide) (by decide) q1639 rfl dX4_goes_26 ?_
      refine v_callVM C [.int (u1.1 24)] [] (ct4_byteAt t g l (u1.1 24) u1) (cw4_byteAt C q1902 (by decide)) rfl rfl (Nat.le_of_ble_eq_true rfl) dX4_goes_29 (fun r4 u3 => ?_)
      refine v_bipush C 10 (by decide) dX4_goes_32 ?_
      refine v_icmp_ne C 50 (by decide) dX4_goes_34 (fun _ => ?_) (fun _ => ?_)
      · refine v_aload_n C 0 rfl rfl dX4_goes_37 ?_
        refine v_dup C rfl dX4_goes_38 ?_
        refine v_getMi C 24 (by decide) (by decide) q1639 rfl dX4_goes_39 ?_
        refine v_iconst C 1 (by decide) dX4_goes_42 ?_
        refine v_iadd C dX4_goes_43 ?_
        refine v_putMi C 24 (by decide) (by decide) q1639 rfl rfl (by decide +kernel) dX4_goes_44 (fun u5 => ?_)
        refine v_goto C 0 (by decide) dX4_goes_47 ?_
        exact hk u5
      · exact w4_goes_50 C u3
def f4_goes (u : MS) : Option (Unit × MS) :=
  ml0 (f4_goes_0) FUEL u
theorem ct4_goes (t : TT) (g : GM) (l : Launch) (u : MS) : CtM mkU t g l yX4_goes cX4_goes 2 none LV_goes [.ref g.1] u (f4_goes u) := by
  refine ctM_of [(0, .ref g.1)] rfl (Nat.le_of_ble_eq_true rfl) rfl (fun p e s m args below meth c C => ?_)
  unfold f4_goes
  exact w4_goes_0 C FUEL u
theorem cw4_goes {t : TT} {p : Program} {s : State} {m : MethodId} {args : Array Value} {meth : Method} {c : Code} {y0 : MethodName} {cc0 : ByteArray} {nL0 : Nat} {ret0 : Option FieldType} (C : Cx t p s m args meth c y0 cc0 nL0 ret0) {index lv : Nat} (hq : Cond.methodLink y0.cls index yX4_goes ∈ lw_all) (hR : LV_goes + 1 ≤ lv) : CallW (rmM lv) s args y0.cls RX4 index yX4_goes cX4_goes 2 none (ws_ yX4_goes cX4_goes 2 none) (rmM LV_goes) 0 0 0 :=
  cwV 0 C.2.2.2.2.1 (lw_V hq q1900 qs55 q127 q1901) rfl rfl rfl (by decide +kernel) ⟨hR, by show 8 + (2 + 11) + 100 * LV_goes ≤ 100 * lv; omega⟩
abbrev LV_isGood : Nat := 0
def f4_isGood (u : MS) : Option (Int32 × MS) :=
  if (u.1 20) = 0 then
    rz 1 u
  else
    rz 0 u
theorem ct4_isGood (t : TT) (g : GM) (l : Launch) (u : MS) : CtM mkI t g l yX4_isGood cX4_isGood 1 (some .boolean) LV_isGood [.ref g.1] u (f4_isGood u) := by
  refine ctM_of [(0, .ref g.1)] rfl (Nat.le_of_ble_eq_true rfl) rfl (fun p e s m args below meth c C => ?_)
  unfold f4_isGood
  refine v_aload_n C 0 rfl rfl dX4_isGood_0 ?_
  refine v_getMi C 20 (by decide) (by decide) q1635 rfl dX4_isGood_1 ?_
  refine v_if_ne C 11 (by decide) dX4_isGood_4 (fun _ => ?_) (fun _ => ?_)
  · refine v_iconst C 1 (by decide) dX4_isGood_7 ?_
    refine v_goto C 12 (by decide) dX4_isGood_8 ?_
    exact v_zretM C dX4_isGood_12
  · refine v_iconst C 0 (by decide) dX4_isGood_11 ?_
    exact v_zretM C dX4_isGood_12
theorem cw4_isGood {t : TT} {p : Program} {s : State} {m : MethodId} {args : Array Value} {meth : Method} {c : Code} {y0 : MethodName} {cc0 : ByteArray} {nL0 : Nat} {ret0 : Option FieldType} (C : Cx t p s m args meth c y0 cc0 nL0 ret0) {index lv : Nat} (hq : Cond.methodLink y0.cls index yX4_isGood ∈ lw_all) (hR : LV_isGood + 1 ≤ lv) : CallW (rmM lv) s args y0.cls RX4 index yX4_isGood cX4_isGood 1 (some .boolean) (ws_ yX4_isGood cX4_isGood 1 (some .boolean)) (rmM LV_isGood) 0 0 0 :=
  cwV 0 C.2.2.2.2.1 (lw_V hq q1914 qs57 q127 q1915) rfl rfl rfl (by decide +kernel) ⟨hR, by show 8 + (1 + 11) + 100 * LV_isGood ≤ 100 * lv; omega⟩
abbrev LV_spelled : Nat := 0
def f4_spelled_66 (p0 : Int32) (p1 : Int32) (p2 : Int32) (p3 : Int32) (p4 : Int32) (p5 : Int32) (x6 : Int64) (u : MS) : Option (Int64 × MS) :=
  if p5 = 0 then
    some (x6, u)
  else
    mlet ((x6 <<< (Int32.toInt64 5 &&& 63)) ||| (Int32.toInt64 (p5 - 96))) fun v1 =>
    some (v1, u)
theorem w4_spelled_66 {p : Program} {e : Env} {s : State} {m : MethodId} {args : Array Value} {below : List Frame} {meth : Method} {c : Code} (C : Cx t p s m args meth c yX4_spelled cX4_spelled 8 (some .long)) (p0 : Int32) (p1 : Int32) (p2 : Int32) (p3 : Int32) (p4 : Int32) (p5 : Int32) (x6 : Int64) (u : MS) : VM mkJ t g p l e LV_spelled s m args below meth c 8 66 [(5, .int p5), (6, .long x6)] [] u (f4_spelled_66 p0 p1 p2 p3 p4 p5 x6 u) := by
  unfold f4_spelled_66
  refine v_iload C 0 rfl dX4_spelled_66 ?_
  refine v_if_eq C 84 (by decide) dX4_spelled_68 (fun _ => ?_) (fun _ => ?_)
  · refine v_lload C 1 rfl dX4_spelled_84 ?_
    exact v_lretM C dX4_spelled_86
  · refine v_lload C 1 rfl dX4_spelled_71 ?_
    refine v_iconst C 5 (by decide) dX4_spelled_73 ?_
    refine v_lshl C dX4_spelled_74 ?_
    refine v_iload C 0 rfl dX4_spelled_75 ?_
    refine v_bipush C 96 (by decide) dX4_spelled_77 ?_
    refine v_isub C dX4_spelled_79 ?_
    refine v_i2l C dX4_spelled_80 ?_
    refine v_lor C dX4_spelled_81 ?_
    refine v_topl (fun v1 => ?_)
    refine v_lstore C [(6, .long v1), (5, .int p5)] (by decide) rfl dX4_spelled_82 ?_
    refine v_lload C 0 rfl dX4_spelled_84 ?_
    exact v_lretM C dX4_spelled_86
def f4_spelled_48 (p0 : Int32) (p1 : Int32) (p2 : Int32) (p3 : Int32) (p4 : Int32) (p5 : Int32) (x6 : Int64) (u : MS) : Option (Int64 × MS) :=
  if p4 = 0 then
    f4_spelled_66 p0 p1 p2 p3 p4 p5 x6 u
  else
    mlet ((x6 <<< (Int32.toInt64 5 &&& 63)) ||| (Int32.toInt64 (p4 - 96))) fun v1 =>
    f4_spelled_66 p0 p1 p2 p3 p4 p5 v1 u
theorem w4_spelled_48 {p : Program} {e : Env} {s : State} {m : MethodId} {args : Array Value} {below : List Frame} {meth : Method} {c : Code} (C : Cx t p s m args meth c yX4_spelled cX4_spelled 8 (some .long)) (p0 : Int32) (p1 : Int32) (p2 : Int32) (p3 : Int32) (p4 : Int32) (p5 : Int32) (x6 : Int64) (u : MS) : VM mkJ t g p l e LV_spelled s m args below meth c 8 48 [(4, .int p4), (5, .int p5), (6, .long x6)] [] u (f4_spelled_48 p0 p1 p2 p3 p4 p5 x6 u) := by
  unfold f4_spelled_48
  refine v_iload C 0 rfl dX4_spelled_48 ?_
  refine v_if_eq C 66 (by decide) dX4_spelled_50 (fun _ => ?_) (fun _ => ?_)
  · refine v_sub [1, 2] rfl ?_
    exact w4_spelled_66 C p0 p1 p2 p3 p4 p5 x6 u
  · refine v_lload C 2 rfl dX4_spelled_53 ?_
    refine v_iconst C 5 (by decide) dX4_spelled_55 ?_
    refine v_lshl C dX4_spelled_56 ?_
    refine v_iload C 0 rfl dX4_spelled_57 ?_
    refine v_bipush C 96 (by decide) dX4_spelled_59 ?_
    refine v_isub C dX4_spelled_61 ?_
    refine v_i2l C dX4_spelled_62 ?_
    refine v_lor C dX4_spelled_63 ?_
    refine v_topl (fun v1 => ?_)
    refine v_lstore C [(6, .long v1), (4, .int p4), (5, .int p5)] (by decide) rfl dX4_spelled_64 ?_
    refine v_sub [2, 0] rfl ?_
    exact w4_spelled_66 C p0 p1 p2 p3 p4 p5 v1 u
def f4_spelled_32 (p0 : Int32) (p1 : Int32) (p2 : Int32) (p3 : Int32) (p4 : Int32) (p5 : Int32) (x6 : Int64) (u : MS) : Option (Int64 × MS) :=
  if p3 = 0 then
    f4_spelled_48 p0 p1 p2 p3 p4 p5 x6 u
  else
    mlet ((x6 <<< (Int32.toInt64 5 &&& 63)) ||| (Int32.toInt64 (p3 - 96))) fun v1 =>
    f4_spelled_48 p0 p1 p2 p3 p4 p5 v1 u
theorem w4_spelled_32 {p : Program} {e : Env} {s : State} {m : MethodId} {args : Array Value} {below : List Frame} {meth : Method} {c : Code} (C : Cx t p s m args meth c yX4_spelled cX4_spelled 8 (some .long)) (p0 : Int32) (p1 : Int32) (p2 : Int32) (p3 : Int32) (p4 : Int32) (p5 : Int32) (x6 : Int64) (u : MS) : VM mkJ t g p l e LV_spelled s m args below meth c 8 32 [(3, .int p3), (4, .int p4), (5, .int p5), (6, .long x6)] [] u (f4_spelled_32 p0 p1 p2 p3 p4 p5 x6 u) := by
  unfold f4_spelled_32
  refine v_iload_n C 0 rfl rfl dX4_spelled_32 ?_
  refine v_if_eq C 48 (by decide) dX4_spelled_33 (fun _ => ?_) (fun _ => ?_)
  · refine v_sub [1, 2, 3] rfl ?_
    exact w4_spelled_48 C p0 p1 p2 p3 p4 p5 x6 u
  · refine v_lload C 3 rfl dX4_spelled_36 ?_
    refine v_iconst C 5 (by decide) dX4_spelled_38 ?_
    refine v_lshl C dX4_spelled_39 ?_
    refine v_iload_n C 0 rfl rfl dX4_spelled_40 ?_
    refine v_bipush C 96 (by decide) dX4_spelled_41 ?_
    refine v_isub C dX4_spelled_43 ?_
    refine v_i2l C dX4_spelled_44 ?_
    refine v_lor C dX4_spelled_45 ?_
    refine v_topl (fun v1 => ?_)
    refine v_lstore C [(6, .long v1), (3, .int p3), (4, .int p4), (5, .int p5)] (by decide) rfl dX4_spelled_46 ?_
    refine v_sub [2, 3, 0] rfl ?_
    exact w4_spelled_48 C p0 p1 p2 p3 p4 p5 v1 u
def f4_spelled (p0 : Int32) (p1 : Int32) (p2 : Int32) (p3 : Int32) (p4 : Int32) (p5 : Int32) (u : MS) : Option (Int64 × MS) :=
  mlet ((((Int32.toInt64 p0) - 96) <<< (Int32.toInt64 5 &&& 63)) ||| (Int32.toInt64 (p1 - 96))) fun v1 =>
  if p2 = 0 then
    f4_spelled_32 p0 p1 p2 p3 p4 p5 v1 u
  else
    mlet ((v1 <<< (Int32.toInt64 5 &&& 63)) ||| (Int32.toInt64 (p2 - 96))) fun v2 =>
    f4_spelled_32 p0 p1 p2 p3 p4 p5 v2 u
theorem ct4_spelled (t : TT) (g : GM) (l : Launch) (p0 : Int32) (p1 : Int32) (p2 : Int32) (p3 : Int32) (p4 : Int32) (p5 : Int32) (u : MS) : CtM mkJ t g l yX4_spelled cX4_spelled 8 (some .long) LV_spelled [.int p0, .int p1, .int p2, .int p3, .int p4, .int p5] u (f4_spelled p0 p1 p2 p3 p4 p5 u) := by
  refine ctM_of [(0, .int p0), (1, .int p1), (2, .int p2), (3, .int p3), (4, .int p4), (5, .int p5)] rfl (Nat.le_of_ble_eq_true rfl) rfl (fun p e s m args below meth c C => ?_)
  unfold f4_spelled
  refine v_iload_n C 0 rfl rfl dX4_spelled_0 ?_
  refine v_i2l C dX4_spelled_1 ?_
  refine v_ldc2 C q1930 dX4_spelled_2 ?_
  refine v_lsub C dX4_spelled_5 ?_
  refine v_iconst C 5 (by decide) dX4_spelled_6 ?_
  refine v_lshl C dX4_spelled_7 ?_
  refine v_iload_n C 1 rfl rfl dX4_spelled_8 ?_
  refine v_bipush C 96 (by decide) dX4_spelled_9 ?_
  refine v_isub C dX4_spelled_11 ?_
  refine v_i2l C dX4_spelled_12 ?_
  refine v_lor C dX4_spelled_13 ?_
  refine v_topl (fun v1 => ?_)
  refine v_lstore C [(6, .long v1), (0, .int p0), (1, .int p1), (2, .int p2), (3, .int p3), (4, .int p4), (5, .int p5)] (by decide) rfl dX4_spelled_14 ?_
  refine v_iload_n C 3 rfl rfl dX4_spelled_16 ?_
  refine v_if_eq C 32 (by decide) dX4_spelled_17 (fun _ => ?_) (fun _ => ?_)
  · refine v_sub [4, 5, 6, 0] rfl ?_
    exact w4_spelled_32 C p0 p1 p2 p3 p4 p5 v1 u
  · refine v_lload C 0 rfl dX4_spelled_20 ?_
    refine v_iconst C 5 (by decide) dX4_spelled_22 ?_
    refine v_lshl C dX4_spelled_23 ?_
    refine v_iload_n C 3 rfl rfl dX4_spelled_24 ?_
    refine v_bipush C 96 (by decide) dX4_spelled_25 ?_
    refine v_isub C dX4_spelled_27 ?_
    refine v_i2l C dX4_spelled_28 ?_
    refine v_lor C dX4_spelled_29 ?_
    refine v_topl (fun v2 => ?_)
    refine v_lstore C [(6, .long v2), (0, .int p0), (1, .int p1), (2, .int p2), (3, .int p3), (4, .int p4), (5, .int p5)] (by decide) rfl dX4_spelled_30 ?_
    refine v_sub [4, 5, 6, 0] rfl ?_
    exact w4_spelled_32 C p0 p1 p2 p3 p4 p5 v2 u
theorem cw4_spelled {t : TT} {p : Program} {s : State} {m : MethodId} {args : Array Value} {meth : Method} {c : Code} {y0 : MethodName} {cc0 : ByteArray} {nL0 : Nat} {ret0 : Option FieldType} (C : Cx t p s m args meth c y0 cc0 nL0 ret0) {index lv : Nat} (hq : Cond.methodLink y0.cls index yX4_spelled ∈ lw_all) (hR : LV_spelled + 1 ≤ lv) : CallB (rmM lv) s args y0.cls index yX4_spelled cX4_spelled 8 (some .long) (ws_ yX4_spelled cX4_spelled 8 (some .long)) (rmM LV_spelled) 0 0 6 ∧ (Cond.static yX4_spelled).before args s = true :=
  ⟨callB_of 6 C.2.2.2.2.1 (lw_meth q1929) rfl rfl rfl (C.2.2.2.2.1 _ q127) (C.2.2.2.2.1 _ hq) (by decide +kernel) ⟨hR, by show 8 + (8 + 11) + 100 * LV_spelled ≤ 100 * lv; omega⟩, C.2.2.2.2.1 _ q1928⟩
abbrev LV_letters : Nat := 1
def f4_letters (p0 : Int32) (u : MS) : Option (Int64 × MS) :=
  if p0 = 0 then
    mb (f4_spelled 103 111 111 100 115 0 u) fun r3 u2 =>
    some (r3, u2)
  else
    if p0 = 1 then
      mb (f4_spelled 100 101 98 116 0 0 u) fun r4 u3 =>
      some (r4, u3)
    else
      if p0 = 2 then
        mb (f4_spelled 102 111 101 0 0 0 u) fun r5 u4 =>
        some (r5, u4)
      else
        if p0 = 3 then
          mb (f4_spelled 102 114 105 101 110 100 u) fun r6 u5 =>
          some (r6, u5)
        else
          if p0 = 4 then
            mb (f4_spelled 107 105 110 0 0 0 u) fun r7 u6 =>
            some (r7, u6)
          else
            if p0 = 5 then
              mb (f4_spelled 108 105 115 116 101 100 u) fun r8 u7 =>
              some (r8, u7)
            else
              if p0 = 6 then
                mb (f4_spelled 100 97 121 0 0 0 u) fun r9 u8 =>
                some (r9, u8)
              else
                if p0 = 7 then
                  mb (f4_spelled 115 97 108 101 115 0 u) fun r10 u9 =>
                  some (r10, u9)
                else
                  if p0 = 8 then
                    mb (f4_spelled 109 97 115 116 101 114 u) fun r11 u10 =>
                    some (r11, u10)
                  else
                    if p0 = 9 then
                      mb (f4_spelled 112 108 97 99 101 0 u) fun r12 u11 =>
                      some (r12, u11)
                    else
                      if p0 = 10 then
                        mb (f4_spelled 115 101 97 0 0 0 u) fun r13 u12 =>
                        some (r13, u12)
                      else
                        if p0 = 11 then
                          mb (f4_spelled 119 97 121 0 0 0 u) fun r14 u13 =>
                          some (r14, u13)
                        else
                          if p0 = 12 then
                            mb (f4_spelled 112 101 114 115 111 110 u) fun r15 u14 =>
                            some (r15, u14)
                          else
                            if p0 = 13 then
                              mb (f4_spelled 119 114 105 116 101 115 u) fun r16 u15 =>
                              some (r16, u15)
                            else
                              if p0 = 14 then
                                mb (f4_spelled 97 110 100 0 0 0 u) fun r17 u16 =>
                                some (r17, u16)
                              else
                                if p0 = 15 then
                                  mb (f4_spelled 111 114 0 0 0 0 u) fun r18 u17 =>
                                  some (r18, u17)
                                else
                                  mb (f4_spelled 110 111 116 0 0 0 u) fun r18 u17 =>
                                  some (r18, u17)
theorem ct4_letters (t : TT) (g : GM) (l : Launch) (p0 : Int32) (u : MS) : CtM mkJ t g l yX4_letters cX4_letters 1 (some .long) LV_letters [.int p0] u (f4_letters p0 u) := by
  refine ctM_of [(0, .int p0)] rfl (Nat.le_of_ble_eq_true rfl) rfl (fun p e s m args below meth c C => ?_)
  unfold f4_letters
  refine v_iload_n C 0 rfl rfl dX4_letters_0 ?_
  refine v_if (fun h1 => ?_) (fun h1 => ?_)
  · refine v_tableIn C (79) 80 (by rw [h1]; decide) (by rw [h1]; decide) (by rw [h1]; rfl) (by decide) dX4_letters_1 ?_
    refine v_bipush C 103 (by decide) dX4_letters_80 ?_
    refine v_bipush C 111 (by decide) dX4_letters_82 ?_
    refine v_bipush C 111 (by decide) dX4_letters_84 ?_
    refine v_bipush C 100 (by decide) dX4_letters_86 ?_
    refine v_bipush C 115 (by decide) dX4_letters_88 ?_
    refine v_iconst C 0 (by decide) dX4_letters_90 ?_
    refine v_callSM C [.int 103, .int 111, .int 111, .int 100, .int 115, .int 0] [] (ct4_spelled t g l 103 111 111 100 115 0 u) (cw4_spelled C q1927 (by decide)) rfl rfl (Nat.le_of_ble_eq_true rfl) dX4_letters_91 (fun r3 u2 => ?_)
    exact v_lretM C dX4_letters_94
  · skip
    refine v_if (fun h2 => ?_) (fun h2 => ?_)
    · refine v_tableIn C (94) 95 (by rw [h2]; decide) (by rw [h2]; decide) (by rw [h2]; rfl) (by decide) dX4_letters_1 ?_
      refine v_bipush C 100 (by decide) dX4_letters_95 ?_
      refine v_bipush C 101 (by decide) dX4_letters_97 ?_
      refine v_bipush C 98 (by decide) dX4_letters_99 ?_
      refine v_bipush C 116 (by decide) dX4_letters_101 ?_
      refine v_iconst C 0 (by decide) dX4_letters_103 ?_
      refine v_iconst C 0 (by decide) dX4_letters_104 ?_
      refine v_callSM C [.int 100, .int 101, .int 98, .int 116, .int 0, .int 0] [] (ct4_spelled t g l 100 101 98 116 0 0 u) (cw4_spelled C q1927 (by decide)) rfl rfl (Nat.le_of_ble_eq_true rfl) dX4_letters_105 (fun r4 u3 => ?_)
      exact v_lretM C dX4_letters_108
    · skip
      refine v_if (fun h3 => ?_) (fun h3 => ?_)
      · refine v_tableIn C (108) 109 (by rw [h3]; decide) (by rw [h3]; decide) (by rw [h3]; rfl) (by decide) dX4_letters_1 ?_
        refine v_bipush C 102 (by decide) dX4_letters_109 ?_
        refine v_bipush C 111 (by decide) dX4_letters_111 ?_
        refine v_bipush C 101 (by decide) dX4_letters_113 ?_
        refine v_iconst C 0 (by decide) dX4_letters_115 ?_
        refine v_iconst C 0 (by decide) dX4_letters_116 ?_
        refine v_iconst C 0 (by decide) dX4_letters_117 ?_
        refine v_callSM C [.int 102, .int 111, .int 101, .int 0, .int 0, .int 0] [] (ct4_spelled t g l 102 111 101 0 0 0 u) (cw4_spelled C q1927 (by decide)) rfl rfl (Nat.le_of_ble_eq_true rfl) dX4_letters_118 (fun r5 u4 => ?_)
        exact v_lretM C dX4_letters_121
      · skip
        refine v_if (fun h4 => ?_) (fun h4 => ?_)
        · refine v_tableIn C (121) 122 (by rw [h4]; decide) (by rw [h4]; decide) (by rw [h4]; rfl) (by decide) dX4_letters_1 ?_
          refine v_bipush C 102 (by decide) dX4_letters_122 ?_
          refine v_bipush C 114 (by decide) dX4_letters_124 ?_
          refine v_bipush C 105 (by decide) dX4_letters_126 ?_
          refine v_bipush C 101 (by decide) dX4_letters_128 ?_
          refine v_bipush C 110 (by decide) dX4_letters_130 ?_
          refine v_bipush C 100 (by decide) dX4_letters_132 ?_
          refine v_callSM C [.int 102, .int 114, .int 105, .int 101, .int 110, .int 100] [] (ct4_spelled t g l 102 114 105 101 110 100 u) (cw4_spelled C q1927 (by decide)) rfl rfl (Nat.le_of_ble_eq_true rfl) dX4_letters_134 (fun r6 u5 => ?_)
          exact v_lretM C dX4_letters_137
        · skip
          refine v_if (fun h5 => ?_) (fun h5 => ?_)
          · refine v_tableIn C (137) 138 (by rw [h5]; decide) (by rw [h5]; decide) (by rw [h5]; rfl) (by decide) dX4_letters_1 ?_
            refine v_bipush C 107 (by decide) dX4_letters_138 ?_
            refine v_bipush C 105 (by decide) dX4_letters_140 ?_
            refine v_bipush C 110 (by decide) dX4_letters_142 ?_
            refine v_iconst C 0 (by decide) dX4_letters_144 ?_
            refine v_iconst C 0 (by decide) dX4_letters_145 ?_
            refine v_iconst C 0 (by decide) dX4_letters_146 ?_
            refine v_callSM C [.int 107, .int 105, .int 110, .int 0, .int 0, .int 0] [] (ct4_spelled t g l 107 105 110 0 0 0 u) (cw4_spelled C q1927 (by decide)) rfl rfl (Nat.le_of_ble_eq_true rfl) dX4_letters_147 (fun r7 u6 => ?_)
            exact v_lretM C dX4_letters_150
          · skip
            refine v_if (fun h6 => ?_) (fun h6 => ?_)
            · refine v_tableIn C (150) 151 (by rw [h6]; decide) (by rw [h6]; decide) (by rw [h6]; rfl) (by decide) dX4_letters_1 ?_
              refine v_bipush C 108 (by decide) dX4_letters_151 ?_
              refine v_bipush C 105 (by decide) dX4_letters_153 ?_
              refine v_bipush C 115 (by decide) dX4_letters_155 ?_
              refine v_bipush C 116 (by decide) dX4_letters_157 ?_
              refine v_bipush C 101 (by decide) dX4_letters_159 ?_
              refine v_bipush C 100 (by decide) dX4_letters_161 ?_
              refine v_callSM C [.int 108, .int 105, .int 115, .int 116, .int 101, .int 100] [] (ct4_spelled t g l 108 105 115 116 101 100 u) (cw4_spelled C q1927 (by decide)) rfl rfl (Nat.le_of_ble_eq_true rfl) dX4_letters_163 (fun r8 u7 => ?_)
              exact v_lretM C dX4_letters_166
            · skip
              refine v_if (fun h7 => ?_) (fun h7 => ?_)
              · refine v_tableIn C (166) 167 (by rw [h7]; decide) (by rw [h7]; decide) (by rw [h7]; rfl) (by decide) dX4_letters_1 ?_
                refine v_bipush C 100 (by decide) dX4_letters_167 ?_
                refine v_bipush C 97 (by decide) dX4_letters_169 ?_
                refine v_bipush C 121 (by decide) dX4_letters_171 ?_
                refine v_iconst C 0 (by decide) dX4_letters_173 ?_
                refine v_iconst C 0 (by decide) dX4_letters_174 ?_
                refine v_iconst C 0 (by decide) dX4_letters_175 ?_
                refine v_callSM C [.int 100, .int 97, .int 121, .int 0, .int 0, .int 0] [] (ct4_spelled t g l 100 97 121 0 0 0 u) (cw4_spelled C q1927 (by decide)) rfl rfl (Nat.le_of_ble_eq_true rfl) dX4_letters_176 (fun r9 u8 => ?_)
                exact v_lretM C dX4_letters_179
              · skip
                refine v_if (fun h8 => ?_) (fun h8 => ?_)
                · refine v_tableIn C (179) 180 (by rw [h8]; decide) (by rw [h8]; decide) (by rw [h8]; rfl) (by decide) dX4_letters_1 ?_
                  refine v_bipush C 115 (by decide) dX4_letters_180 ?_
                  refine v_bipush C 97 (by decide) dX4_letters_182 ?_
                  refine v_bipush C 108 (by decide) dX4_letters_184 ?_
                  refine v_bipush C 101 (by decide) dX4_letters_186 ?_
                  refine v_bipush C 115 (by decide) dX4_letters_188 ?_
                  refine v_iconst C 0 (by decide) dX4_letters_190 ?_
                  refine v_callSM C [.int 115, .int 97, .int 108, .int 101, .int 115, .int 0] [] (ct4_spelled t g l 115 97 108 101 115 0 u) (cw4_spelled C q1927 (by decide)) rfl rfl (Nat.le_of_ble_eq_true rfl) dX4_letters_191 (fun r10 u9 => ?_)
                  exact v_lretM C dX4_letters_194
                · skip
                  refine v_if (fun h9 => ?_) (fun h9 => ?_)
                  · refine v_tableIn C (194) 195 (by rw [h9]; decide) (by rw [h9]; decide) (by rw [h9]; rfl) (by decide) dX4_letters_1 ?_
                    refine v_bipush C 109 (by decide) dX4_letters_195 ?_
                    refine v_bipush C 97 (by decide) dX4_letters_197 ?_
                    refine v_bipush C 115 (by decide) dX4_letters_199 ?_
                    refine v_bipush C 116 (by decide) dX4_letters_201 ?_
                    refine v_bipush C 101 (by decide) dX4_letters_203 ?_
                    refine v_bipush C 114 (by decide) dX4_letters_205 ?_
                    refine v_callSM C [.int 109, .int 97, .int 115, .int 116, .int 101, .int 114] [] (ct4_spelled t g l 109 97 115 116 101 114 u) (cw4_spelled C q1927 (by decide)) rfl rfl (Nat.le_of_ble_eq_true rfl) dX4_letters_207 (fun r11 u10 => ?_)
                    exact v_lretM C dX4_letters_210
                  · skip
                    refine v_if (fun h10 => ?_) (fun h10 => ?_)
                    · refine v_tableIn C (210) 211 (by rw [h10]; decide) (by rw [h10]; decide) (by rw [h10]; rfl) (by decide) dX4_letters_1 ?_
                      refine v_bipush C 112 (by decide) dX4_letters_211 ?_
                      refine v_bipush C 108 (by decide) dX4_letters_213 ?_
                      refine v_bipush C 97 (by decide) dX4_letters_215 ?_
                      refine v_bipush C 99 (by decide) dX4_letters_217 ?_
                      refine v_bipush C 101 (by decide) dX4_letters_219 ?_
                      refine v_iconst C 0 (by decide) dX4_letters_221 ?_
                      refine v_callSM C [.int 112, .int 108, .int 97, .int 99, .int 101, .int 0] [] (ct4_spelled t g l 112 108 97 99 101 0 u) (cw4_spelled C q1927 (by decide)) rfl rfl (Nat.le_of_ble_eq_true rfl) dX4_letters_222 (fun r12 u11 => ?_)
                      exact v_lretM C dX4_letters_225
                    · skip
                      refine v_if (fun h11 => ?_) (fun h11 => ?_)
                      · refine v_tableIn C (225) 226 (by rw [h11]; decide) (by rw [h11]; decide) (by rw [h11]; rfl) (by decide) dX4_letters_1 ?_
                        refine v_bipush C 115 (by decide) dX4_letters_226 ?_
                        refine v_bipush C 101 (by decide) dX4_letters_228 ?_
                        refine v_bipush C 97 (by decide) dX4_letters_230 ?_
                        refine v_iconst C 0 (by decide) dX4_letters_232 ?_
                        refine v_iconst C 0 (by decide) dX4_letters_233 ?_
                        refine v_iconst C 0 (by decide) dX4_letters_234 ?_
                        refine v_callSM C [.int 115, .int 101, .int 97, .int 0, .int 0, .int 0] [] (ct4_spelled t g l 115 101 97 0 0 0 u) (cw4_spelled C q1927 (by decide)) rfl rfl (Nat.le_of_ble_eq_true rfl) dX4_letters_235 (fun r13 u12 => ?_)
                        exact v_lretM C dX4_letters_238
                      · skip
                        refine v_if (fun h12 => ?_) (fun h12 => ?_)
                        · refine v_tableIn C (238) 239 (by rw [h12]; decide) (by rw [h12]; decide) (by rw [h12]; rfl) (by decide) dX4_letters_1 ?_
                          refine v_bipush C 119 (by decide) dX4_letters_239 ?_
                          refine v_bipush C 97 (by decide) dX4_letters_241 ?_
                          refine v_bipush C 121 (by decide) dX4_letters_243 ?_
                          refine v_iconst C 0 (by decide) dX4_letters_245 ?_
                          refine v_iconst C 0 (by decide) dX4_letters_246 ?_
                          refine v_iconst C 0 (by decide) dX4_letters_247 ?_
                          refine v_callSM C [.int 119, .int 97, .int 121, .int 0, .int 0, .int 0] [] (ct4_spelled t g l 119 97 121 0 0 0 u) (cw4_spelled C q1927 (by decide)) rfl rfl (Nat.le_of_ble_eq_true rfl) dX4_letters_248 (fun r14 u13 => ?_)
                          exact v_lretM C dX4_letters_251
                        · skip
                          refine v_if (fun h13 => ?_) (fun h13 => ?_)
                          · refine v_tableIn C (251) 252 (by rw [h13]; decide) (by rw [h13]; decide) (by rw [h13]; rfl) (by decide) dX4_letters_1 ?_
                            refine v_bipush C 112 (by decide) dX4_letters_252 ?_
                            refine v_bipush C 101 (by decide) dX4_letters_254 ?_
                            refine v_bipush C 114 (by decide) dX4_letters_256 ?_
                            refine v_bipush C 115 (by decide) dX4_letters_258 ?_
                            refine v_bipush C 111 (by decide) dX4_letters_260 ?_
                            refine v_bipush C 110 (by decide) dX4_letters_262 ?_
                            refine v_callSM C [.int 112, .int 101, .int 114, .int 115, .int 111, .int 110] [] (ct4_spelled t g l 112 101 114 115 111 110 u) (cw4_spelled C q1927 (by decide)) rfl rfl (Nat.le_of_ble_eq_true rfl) dX4_letters_264 (fun r15 u14 => ?_)
                            exact v_lretM C dX4_letters_267
                          · skip
                            refine v_if (fun h14 => ?_) (fun h14 => ?_)
                            · refine v_tableIn C (267) 268 (by rw [h14]; decide) (by rw [h14]; decide) (by rw [h14]; rfl) (by decide) dX4_letters_1 ?_
                              refine v_bipush C 119 (by decide) dX4_letters_268 ?_
                              refine v_bipush C 114 (by decide) dX4_letters_270 ?_
                              refine v_bipush C 105 (by decide) dX4_letters_272 ?_
                              refine v_bipush C 116 (by decide) dX4_letters_274 ?_
                              refine v_bipush C 101 (by decide) dX4_letters_276 ?_
                              refine v_bipush C 115 (by decide) dX4_letters_278 ?_
                              refine v_callSM C [.int 119, .int 114, .int 105, .int 116, .int 101, .int 115] [] (ct4_spelled t g l 119 114 105 116 101 115 u) (cw4_spelled C q1927 (by decide)) rfl rfl (Nat.le_of_ble_eq_true rfl) dX4_letters_280 (fun r16 u15 => ?_)
                              exact v_lretM C dX4_letters_283
                            · skip
                              refine v_if (fun h15 => ?_) (fun h15 => ?_)
                              · refine v_tableIn C (283) 284 (by rw [h15]; decide) (by rw [h15]; decide) (by rw [h15]; rfl) (by decide) dX4_letters_1 ?_
                                refine v_bipush C 97 (by decide) dX4_letters_284 ?_
                                refine v_bipush C 110 (by decide) dX4_letters_286 ?_
                                refine v_bipush C 100 (by decide) dX4_letters_288 ?_
                                refine v_iconst C 0 (by decide) dX4_letters_290 ?_
                                refine v_iconst C 0 (by decide) dX4_letters_291 ?_
                                refine v_iconst C 0 (by decide) dX4_letters_292 ?_
                                refine v_callSM C [.int 97, .int 110, .int 100, .int 0, .int 0, .int 0] [] (ct4_spelled t g l 97 110 100 0 0 0 u) (cw4_spelled C q1927 (by decide)) rfl rfl (Nat.le_of_ble_eq_true rfl) dX4_letters_293 (fun r17 u16 => ?_)
                                exact v_lretM C dX4_letters_296
                              · skip
                                refine v_if (fun h16 => ?_) (fun h16 => ?_)
                                · refine v_tableIn C (296) 297 (by rw [h16]; decide) (by rw [h16]; decide) (by rw [h16]; rfl) (by decide) dX4_letters_1 ?_
                                  refine v_bipush C 111 (by decide) dX4_letters_297 ?_
                                  refine v_bipush C 114 (by decide) dX4_letters_299 ?_
                                  refine v_iconst C 0 (by decide) dX4_letters_301 ?_
                                  refine v_iconst C 0 (by decide) dX4_letters_302 ?_
                                  refine v_iconst C 0 (by decide) dX4_letters_303 ?_
                                  refine v_iconst C 0 (by decide) dX4_letters_304 ?_
                                  refine v_callSM C [.int 111, .int 114, .int 0, .int 0, .int 0, .int 0] [] (ct4_spelled t g l 111 114 0 0 0 0 u) (cw4_spelled C q1927 (by decide)) rfl rfl (Nat.le_of_ble_eq_true rfl) dX4_letters_305 (fun r18 u17 => ?_)
                                  exact v_lretM C dX4_letters_308
                                · skip
                                  refine v_tableOut C 309 (by have := lv_neT (a := 0) h1 (by decide); have := lv_neT (a := 1) h2 (by decide); have := lv_neT (a := 2) h3 (by decide); have := lv_neT (a := 3) h4 (by decide); have := lv_neT (a := 4) h5 (by decide); have := lv_neT (a := 5) h6 (by decide); have := lv_neT (a := 6) h7 (by decide); have := lv_neT (a := 7) h8 (by decide); have := lv_neT (a := 8) h9 (by decide); have := lv_neT (a := 9) h10 (by decide); have := lv_neT (a := 10) h11 (by decide); have := lv_neT (a := 11) h12 (by decide); have := lv_neT (a := 12) h13 (by decide); have := lv_neT (a := 13) h14 (by decide); have := lv_neT (a := 14) h15 (by decide); have := lv_neT (a := 15) h16 (by decide); omega) (by decide) dX4_letters_1 ?_
                                  refine v_bipush C 110 (by decide) dX4_letters_309 ?_
                                  refine v_bipush C 111 (by decide) dX4_letters_311 ?_
                                  refine v_bipush C 116 (by decide) dX4_letters_313 ?_
                                  refine v_iconst C 0 (by decide) dX4_letters_315 ?_
                                  refine v_iconst C 0 (by decide) dX4_letters_316 ?_
                                  refine v_iconst C 0 (by decide) dX4_letters_317 ?_
                                  refine v_callSM C [.int 110, .int 111, .int 116, .int 0, .int 0, .int 0] [] (ct4_spelled t g l 110 111 116 0 0 0 u) (cw4_spelled C q1927 (by decide)) rfl rfl (Nat.le_of_ble_eq_true rfl) dX4_letters_318 (fun r18 u17 => ?_)
                                  exact v_lretM C dX4_letters_321
theorem cw4_letters {t : TT} {p : Program} {s : State} {m : MethodId} {args : Array Value} {meth : Method} {c : Code} {y0 : MethodName} {cc0 : ByteArray} {nL0 : Nat} {ret0 : Option FieldType} (C : Cx t p s m args meth c y0 cc0 nL0 ret0) {index lv : Nat} (hq : Cond.methodLink y0.cls index yX4_letters ∈ lw_all) (hR : LV_letters + 1 ≤ lv) : CallB (rmM lv) s args y0.cls index yX4_letters cX4_letters 1 (some .long) (ws_ yX4_letters cX4_letters 1 (some .long)) (rmM LV_letters) 0 0 1 ∧ (Cond.static yX4_letters).before args s = true :=
  ⟨callB_of 1 C.2.2.2.2.1 (lw_meth q1926) rfl rfl rfl (C.2.2.2.2.1 _ q127) (C.2.2.2.2.1 _ hq) (by decide +kernel) ⟨hR, by show 8 + (1 + 11) + 100 * LV_letters ≤ 100 * lv; omega⟩, C.2.2.2.2.1 _ q1925⟩
abbrev LV_knownWord : Nat := 2
def f4_knownWord_21 (k : Int32 → MS → Option (Int32 × MS)) (x1 : Int32) (u : MS) : Option (Int32 × MS) :=
  if 17 ≤ x1 then
    some (-1, u)
  else
    mb (f4_letters x1 u) fun r2 u1 =>
    if (lg_cmp r2 u1.2.2) = 0 then
      some (x1, u1)
    else
      k (x1 + 1) u1
theorem w4_knownWord_21 {p : Program} {e : Env} {s : State} {m : MethodId} {args : Array Value} {below : List Frame} {meth : Method} {c : Code} (C : Cx t p s m args meth c yX4_knownWord cX4_knownWord 2 (some .int)) (n : Nat) (x1 : Int32) (u : MS) : VM mkI t g p l e LV_knownWord s m args below meth c 2 21 [(0, .ref g.1), (1, .int x1)] [] u (ml1 (f4_knownWord_21) n x1 u) := by
  refine vl1 (L := fun x1 => [(0, .ref g.1), (1, .int x1)]) (fun k hk x1 u => ?_) n x1 u
  unfold f4_knownWord_21
  refine v_iload_n C 1 rfl rfl dX4_knownWord_21 ?_
  refine v_bipush C 17 (by decide) dX4_knownWord_22 ?_
  refine v_icmp_ge C 47 (by decide) dX4_knownWord_24 (fun _ => ?_) (fun _ => ?_)
  · refine v_iconst C (-1) (by decide) dX4_knownWord_47 ?_
    exact v_iretM C dX4_knownWord_48
  · refine v_iload_n C 1 rfl rfl dX4_knownWord_27 ?_
    refine v_callSM C [.int x1] [] (ct4_letters t g l x1 u) (cw4_letters C q1924 (by decide)) rfl rfl (Nat.le_of_ble_eq_true rfl) dX4_knownWord_28 (fun r2 u1 => ?_)
    refine v_aload_n C 0 rfl rfl dX4_knownWord_31 ?_
    refine v_getMl C 30 (by decide) (by decide) q1645 rfl dX4_knownWord_32 ?_
    refine v_lcmp C dX4_knownWord_35 ?_
    refine v_if_ne C 41 (by decide) dX4_knownWord_36 (fun _ => ?_) (fun _ => ?_)
    · refine v_iload_n C 1 rfl rfl dX4_knownWord_39 ?_
      exact v_iretM C dX4_knownWord_40
    · refine v_iinc C 1 [(1, .int (x1 + 1)), (0, .ref g.1)] 1 rfl (by decide) (by decide) rfl dX4_knownWord_41 ?_
      refine v_goto C 21 (by decide) dX4_knownWord_44 ?_
      refine v_sub [1, 0] rfl ?_
      exact hk (x1 + 1) u1
def f4_knownWord (u : MS) : Option (Int32 × MS) :=
  if (u.1 25) = 1 then
    if (u.1 27) ≤ 6 then
      ml1 (f4_knownWord_21) FUEL 0 u
    else
      some (-1, u)
  else
    some (-1, u)
theorem ct4_knownWord (t : TT) (g : GM) (l : Launch) (u : MS) : CtM mkI t g l yX4_knownWord cX4_knownWord 2 (some .int) LV_knownWord [.ref g.1] u (f4_knownWord u) := by
  refine ctM_of [(0, .ref g.1)] rfl (Nat.le_of_ble_eq_true rfl) rfl (fun p e s m args below meth c C => ?_)
  unfold f4_knownWord
  refine v_aload_n C 0 rfl rfl dX4_knownWord_0 ?_
  refine v_getMi C 25 (by decide) (by decide) q1640 rfl dX4_knownWord_1 ?_
  refine v_iconst C 1 (by decide) dX4_knownWord_4 ?_
  refine v_icmp_ne C 17 (by decide) dX4_knownWord_5 (fun _ => ?_) (fun _ => ?_)
  · refine v_aload_n C 0 rfl rfl dX4_knownWord_8 ?_
    refine v_getMi C 27 (by decide) (by decide) q1642 rfl dX4_knownWord_9 ?_
    refine v_bipush C 6 (by decide) dX4_knownWord_12 ?_
    refine v_icmp_le C 19 (by decide) dX4_knownWord_14 (fun _ => ?_) (fun _ => ?_)
    · refine v_iconst C 0 (by decide) dX4_knownWord_19 ?_
      refine v_istore_n C [(1, .int 0), (0, .ref g.1)] rfl (by decide) rfl dX4_knownWord_20 ?_
      refine v_sub [1, 0] rfl ?_
      exact w4_knownWord_21 C FUEL 0 u
    · refine v_iconst C (-1) (by decide) dX4_knownWord_17 ?_
      exact v_iretM C dX4_knownWord_18
  · refine v_iconst C (-1) (by decide) dX4_knownWord_17 ?_
    exact v_iretM C dX4_knownWord_18
theorem cw4_knownWord {t : TT} {p : Program} {s : State} {m : MethodId} {args : Array Value} {meth : Method} {c : Code} {y0 : MethodName} {cc0 : ByteArray} {nL0 : Nat} {ret0 : Option FieldType} (C : Cx t p s m args meth c y0 cc0 nL0 ret0) {index lv : Nat} (hq : Cond.methodLink y0.cls index yX4_knownWord ∈ lw_all) (hR : LV_knownWord + 1 ≤ lv) : CallW (rmM lv) s args y0.cls RX4 index yX4_knownWord cX4_knownWord 2 (some .int) (ws_ yX4_knownWord cX4_knownWord 2 (some .int)) (rmM LV_knownWord) 0 0 0 :=
  cwV 0 C.2.2.2.2.1 (lw_V hq q1922 qs59 q127 q1923) rfl rfl rfl (by decide +kernel) ⟨hR, by show 8 + (2 + 11) + 100 * LV_knownWord ≤ 100 * lv; omega⟩
abbrev LV_wrong : Nat := 0
def f4_wrong (p1 : Int32) (u : MS) : Option (Unit × MS) :=
  if (u.1 20) = 0 then
    mlet (mS u 20 p1) fun u1 =>
    mlet (mS u1 21 (u1.1 26)) fun u2 =>
    some ((), u2)
  else
    some ((), u)
theorem ct4_wrong (t : TT) (g : GM) (l : Launch) (p1 : Int32) (u : MS) : CtM mkU t g l yX4_wrong cX4_wrong 2 none LV_wrong [.ref g.1, .int p1] u (f4_wrong p1 u) := by
  refine ctM_of [(0, .ref g.1), (1, .int p1)] rfl (Nat.le_of_ble_eq_true rfl) rfl (fun p e s m args below meth c C => ?_)
  unfold f4_wrong
  refine v_aload_n C 0 rfl rfl dX4_wrong_0 ?_
  refine v_getMi C 20 (by decide) (by decide) q1635 rfl dX4_wrong_1 ?_
  refine v_if_eq C 8 (by decide) dX4_wrong_4 (fun _ => ?_) (fun _ => ?_)
  · refine v_aload_n C 0 rfl rfl dX4_wrong_8 ?_
    refine v_iload_n C 1 rfl rfl dX4_wrong_9 ?_
    refine v_putMi C 20 (by decide) (by decide) q1635 rfl rfl (by decide +kernel) dX4_wrong_10 (fun u1 => ?_)
    refine v_aload_n C 0 rfl rfl dX4_wrong_13 ?_
    refine v_aload_n C 0 rfl rfl dX4_wrong_14 ?_
    refine v_getMi C 26 (by decide) (by decide) q1641 rfl dX4_wrong_15 ?_
    refine v_putMi C 21 (by decide) (by decide) q1636 rfl rfl (by decide +kernel) dX4_wrong_18 (fun u2 => ?_)
    exact v_vretM C dX4_wrong_21
  · exact v_vretM C dX4_wrong_7
theorem cw4_wrong {t : TT} {p : Program} {s : State} {m : MethodId} {args : Array Value} {meth : Method} {c : Code} {y0 : MethodName} {cc0 : ByteArray} {nL0 : Nat} {ret0 : Option FieldType} (C : Cx t p s m args meth c y0 cc0 nL0 ret0) {index lv : Nat} (hq : Cond.methodLink y0.cls index yX4_wrong ∈ lw_all) (hR : LV_wrong + 1 ≤ lv) : CallW (rmM lv) s args y0.cls RX4 index yX4_wrong cX4_wrong 2 none (ws_ yX4_wrong cX4_wrong 2 none) (rmM LV_wrong) 0 0 1 :=
  cwV 1 C.2.2.2.2.1 (lw_V hq q1933 qs60 q127 q1934) rfl rfl rfl (by decide +kernel) ⟨hR, by show 8 + (2 + 11) + 100 * LV_wrong ≤ 100 * lv; omega⟩
abbrev LV_number : Nat := 2
def f4_number_54 (p1 : Int32) (p2 : Int32) (u : MS) : Option (Int32 × MS) :=
  mlet (u.1 28) fun v1 =>
  mb (f4_isGood u) fun r3 u2 =>
  if r3 = 0 then
    some (v1, u2)
  else
    mb (f4_goes u2) fun _ u4 =>
    some (v1, u4)
theorem w4_number_54 {p : Program} {e : Env} {s : State} {m : MethodId} {args : Array Value} {below : List Frame} {meth : Method} {c : Code} (C : Cx t p s m args meth c yX4_number cX4_number 4 (some .int)) (p1 : Int32) (p2 : Int32) (u : MS) : VM mkI t g p l e LV_number s m args below meth c 4 54 [(0, .ref g.1)] [] u (f4_number_54 p1 p2 u) := by
  unfold f4_number_54
  refine v_aload_n C 0 rfl rfl dX4_number_54 ?_
  refine v_getMi C 28 (by decide) (by decide) q1643 rfl dX4_number_55 ?_
  refine v_topi (fun v1 => ?_)
  refine v_istore_n C [(3, .int v1), (0, .ref g.1)] rfl (by decide) rfl dX4_number_58 ?_
  refine v_aload_n C 1 rfl rfl dX4_number_59 ?_
  refine v_callVM C [] [] (ct4_isGood t g l u) (cw4_isGood C q1912 (by decide)) rfl rfl (Nat.le_of_ble_eq_true rfl) dX4_number_60 (fun r3 u2 => ?_)
  refine v_if_eq C 70 (by decide) dX4_number_63 (fun _ => ?_) (fun _ => ?_)
  · refine v_iload_n C 0 rfl rfl dX4_number_70 ?_
    exact v_iretM C dX4_number_71
  · refine v_aload_n C 1 rfl rfl dX4_number_66 ?_
    refine v_callVM C [] [] (ct4_goes t g l u2) (cw4_goes C q1898 (by decide)) rfl rfl (Nat.le_of_ble_eq_true rfl) dX4_number_67 (fun _ u4 => ?_)
    refine v_iload_n C 0 rfl rfl dX4_number_70 ?_
    exact v_iretM C dX4_number_71
def f4_number_49 (p1 : Int32) (p2 : Int32) (u : MS) : Option (Int32 × MS) :=
  mb (f4_wrong 2 u) fun _ u1 =>
  f4_number_54 p1 p2 u1
theorem w4_number_49 {p : Program} {e : Env} {s : State} {m : MethodId} {args : Array Value} {below : List Frame} {meth : Method} {c : Code} (C : Cx t p s m args meth c yX4_number cX4_number 4 (some .int)) (p1 : Int32) (p2 : Int32) (u : MS) : VM mkI t g p l e LV_number s m args below meth c 4 49 [(0, .ref g.1)] [] u (f4_number_49 p1 p2 u) := by
  unfold f4_number_49
  refine v_aload_n C 0 rfl rfl dX4_number_49 ?_
  refine v_iconst C 2 (by decide) dX4_number_50 ?_
  refine v_callVM C [.int 2] [] (ct4_wrong t g l 2 u) (cw4_wrong C q1931 (by decide)) rfl rfl (Nat.le_of_ble_eq_true rfl) dX4_number_51 (fun _ u1 => ?_)
  exact w4_number_54 C p1 p2 u1
def f4_number (p1 : Int32) (p2 : Int32) (u : MS) : Option (Int32 × MS) :=
  mb (f4_isGood u) fun r2 u1 =>
  if r2 = 0 then
    some (0, u1)
  else
    if (u1.1 25) = 2 then
      if 4 < (u1.1 27) then
        f4_number_49 p1 p2 u1
      else
        if (u1.1 28) < p1 then
          f4_number_49 p1 p2 u1
        else
          if (u1.1 28) ≤ p2 then
            f4_number_54 p1 p2 u1
          else
            f4_number_49 p1 p2 u1
    else
      mb (f4_wrong 1 u1) fun _ u3 =>
      f4_number_54 p1 p2 u3
theorem ct4_number (t : TT) (g : GM) (l : Launch) (p1 : Int32) (p2 : Int32) (u : MS) : CtM mkI t g l yX4_number cX4_number 4 (some .int) LV_number [.ref g.1, .int p1, .int p2] u (f4_number p1 p2 u) := by
  refine ctM_of [(0, .ref g.1), (1, .int p1), (2, .int p2)] rfl (Nat.le_of_ble_eq_true rfl) rfl (fun p e s m args below meth c C => ?_)
  unfold f4_number
  refine v_aload_n C 0 rfl rfl dX4_number_0 ?_
  refine v_callVM C [] [] (ct4_isGood t g l u) (cw4_isGood C q1912 (by decide)) rfl rfl (Nat.le_of_ble_eq_true rfl) dX4_number_1 (fun r2 u1 => ?_)
  refine v_if_ne C 9 (by decide) dX4_number_4 (fun _ => ?_) (fun _ => ?_)
  · refine v_iconst C 0 (by decide) dX4_number_7 ?_
    exact v_iretM C dX4_number_8
  · refine v_aload_n C 0 rfl rfl dX4_number_9 ?_
    refine v_getMi C 25 (by decide) (by decide) q1640 rfl dX4_number_10 ?_
    refine v_iconst C 2 (by decide) dX4_number_13 ?_
    refine v_icmp_eq C 25 (by decide) dX4_number_14 (fun _ => ?_) (fun _ => ?_)
    · refine v_aload_n C 0 rfl rfl dX4_number_25 ?_
      refine v_getMi C 27 (by decide) (by decide) q1642 rfl dX4_number_26 ?_
      refine v_iconst C 4 (by decide) dX4_number_29 ?_
      refine v_icmp_gt C 49 (by decide) dX4_number_30 (fun _ => ?_) (fun _ => ?_)
      · refine v_sub [0] rfl ?_
        exact w4_number_49 C p1 p2 u1
      · refine v_aload_n C 0 rfl rfl dX4_number_33 ?_
        refine v_getMi C 28 (by decide) (by decide) q1643 rfl dX4_number_34 ?_
        refine v_iload_n C 1 rfl rfl dX4_number_37 ?_
        refine v_icmp_lt C 49 (by decide) dX4_number_38 (fun _ => ?_) (fun _ => ?_)
        · refine v_sub [0] rfl ?_
          exact w4_number_49 C p1 p2 u1
        · refine v_aload_n C 0 rfl rfl dX4_number_41 ?_
          refine v_getMi C 28 (by decide) (by decide) q1643 rfl dX4_number_42 ?_
          refine v_iload_n C 2 rfl rfl dX4_number_45 ?_
          refine v_icmp_le C 54 (by decide) dX4_number_46 (fun _ => ?_) (fun _ => ?_)
          · refine v_sub [0] rfl ?_
            exact w4_number_54 C p1 p2 u1
          · refine v_sub [0] rfl ?_
            exact w4_number_49 C p1 p2 u1
    · refine v_aload_n C 0 rfl rfl dX4_number_17 ?_
      refine v_iconst C 1 (by decide) dX4_number_18 ?_
      refine v_callVM C [.int 1] [] (ct4_wrong t g l 1 u1) (cw4_wrong C q1931 (by decide)) rfl rfl (Nat.le_of_ble_eq_true rfl) dX4_number_19 (fun _ u3 => ?_)
      refine v_goto C 54 (by decide) dX4_number_22 ?_
      refine v_sub [0] rfl ?_
      exact w4_number_54 C p1 p2 u3
theorem cw4_number {t : TT} {p : Program} {s : State} {m : MethodId} {args : Array Value} {meth : Method} {c : Code} {y0 : MethodName} {cc0 : ByteArray} {nL0 : Nat} {ret0 : Option FieldType} (C : Cx t p s m args meth c y0 cc0 nL0 ret0) {index lv : Nat} (hq : Cond.methodLink y0.cls index yX4_number ∈ lw_all) (hR : LV_number + 1 ≤ lv) : CallW (rmM lv) s args y0.cls RX4 index yX4_number cX4_number 4 (some .int) (ws_ yX4_number cX4_number 4 (some .int)) (rmM LV_number) 0 0 2 :=
  cwV 2 C.2.2.2.2.1 (lw_V hq q1937 qs61 q127 q1938) rfl rfl rfl (by decide +kernel) ⟨hR, by show 8 + (4 + 11) + 100 * LV_number ≤ 100 * lv; omega⟩
abbrev LV_readsPlace : Nat := 3
def f4_readsPlace_49 (p1 : Int32) (s1 : Int32) (s2 : Int32) (u : MS) : Option (Unit × MS) :=
  mchk (inbM s1 41) <|
  mlet (mA u 41 s1.toNatClampNeg s2) fun u2 =>
  mb (f4_isGood u2) fun r4 u3 =>
  if r4 = 0 then
    some ((), u3)
  else
    mlet (mS u3 32 ((u3.1 32) + 1)) fun u5 =>
    some ((), u5)
theorem w4_readsPlace_49 {p : Program} {e : Env} {s : State} {m : MethodId} {args : Array Value} {below : List Frame} {meth : Method} {c : Code} (C : Cx t p s m args meth c yX4_readsPlace cX4_readsPlace 2 none) (p1 : Int32) (s1 : Int32) (s2 : Int32) (u : MS) : VM mkU t g p l e LV_readsPlace s m args below meth c 2 49 [(0, .ref g.1)] [.int s2, .int s1, .ref (g.2 41)] u (f4_readsPlace_49 p1 s1 s2 u) := by
  unfold f4_readsPlace_49
  refine v_chk (fun h1 => ?_)
  refine v_iastM C h1 dX4_readsPlace_49 (fun u2 => ?_)
  refine v_aload_n C 0 rfl rfl dX4_readsPlace_50 ?_
  refine v_callVM C [] [] (ct4_isGood t g l u2) (cw4_isGood C q1912 (by decide)) rfl rfl (Nat.le_of_ble_eq_true rfl) dX4_readsPlace_51 (fun r4 u3 => ?_)
  refine v_if_eq C 67 (by decide) dX4_readsPlace_54 (fun _ => ?_) (fun _ => ?_)
  · exact v_vretM C dX4_readsPlace_67
  · refine v_aload_n C 0 rfl rfl dX4_readsPlace_57 ?_
    refine v_dup C rfl dX4_readsPlace_58 ?_
    refine v_getMi C 32 (by decide) (by decide) q1647 rfl dX4_readsPlace_59 ?_
    refine v_iconst C 1 (by decide) dX4_readsPlace_62 ?_
    refine v_iadd C dX4_readsPlace_63 ?_
    refine v_putMi C 32 (by decide) (by decide) q1647 rfl rfl (by decide +kernel) dX4_readsPlace_64 (fun u5 => ?_)
    exact v_vretM C dX4_readsPlace_67
def f4_readsPlace_14 (p1 : Int32) (u : MS) : Option (Unit × MS) :=
  mb (f4_isGood u) fun r2 u1 =>
  if r2 = 0 then
    some ((), u1)
  else
    mb (f4_goes u1) fun _ u3 =>
    if p1 = 0 then
      mb (f4_number 0 9 u3) fun r5 u4 =>
      f4_readsPlace_49 p1 (u3.1 32) r5 u4
    else
      f4_readsPlace_49 p1 (u3.1 32) (-1) u3
theorem w4_readsPlace_14 {p : Program} {e : Env} {s : State} {m : MethodId} {args : Array Value} {below : List Frame} {meth : Method} {c : Code} (C : Cx t p s m args meth c yX4_readsPlace cX4_readsPlace 2 none) (p1 : Int32) (u : MS) : VM mkU t g p l e LV_readsPlace s m args below meth c 2 14 [(0, .ref g.1), (1, .int p1)] [] u (f4_readsPlace_14 p1 u) := by
  unfold f4_readsPlace_14
  refine v_aload_n C 0 rfl rfl dX4_readsPlace_14 ?_
  refine v_callVM C [] [] (ct4_isGood t g l u) (cw4_isGood C q1912 (by decide)) rfl rfl (Nat.le_of_ble_eq_true rfl) dX4_readsPlace_15 (fun r2 u1 => ?_)
  refine v_if_ne C 22 (by decide) dX4_readsPlace_18 (fun _ => ?_) (fun _ => ?_)
  · exact v_vretM C dX4_readsPlace_21
  · refine v_aload_n C 0 rfl rfl dX4_readsPlace_22 ?_
    refine v_callVM C [] [] (ct4_goes t g l u1) (cw4_goes C q1898 (by decide)) rfl rfl (Nat.le_of_ble_eq_true rfl) dX4_readsPlace_23 (fun _ u3 => ?_)
    refine v_aload_n C 0 rfl rfl dX4_readsPlace_26 ?_
    refine v_getMa C 41 (by decide) (by decide) q1656 rfl dX4_readsPlace_27 ?_
    refine v_aload_n C 0 rfl rfl dX4_readsPlace_30 ?_
    refine v_getMi C 32 (by decide) (by decide) q1647 rfl dX4_readsPlace_31 ?_
    refine v_iload_n C 1 rfl rfl dX4_readsPlace_34 ?_
    refine v_if_eq C 42 (by decide) dX4_readsPlace_35 (fun _ => ?_) (fun _ => ?_)
    · refine v_aload_n C 0 rfl rfl dX4_readsPlace_42 ?_
      refine v_iconst C 0 (by decide) dX4_readsPlace_43 ?_
      refine v_bipush C 9 (by decide) dX4_readsPlace_44 ?_
      refine v_callVM C [.int 0, .int 9] [.int (u3.1 32), .ref (g.2 41)] (ct4_number t g l 0 9 u3) (cw4_number C q1935 (by decide)) rfl rfl (Nat.le_of_ble_eq_true rfl) dX4_readsPlace_46 (fun r5 u4 => ?_)
      refine v_sub [0] rfl ?_
      exact w4_readsPlace_49 C p1 (u3.1 32) r5 u4
    · refine v_iconst C (-1) (by decide) dX4_readsPlace_38 ?_
      refine v_goto C 49 (by decide) dX4_readsPlace_39 ?_
      refine v_sub [0] rfl ?_
      exact w4_readsPlace_49 C p1 (u3.1 32) (-1) u3
def f4_readsPlace (p1 : Int32) (u : MS) : Option (Unit × MS) :=
  if (u.1 32) = 8 then
    mb (f4_wrong 2 u) fun _ u1 =>
    f4_readsPlace_14 p1 u1
  else
    f4_readsPlace_14 p1 u
theorem ct4_readsPlace (t : TT) (g : GM) (l : Launch) (p1 : Int32) (u : MS) : CtM mkU t g l yX4_readsPlace cX4_readsPlace 2 none LV_readsPlace [.ref g.1, .int p1] u (f4_readsPlace p1 u) := by
  refine ctM_of [(0, .ref g.1), (1, .int p1)] rfl (Nat.le_of_ble_eq_true rfl) rfl (fun p e s m args below meth c C => ?_)
  unfold f4_readsPlace
  refine v_aload_n C 0 rfl rfl dX4_readsPlace_0 ?_
  refine v_getMi C 32 (by decide) (by decide) q1647 rfl dX4_readsPlace_1 ?_
  refine v_bipush C 8 (by decide) dX4_readsPlace_4 ?_
  refine v_icmp_ne C 14 (by decide) dX4_readsPlace_6 (fun _ => ?_) (fun _ => ?_)
  · refine v_aload_n C 0 rfl rfl dX4_readsPlace_9 ?_
    refine v_iconst C 2 (by decide) dX4_readsPlace_10 ?_
    refine v_callVM C [.int 2] [] (ct4_wrong t g l 2 u) (cw4_wrong C q1931 (by decide)) rfl rfl (Nat.le_of_ble_eq_true rfl) dX4_readsPlace_11 (fun _ u1 => ?_)
    exact w4_readsPlace_14 C p1 u1
  · exact w4_readsPlace_14 C p1 u
theorem cw4_readsPlace {t : TT} {p : Program} {s : State} {m : MethodId} {args : Array Value} {meth : Method} {c : Code} {y0 : MethodName} {cc0 : ByteArray} {nL0 : Nat} {ret0 : Option FieldType} (C : Cx t p s m args meth c y0 cc0 nL0 ret0) {index lv : Nat} (hq : Cond.methodLink y0.cls index yX4_readsPlace ∈ lw_all) (hR : LV_readsPlace + 1 ≤ lv) : CallW (rmM lv) s args y0.cls RX4 index yX4_readsPlace cX4_readsPlace 2 none (ws_ yX4_readsPlace cX4_readsPlace 2 none) (rmM LV_readsPlace) 0 0 1 :=
  cwV 1 C.2.2.2.2.1 (lw_V hq q1941 qs62 q127 q1942) rfl rfl rfl (by decide +kernel) ⟨hR, by show 8 + (2 + 11) + 100 * LV_readsPlace ≤ 100 * lv; omega⟩
abbrev LV_amongHere : Nat := 1
def f4_amongHere_54 (p1 : Int32) (u : MS) : Option (Int32 × MS) :=
  mb (f4_isGood u) fun r2 u1 =>
  rz r2 u1
theorem w4_amongHere_54 {p : Program} {e : Env} {s : State} {m : MethodId} {args : Array Value} {below : List Frame} {meth : Method} {c : Code} (C : Cx t p s m args meth c yX4_amongHere cX4_amongHere 2 (some .boolean)) (p1 : Int32) (u : MS) : VM mkI t g p l e LV_amongHere s m args below meth c 2 54 [(0, .ref g.1)] [] u (f4_amongHere_54 p1 u) := by
  unfold f4_amongHere_54
  refine v_aload_n C 0 rfl rfl dX4_amongHere_54 ?_
  refine v_callVM C [] [] (ct4_isGood t g l u) (cw4_isGood C q1912 (by decide)) rfl rfl (Nat.le_of_ble_eq_true rfl) dX4_amongHere_55 (fun r2 u1 => ?_)
  exact v_zretM C dX4_amongHere_58
def f4_amongHere (p1 : Int32) (u : MS) : Option (Int32 × MS) :=
  mb (f4_isGood u) fun r2 u1 =>
  if r2 = 0 then
    rz 0 u1
  else
    if (u1.1 25) = 2 then
      if (u1.1 27) ≤ 4 then
        if (u1.1 28) < p1 then
          f4_amongHere_54 p1 u1
        else
          mb (f4_wrong 3 u1) fun _ u3 =>
          f4_amongHere_54 p1 u3
      else
        mb (f4_wrong 2 u1) fun _ u3 =>
        f4_amongHere_54 p1 u3
    else
      mb (f4_wrong 1 u1) fun _ u3 =>
      f4_amongHere_54 p1 u3
theorem ct4_amongHere (t : TT) (g : GM) (l : Launch) (p1 : Int32) (u : MS) : CtM mkI t g l yX4_amongHere cX4_amongHere 2 (some .boolean) LV_amongHere [.ref g.1, .int p1] u (f4_amongHere p1 u) := by
  refine ctM_of [(0, .ref g.1), (1, .int p1)] rfl (Nat.le_of_ble_eq_true rfl) rfl (fun p e s m args below meth c C => ?_)
  unfold f4_amongHere
  refine v_aload_n C 0 rfl rfl dX4_amongHere_0 ?_
  refine v_callVM C [] [] (ct4_isGood t g l u) (cw4_isGood C q1912 (by decide)) rfl rfl (Nat.le_of_ble_eq_true rfl) dX4_amongHere_1 (fun r2 u1 => ?_)
  refine v_if_ne C 9 (by decide) dX4_amongHere_4 (fun _ => ?_) (fun _ => ?_)
  · refine v_iconst C 0 (by decide) dX4_amongHere_7 ?_
    exact v_zretM C dX4_amongHere_8
  · refine v_aload_n C 0 rfl rfl dX4_amongHere_9 ?_
    refine v_getMi C 25 (by decide) (by decide) q1640 rfl dX4_amongHere_10 ?_
    refine v_iconst C 2 (by decide) dX4_amongHere_13 ?_
    refine v_icmp_eq C 25 (by decide) dX4_amongHere_14 (fun _ => ?_) (fun _ => ?_)
    · refine v_aload_n C 0 rfl rfl dX4_amongHere_25 ?_
      refine v_getMi C 27 (by decide) (by decide) q1642 rfl dX4_amongHere_26 ?_
      refine v_iconst C 4 (by decide) dX4_amongHere_29 ?_
      refine v_icmp_le C 41 (by decide) dX4_amongHere_30 (fun _ => ?_) (fun _ => ?_)
      · refine v_aload_n C 0 rfl rfl dX4_amongHere_41 ?_
        refine v_getMi C 28 (by decide) (by decide) q1643 rfl dX4_amongHere_42 ?_
        refine v_iload_n C 1 rfl rfl dX4_amongHere_45 ?_
        refine v_icmp_lt C 54 (by decide) dX4_amongHere_46 (fun _ => ?_) (fun _ => ?_)
        · refine v_sub [0] rfl ?_
          exact w4_amongHere_54 C p1 u1
        · refine v_aload_n C 0 rfl rfl dX4_amongHere_49 ?_
          refine v_iconst C 3 (by decide) dX4_amongHere_50 ?_
          refine v_callVM C [.int 3] [] (ct4_wrong t g l 3 u1) (cw4_wrong C q1931 (by decide)) rfl rfl (Nat.le_of_ble_eq_true rfl) dX4_amongHere_51 (fun _ u3 => ?_)
          refine v_sub [0] rfl ?_
          exact w4_amongHere_54 C p1 u3
      · refine v_aload_n C 0 rfl rfl dX4_amongHere_33 ?_
        refine v_iconst C 2 (by decide) dX4_amongHere_34 ?_
        refine v_callVM C [.int 2] [] (ct4_wrong t g l 2 u1) (cw4_wrong C q1931 (by decide)) rfl rfl (Nat.le_of_ble_eq_true rfl) dX4_amongHere_35 (fun _ u3 => ?_)
        refine v_goto C 54 (by decide) dX4_amongHere_38 ?_
        refine v_sub [0] rfl ?_
        exact w4_amongHere_54 C p1 u3
    · refine v_aload_n C 0 rfl rfl dX4_amongHere_17 ?_
      refine v_iconst C 1 (by decide) dX4_amongHere_18 ?_
      refine v_callVM C [.int 1] [] (ct4_wrong t g l 1 u1) (cw4_wrong C q1931 (by decide)) rfl rfl (Nat.le_of_ble_eq_true rfl) dX4_amongHere_19 (fun _ u3 => ?_)
      refine v_goto C 54 (by decide) dX4_amongHere_22 ?_
      refine v_sub [0] rfl ?_
      exact w4_amongHere_54 C p1 u3
theorem cw4_amongHere {t : TT} {p : Program} {s : State} {m : MethodId} {args : Array Value} {meth : Method} {c : Code} {y0 : MethodName} {cc0 : ByteArray} {nL0 : Nat} {ret0 : Option FieldType} (C : Cx t p s m args meth c y0 cc0 nL0 ret0) {index lv : Nat} (hq : Cond.methodLink y0.cls index yX4_amongHere ∈ lw_all) (hR : LV_amongHere + 1 ≤ lv) : CallW (rmM lv) s args y0.cls RX4 index yX4_amongHere cX4_amongHere 2 (some .boolean) (ws_ yX4_amongHere cX4_amongHere 2 (some .boolean)) (rmM LV_amongHere) 0 0 1 :=
  cwV 1 C.2.2.2.2.1 (lw_V hq q1953 qs65 q127 q1954) rfl rfl rfl (by decide +kernel) ⟨hR, by show 8 + (2 + 11) + 100 * LV_amongHere ≤ 100 * lv; omega⟩
abbrev LV_among : Nat := 2
def f4_among_16 (p1 : Int32) (s0 : Int32) (u : MS) : Option (Int32 × MS) :=
  mb (f4_isGood u) fun r2 u1 =>
  if r2 = 0 then
    some (s0, u1)
  else
    mb (f4_goes u1) fun _ u3 =>
    some (s0, u3)
theorem w4_among_16 {p : Program} {e : Env} {s : State} {m : MethodId} {args : Array Value} {below : List Frame} {meth : Method} {c : Code} (C : Cx t p s m args meth c yX4_among cX4_among 3 (some .int)) (p1 : Int32) (s0 : Int32) (u : MS) : VM mkI t g p l e LV_among s m args below meth c 3 16 [(0, .ref g.1)] [.int s0] u (f4_among_16 p1 s0 u) := by
  unfold f4_among_16
  refine v_istore_n C [(2, .int s0), (0, .ref g.1)] rfl (by decide) rfl dX4_among_16 ?_
  refine v_aload_n C 1 rfl rfl dX4_among_17 ?_
  refine v_callVM C [] [] (ct4_isGood t g l u) (cw4_isGood C q1912 (by decide)) rfl rfl (Nat.le_of_ble_eq_true rfl) dX4_among_18 (fun r2 u1 => ?_)
  refine v_if_eq C 28 (by decide) dX4_among_21 (fun _ => ?_) (fun _ => ?_)
  · refine v_iload_n C 0 rfl rfl dX4_among_28 ?_
    exact v_iretM C dX4_among_29
  · refine v_aload_n C 1 rfl rfl dX4_among_24 ?_
    refine v_callVM C [] [] (ct4_goes t g l u1) (cw4_goes C q1898 (by decide)) rfl rfl (Nat.le_of_ble_eq_true rfl) dX4_among_25 (fun _ u3 => ?_)
    refine v_iload_n C 0 rfl rfl dX4_among_28 ?_
    exact v_iretM C dX4_among_29
def f4_among (p1 : Int32) (u : MS) : Option (Int32 × MS) :=
  mb (f4_amongHere p1 u) fun r2 u1 =>
  if r2 = 0 then
    f4_among_16 p1 0 u1
  else
    f4_among_16 p1 (u1.1 28) u1
theorem ct4_among (t : TT) (g : GM) (l : Launch) (p1 : Int32) (u : MS) : CtM mkI t g l yX4_among cX4_among 3 (some .int) LV_among [.ref g.1, .int p1] u (f4_among p1 u) := by
  refine ctM_of [(0, .ref g.1), (1, .int p1)] rfl (Nat.le_of_ble_eq_true rfl) rfl (fun p e s m args below meth c C => ?_)
  unfold f4_among
  refine v_aload_n C 0 rfl rfl dX4_among_0 ?_
  refine v_iload_n C 1 rfl rfl dX4_among_1 ?_
  refine v_callVM C [.int p1] [] (ct4_amongHere t g l p1 u) (cw4_amongHere C q1951 (by decide)) rfl rfl (Nat.le_of_ble_eq_true rfl) dX4_among_2 (fun r2 u1 => ?_)
  refine v_if_eq C 15 (by decide) dX4_among_5 (fun _ => ?_) (fun _ => ?_)
  · refine v_iconst C 0 (by decide) dX4_among_15 ?_
    refine v_sub [0] rfl ?_
    exact w4_among_16 C p1 0 u1
  · refine v_aload_n C 0 rfl rfl dX4_among_8 ?_
    refine v_getMi C 28 (by decide) (by decide) q1643 rfl dX4_among_9 ?_
    refine v_goto C 16 (by decide) dX4_among_12 ?_
    refine v_sub [0] rfl ?_
    exact w4_among_16 C p1 (u1.1 28) u1
theorem cw4_among {t : TT} {p : Program} {s : State} {m : MethodId} {args : Array Value} {meth : Method} {c : Code} {y0 : MethodName} {cc0 : ByteArray} {nL0 : Nat} {ret0 : Option FieldType} (C : Cx t p s m args meth c y0 cc0 nL0 ret0) {index lv : Nat} (hq : Cond.methodLink y0.cls index yX4_among ∈ lw_all) (hR : LV_among + 1 ≤ lv) : CallW (rmM lv) s args y0.cls RX4 index yX4_among cX4_among 3 (some .int) (ws_ yX4_among cX4_among 3 (some .int)) (rmM LV_among) 0 0 1 :=
  cwV 1 C.2.2.2.2.1 (lw_V hq q1949 qs64 q127 q1950) rfl rfl rfl (by decide +kernel) ⟨hR, by show 8 + (3 + 11) + 100 * LV_among ≤ 100 * lv; omega⟩
abbrev LV_hasWay : Nat := 0
def f4_hasWay_30 (p1 : Int32) (p2 : Int32) (k2 : Int32 → MS → Option (Int32 × MS)) (x3 : Int32) (u : MS) : Option (Int32 × MS) :=
  mchk (inbM x3 42) <|
  if (u.2.1 42 x3.toNatClampNeg) = p2 then
    mchk (inbM x3 43) <|
    if (u.2.1 43 x3.toNatClampNeg) = p1 then
      rz 1 u
    else
      k2 (x3 + 1) u
  else
    k2 (x3 + 1) u
theorem w4_hasWay_30 {p : Program} {e : Env} {s : State} {m : MethodId} {args : Array Value} {below : List Frame} {meth : Method} {c : Code} (C : Cx t p s m args meth c yX4_hasWay cX4_hasWay 4 (some .boolean)) (p1 : Int32) (p2 : Int32) (k2 : Int32 → MS → Option (Int32 × MS)) (hk2 : ∀ (x3 : Int32) (u : MS), VM mkI t g p l e LV_hasWay s m args below meth c 4 2 [(0, .ref g.1), (1, .int p1), (2, .int p2), (3, .int x3)] [] u (k2 x3 u)) (x3 : Int32) (u : MS) : VM mkI t g p l e LV_hasWay s m args below meth c 4 30 [(0, .ref g.1), (1, .int p1), (2, .int p2), (3, .int x3)] [] u (f4_hasWay_30 p1 p2 k2 x3 u) := by
  unfold f4_hasWay_30
  refine v_aload_n C 0 rfl rfl dX4_hasWay_30 ?_
  refine v_getMa C 42 (by decide) (by decide) q1657 rfl dX4_hasWay_31 ?_
  refine v_iload_n C 3 rfl rfl dX4_hasWay_34 ?_
  refine v_chk (fun h1 => ?_)
  refine v_ialdM C h1 dX4_hasWay_35 ?_
  refine v_iload_n C 2 rfl rfl dX4_hasWay_36 ?_
  refine v_icmp_ne C 52 (by decide) dX4_hasWay_37 (fun _ => ?_) (fun _ => ?_)
  · refine v_aload_n C 0 rfl rfl dX4_hasWay_40 ?_
    refine v_getMa C 43 (by decide) (by decide) q1658 rfl dX4_hasWay_41 ?_
    refine v_iload_n C 3 rfl rfl dX4_hasWay_44 ?_
    refine v_chk (fun h2 => ?_)
    refine v_ialdM C h2 dX4_hasWay_45 ?_
    refine v_iload_n C 1 rfl rfl dX4_hasWay_46 ?_
    refine v_icmp_ne C 52 (by decide) dX4_hasWay_47 (fun _ => ?_) (fun _ => ?_)
    · refine v_iconst C 1 (by decide) dX4_hasWay_50 ?_
      exact v_zretM C dX4_hasWay_51
    · refine v_iinc C 1 [(3, .int (x3 + 1)), (0, .ref g.1), (1, .int p1), (2, .int p2)] 3 rfl (by decide) (by decide) rfl dX4_hasWay_52 ?_
      refine v_goto C 2 (by decide) dX4_hasWay_55 ?_
      refine v_sub [1, 2, 3, 0] rfl ?_
      exact hk2 (x3 + 1) u
  · refine v_iinc C 1 [(3, .int (x3 + 1)), (0, .ref g.1), (1, .int p1), (2, .int p2)] 3 rfl (by decide) (by decide) rfl dX4_hasWay_52 ?_
    refine v_goto C 2 (by decide) dX4_hasWay_55 ?_
    refine v_sub [1, 2, 3, 0] rfl ?_
    exact hk2 (x3 + 1) u
def f4_hasWay_2 (p1 : Int32) (p2 : Int32) (k : Int32 → MS → Option (Int32 × MS)) (x3 : Int32) (u : MS) : Option (Int32 × MS) :=
  if (u.1 33) ≤ x3 then
    rz 0 u
  else
    mchk (inbM x3 42) <|
    if (u.2.1 42 x3.toNatClampNeg) = p1 then
      mchk (inbM x3 43) <|
      if (u.2.1 43 x3.toNatClampNeg) = p2 then
        rz 1 u
      else
        f4_hasWay_30 p1 p2 k x3 u
    else
      f4_hasWay_30 p1 p2 k x3 u
theorem w4_hasWay_2 {p : Program} {e : Env} {s : State} {m : MethodId} {args : Array Value} {below : List Frame} {meth : Method} {c : Code} (C : Cx t p s m args meth c yX4_hasWay cX4_hasWay 4 (some .boolean)) (p1 : Int32) (p2 : Int32) (n : Nat) (x3 : Int32) (u : MS) : VM mkI t g p l e LV_hasWay s m args below meth c 4 2 [(0, .ref g.1), (1, .int p1), (2, .int p2), (3, .int x3)] [] u (ml1 (f4_hasWay_2 p1 p2) n x3 u) := by
  refine vl1 (L := fun x3 => [(0, .ref g.1), (1, .int p1), (2, .int p2), (3, .int x3)]) (fun k hk x3 u => ?_) n x3 u
  unfold f4_hasWay_2
  refine v_iload_n C 3 rfl rfl dX4_hasWay_2 ?_
  refine v_aload_n C 0 rfl rfl dX4_hasWay_3 ?_
  refine v_getMi C 33 (by decide) (by decide) q1648 rfl dX4_hasWay_4 ?_
  refine v_icmp_ge C 58 (by decide) dX4_hasWay_7 (fun _ => ?_) (fun _ => ?_)
  · refine v_iconst C 0 (by decide) dX4_hasWay_58 ?_
    exact v_zretM C dX4_hasWay_59
  · refine v_aload_n C 0 rfl rfl dX4_hasWay_10 ?_
    refine v_getMa C 42 (by decide) (by decide) q1657 rfl dX4_hasWay_11 ?_
    refine v_iload_n C 3 rfl rfl dX4_hasWay_14 ?_
    refine v_chk (fun h1 => ?_)
    refine v_ialdM C h1 dX4_hasWay_15 ?_
    refine v_iload_n C 1 rfl rfl dX4_hasWay_16 ?_
    refine v_icmp_ne C 30 (by decide) dX4_hasWay_17 (fun _ => ?_) (fun _ => ?_)
    · refine v_aload_n C 0 rfl rfl dX4_hasWay_20 ?_
      refine v_getMa C 43 (by decide) (by decide) q1658 rfl dX4_hasWay_21 ?_
      refine v_iload_n C 3 rfl rfl dX4_hasWay_24 ?_
      refine v_chk (fun h2 => ?_)
      refine v_ialdM C h2 dX4_hasWay_25 ?_
      refine v_iload_n C 2 rfl rfl dX4_hasWay_26 ?_
      refine v_icmp_eq C 50 (by decide) dX4_hasWay_27 (fun _ => ?_) (fun _ => ?_)
      · refine v_iconst C 1 (by decide) dX4_hasWay_50 ?_
        exact v_zretM C dX4_hasWay_51
      · exact w4_hasWay_30 C p1 p2 k hk x3 u
    · exact w4_hasWay_30 C p1 p2 k hk x3 u
def f4_hasWay (p1 : Int32) (p2 : Int32) (u : MS) : Option (Int32 × MS) :=
  ml1 (f4_hasWay_2 p1 p2) FUEL 0 u
theorem ct4_hasWay (t : TT) (g : GM) (l : Launch) (p1 : Int32) (p2 : Int32) (u : MS) : CtM mkI t g l yX4_hasWay cX4_hasWay 4 (some .boolean) LV_hasWay [.ref g.1, .int p1, .int p2] u (f4_hasWay p1 p2 u) := by
  refine ctM_of [(0, .ref g.1), (1, .int p1), (2, .int p2)] rfl (Nat.le_of_ble_eq_true rfl) rfl (fun p e s m args below meth c C => ?_)
  unfold f4_hasWay
  refine v_iconst C 0 (by decide) dX4_hasWay_0 ?_
  refine v_istore_n C [(3, .int 0), (0, .ref g.1), (1, .int p1), (2, .int p2)] rfl (by decide) rfl dX4_hasWay_1 ?_
  refine v_sub [1, 2, 3, 0] rfl ?_
  exact w4_hasWay_2 C p1 p2 FUEL 0 u
theorem cw4_hasWay {t : TT} {p : Program} {s : State} {m : MethodId} {args : Array Value} {meth : Method} {c : Code} {y0 : MethodName} {cc0 : ByteArray} {nL0 : Nat} {ret0 : Option FieldType} (C : Cx t p s m args meth c y0 cc0 nL0 ret0) {index lv : Nat} (hq : Cond.methodLink y0.cls index yX4_hasWay ∈ lw_all) (hR : LV_hasWay + 1 ≤ lv) : CallW (rmM lv) s args y0.cls RX4 index yX4_hasWay cX4_hasWay 4 (some .boolean) (ws_ yX4_hasWay cX4_hasWay 4 (some .boolean)) (rmM LV_hasWay) 0 0 2 :=
  cwV 2 C.2.2.2.2.1 (lw_V hq q1957 qs66 q127 q1958) rfl rfl rfl (by decide +kernel) ⟨hR, by show 8 + (4 + 11) + 100 * LV_hasWay ≤ 100 * lv; omega⟩
abbrev LV_readsWay : Nat := 3
def f4_readsWay_72 (x1 : Int32) (u : MS) : Option (Unit × MS) :=
  mb (f4_isGood u) fun r2 u1 =>
  if r2 = 0 then
    some ((), u1)
  else
    mchk (inbM (u1.1 33) 42) <|
    mlet (mA u1 42 (u1.1 33).toNatClampNeg x1) fun u4 =>
    mchk (inbM (u4.1 33) 43) <|
    mlet (mA u4 43 (u4.1 33).toNatClampNeg (u4.1 28)) fun u6 =>
    mb (f4_goes u6) fun _ u7 =>
    mb (f4_number 0 60 u7) fun r9 u8 =>
    mchk (inbM (u7.1 33) 44) <|
    mlet (mA u8 44 (u7.1 33).toNatClampNeg r9) fun u11 =>
    mb (f4_isGood u11) fun r13 u12 =>
    if r13 = 0 then
      some ((), u12)
    else
      mlet (mS u12 33 ((u12.1 33) + 1)) fun u14 =>
      some ((), u14)
theorem w4_readsWay_72 {p : Program} {e : Env} {s : State} {m : MethodId} {args : Array Value} {below : List Frame} {meth : Method} {c : Code} (C : Cx t p s m args meth c yX4_readsWay cX4_readsWay 2 none) (x1 : Int32) (u : MS) : VM mkU t g p l e LV_readsWay s m args below meth c 2 72 [(0, .ref g.1), (1, .int x1)] [] u (f4_readsWay_72 x1 u) := by
  unfold f4_readsWay_72
  refine v_aload_n C 0 rfl rfl dX4_readsWay_72 ?_
  refine v_callVM C [] [] (ct4_isGood t g l u) (cw4_isGood C q1912 (by decide)) rfl rfl (Nat.le_of_ble_eq_true rfl) dX4_readsWay_73 (fun r2 u1 => ?_)
  refine v_if_ne C 80 (by decide) dX4_readsWay_76 (fun _ => ?_) (fun _ => ?_)
  · exact v_vretM C dX4_readsWay_79
  · refine v_aload_n C 0 rfl rfl dX4_readsWay_80 ?_
    refine v_getMa C 42 (by decide) (by decide) q1657 rfl dX4_readsWay_81 ?_
    refine v_aload_n C 0 rfl rfl dX4_readsWay_84 ?_
    refine v_getMi C 33 (by decide) (by decide) q1648 rfl dX4_readsWay_85 ?_
    refine v_iload_n C 1 rfl rfl dX4_readsWay_88 ?_
    refine v_chk (fun h3 => ?_)
    refine v_iastM C h3 dX4_readsWay_89 (fun u4 => ?_)
    refine v_aload_n C 0 rfl rfl dX4_readsWay_90 ?_
    refine v_getMa C 43 (by decide) (by decide) q1658 rfl dX4_readsWay_91 ?_
    refine v_aload_n C 0 rfl rfl dX4_readsWay_94 ?_
    refine v_getMi C 33 (by decide) (by decide) q1648 rfl dX4_readsWay_95 ?_
    refine v_aload_n C 0 rfl rfl dX4_readsWay_98 ?_
    refine v_getMi C 28 (by decide) (by decide) q1643 rfl dX4_readsWay_99 ?_
    refine v_chk (fun h5 => ?_)
    refine v_iastM C h5 dX4_readsWay_102 (fun u6 => ?_)
    refine v_aload_n C 0 rfl rfl dX4_readsWay_103 ?_
    refine v_callVM C [] [] (ct4_goes t g l u6) (cw4_goes C q1898 (by decide)) rfl rfl (Nat.le_of_ble_eq_true rfl) dX4_readsWay_104 (fun _ u7 => ?_)
    refine v_aload_n C 0 rfl rfl dX4_readsWay_107 ?_
    refine v_getMa C 44 (by decide) (by decide) q1659 rfl dX4_readsWay_108 ?_
    refine v_aload_n C 0 rfl rfl dX4_readsWay_111 ?_
    refine v_getMi C 33 (by decide) (by decide) q1648 rfl dX4_readsWay_112 ?_
    refine v_aload_n C 0 rfl rfl dX4_readsWay_115 ?_
    refine v_iconst C 0 (by decide) dX4_readsWay_116 ?_
    refine v_bipush C 60 (by decide) dX4_readsWay_117 ?_
    refine v_callVM C [.int 0, .int 60] [.int (u7.1 33), .ref (g.2 44)] (ct4_number t g l 0 60 u7) (cw4_number C q1935 (by decide)) rfl rfl (Nat.le_of_ble_eq_true rfl) dX4_readsWay_119 (fun r9 u8 => ?_)
    refine v_chk (fun h10 => ?_)
    refine v_iastM C h10 dX4_readsWay_122 (fun u11 => ?_)
    refine v_aload_n C 0 rfl rfl dX4_readsWay_123 ?_
    refine v_callVM C [] [] (ct4_isGood t g l u11) (cw4_isGood C q1912 (by decide)) rfl rfl (Nat.le_of_ble_eq_true rfl) dX4_readsWay_124 (fun r13 u12 => ?_)
    refine v_if_eq C 140 (by decide) dX4_readsWay_127 (fun _ => ?_) (fun _ => ?_)
    · exact v_vretM C dX4_readsWay_140
    · refine v_aload_n C 0 rfl rfl dX4_readsWay_130 ?_
      refine v_dup C rfl dX4_readsWay_131 ?_
      refine v_getMi C 33 (by decide) (by decide) q1648 rfl dX4_readsWay_132 ?_
      refine v_iconst C 1 (by decide) dX4_readsWay_135 ?_
      refine v_iadd C dX4_readsWay_136 ?_
      refine v_putMi C 33 (by decide) (by decide) q1648 rfl rfl (by decide +kernel) dX4_readsWay_137 (fun u14 => ?_)
      exact v_vretM C dX4_readsWay_140
def f4_readsWay_67 (x1 : Int32) (u : MS) : Option (Unit × MS) :=
  mb (f4_wrong 4 u) fun _ u1 =>
  f4_readsWay_72 x1 u1
theorem w4_readsWay_67 {p : Program} {e : Env} {s : State} {m : MethodId} {args : Array Value} {below : List Frame} {meth : Method} {c : Code} (C : Cx t p s m args meth c yX4_readsWay cX4_readsWay 2 none) (x1 : Int32) (u : MS) : VM mkU t g p l e LV_readsWay s m args below meth c 2 67 [(0, .ref g.1), (1, .int x1)] [] u (f4_readsWay_67 x1 u) := by
  unfold f4_readsWay_67
  refine v_aload_n C 0 rfl rfl dX4_readsWay_67 ?_
  refine v_iconst C 4 (by decide) dX4_readsWay_68 ?_
  refine v_callVM C [.int 4] [] (ct4_wrong t g l 4 u) (cw4_wrong C q1931 (by decide)) rfl rfl (Nat.le_of_ble_eq_true rfl) dX4_readsWay_69 (fun _ u1 => ?_)
  exact w4_readsWay_72 C x1 u1
def f4_readsWay_14 (u : MS) : Option (Unit × MS) :=
  mb (f4_isGood u) fun r2 u1 =>
  if r2 = 0 then
    some ((), u1)
  else
    mb (f4_goes u1) fun _ u3 =>
    mb (f4_among (u3.1 32) u3) fun r5 u4 =>
    mb (f4_amongHere (u4.1 32) u4) fun r7 u6 =>
    if r7 = 0 then
      some ((), u6)
    else
      if (u6.1 28) = r5 then
        f4_readsWay_67 r5 u6
      else
        mb (f4_hasWay r5 (u6.1 28) u6) fun r9 u8 =>
        if r9 = 0 then
          f4_readsWay_72 r5 u8
        else
          f4_readsWay_67 r5 u8
theorem w4_readsWay_14 {p : Program} {e : Env} {s : State} {m : MethodId} {args : Array Value} {below : List Frame} {meth : Method} {c : Code} (C : Cx t p s m args meth c yX4_readsWay cX4_readsWay 2 none) (u : MS) : VM mkU t g p l e LV_readsWay s m args below meth c 2 14 [(0, .ref g.1)] [] u (f4_readsWay_14 u) := by
  unfold f4_readsWay_14
  refine v_aload_n C 0 rfl rfl dX4_readsWay_14 ?_
  refine v_callVM C [] [] (ct4_isGood t g l u) (cw4_isGood C q1912 (by decide)) rfl rfl (Nat.le_of_ble_eq_true rfl) dX4_readsWay_15 (fun r2 u1 => ?_)
  refine v_if_ne C 22 (by decide) dX4_readsWay_18 (fun _ => ?_) (fun _ => ?_)
  · exact v_vretM C dX4_readsWay_21
  · refine v_aload_n C 0 rfl rfl dX4_readsWay_22 ?_
    refine v_callVM C [] [] (ct4_goes t g l u1) (cw4_goes C q1898 (by decide)) rfl rfl (Nat.le_of_ble_eq_true rfl) dX4_readsWay_23 (fun _ u3 => ?_)
    refine v_aload_n C 0 rfl rfl dX4_readsWay_26 ?_
    refine v_aload_n C 0 rfl rfl dX4_readsWay_27 ?_
    refine v_getMi C 32 (by decide) (by decide) q1647 rfl dX4_readsWay_28 ?_
    refine v_callVM C [.int (u3.1 32)] [] (ct4_among t g l (u3.1 32) u3) (cw4_among C q1947 (by decide)) rfl rfl (Nat.le_of_ble_eq_true rfl) dX4_readsWay_31 (fun r5 u4 => ?_)
    refine v_istore_n C [(1, .int r5), (0, .ref g.1)] rfl (by decide) rfl dX4_readsWay_34 ?_
    refine v_aload_n C 1 rfl rfl dX4_readsWay_35 ?_
    refine v_aload_n C 1 rfl rfl dX4_readsWay_36 ?_
    refine v_getMi C 32 (by decide) (by decide) q1647 rfl dX4_readsWay_37 ?_
    refine v_callVM C [.int (u4.1 32)] [] (ct4_amongHere t g l (u4.1 32) u4) (cw4_amongHere C q1951 (by decide)) rfl rfl (Nat.le_of_ble_eq_true rfl) dX4_readsWay_40 (fun r7 u6 => ?_)
    refine v_if_ne C 47 (by decide) dX4_readsWay_43 (fun _ => ?_) (fun _ => ?_)
    · exact v_vretM C dX4_readsWay_46
    · refine v_aload_n C 1 rfl rfl dX4_readsWay_47 ?_
      refine v_getMi C 28 (by decide) (by decide) q1643 rfl dX4_readsWay_48 ?_
      refine v_iload_n C 0 rfl rfl dX4_readsWay_51 ?_
      refine v_icmp_eq C 67 (by decide) dX4_readsWay_52 (fun _ => ?_) (fun _ => ?_)
      · refine v_sub [1, 0] rfl ?_
        exact w4_readsWay_67 C r5 u6
      · refine v_aload_n C 1 rfl rfl dX4_readsWay_55 ?_
        refine v_iload_n C 0 rfl rfl dX4_readsWay_56 ?_
        refine v_aload_n C 1 rfl rfl dX4_readsWay_57 ?_
        refine v_getMi C 28 (by decide) (by decide) q1643 rfl dX4_readsWay_58 ?_
        refine v_callVM C [.int r5, .int (u6.1 28)] [] (ct4_hasWay t g l r5 (u6.1 28) u6) (cw4_hasWay C q1955 (by decide)) rfl rfl (Nat.le_of_ble_eq_true rfl) dX4_readsWay_61 (fun r9 u8 => ?_)
        refine v_if_eq C 72 (by decide) dX4_readsWay_64 (fun _ => ?_) (fun _ => ?_)
        · refine v_sub [1, 0] rfl ?_
          exact w4_readsWay_72 C r5 u8
        · refine v_sub [1, 0] rfl ?_
          exact w4_readsWay_67 C r5 u8
def f4_readsWay (u : MS) : Option (Unit × MS) :=
  if (u.1 33) = 12 then
    mb (f4_wrong 2 u) fun _ u1 =>
    f4_readsWay_14 u1
  else
    f4_readsWay_14 u
theorem ct4_readsWay (t : TT) (g : GM) (l : Launch) (u : MS) : CtM mkU t g l yX4_readsWay cX4_readsWay 2 none LV_readsWay [.ref g.1] u (f4_readsWay u) := by
  refine ctM_of [(0, .ref g.1)] rfl (Nat.le_of_ble_eq_true rfl) rfl (fun p e s m args below meth c C => ?_)
  unfold f4_readsWay
  refine v_aload_n C 0 rfl rfl dX4_readsWay_0 ?_
  refine v_getMi C 33 (by decide) (by decide) q1648 rfl dX4_readsWay_1 ?_
  refine v_bipush C 12 (by decide) dX4_readsWay_4 ?_
  refine v_icmp_ne C 14 (by decide) dX4_readsWay_6 (fun _ => ?_) (fun _ => ?_)
  · refine v_aload_n C 0 rfl rfl dX4_readsWay_9 ?_
    refine v_iconst C 2 (by decide) dX4_readsWay_10 ?_
    refine v_callVM C [.int 2] [] (ct4_wrong t g l 2 u) (cw4_wrong C q1931 (by decide)) rfl rfl (Nat.le_of_ble_eq_true rfl) dX4_readsWay_11 (fun _ u1 => ?_)
    exact w4_readsWay_14 C u1
  · exact w4_readsWay_14 C u
theorem cw4_readsWay {t : TT} {p : Program} {s : State} {m : MethodId} {args : Array Value} {meth : Method} {c : Code} {y0 : MethodName} {cc0 : ByteArray} {nL0 : Nat} {ret0 : Option FieldType} (C : Cx t p s m args meth c y0 cc0 nL0 ret0) {index lv : Nat} (hq : Cond.methodLink y0.cls index yX4_readsWay ∈ lw_all) (hR : LV_readsWay + 1 ≤ lv) : CallW (rmM lv) s args y0.cls RX4 index yX4_readsWay cX4_readsWay 2 none (ws_ yX4_readsWay cX4_readsWay 2 none) (rmM LV_readsWay) 0 0 0 :=
  cwV 0 C.2.2.2.2.1 (lw_V hq q1945 qs63 q127 q1946) rfl rfl rfl (by decide +kernel) ⟨hR, by show 8 + (2 + 11) + 100 * LV_readsWay ≤ 100 * lv; omega⟩
abbrev LV_readsPerson : Nat := 3
def f4_readsPerson_14 (u : MS) : Option (Unit × MS) :=
  mb (f4_isGood u) fun r2 u1 =>
  if r2 = 0 then
    some ((), u1)
  else
    mb (f4_goes u1) fun _ u3 =>
    mb (f4_number 0 99 u3) fun r5 u4 =>
    mchk (inbM (u3.1 34) 45) <|
    mlet (mA u4 45 (u3.1 34).toNatClampNeg r5) fun u7 =>
    mb (f4_among (u7.1 32) u7) fun r9 u8 =>
    mchk (inbM (22 + (u7.1 34)) 50) <|
    mlet (mA u8 50 (22 + (u7.1 34)).toNatClampNeg r9) fun u11 =>
    mchk (inbM (u11.1 34) 46) <|
    mlet (mA u11 46 (u11.1 34).toNatClampNeg 0) fun u13 =>
    mb (f4_isGood u13) fun r15 u14 =>
    if r15 = 0 then
      some ((), u14)
    else
      mlet (mS u14 34 ((u14.1 34) + 1)) fun u16 =>
      some ((), u16)
theorem w4_readsPerson_14 {p : Program} {e : Env} {s : State} {m : MethodId} {args : Array Value} {below : List Frame} {meth : Method} {c : Code} (C : Cx t p s m args meth c yX4_readsPerson cX4_readsPerson 1 none) (u : MS) : VM mkU t g p l e LV_readsPerson s m args below meth c 1 14 [(0, .ref g.1)] [] u (f4_readsPerson_14 u) := by
  unfold f4_readsPerson_14
  refine v_aload_n C 0 rfl rfl dX4_readsPerson_14 ?_
  refine v_callVM C [] [] (ct4_isGood t g l u) (cw4_isGood C q1912 (by decide)) rfl rfl (Nat.le_of_ble_eq_true rfl) dX4_readsPerson_15 (fun r2 u1 => ?_)
  refine v_if_ne C 22 (by decide) dX4_readsPerson_18 (fun _ => ?_) (fun _ => ?_)
  · exact v_vretM C dX4_readsPerson_21
  · refine v_aload_n C 0 rfl rfl dX4_readsPerson_22 ?_
    refine v_callVM C [] [] (ct4_goes t g l u1) (cw4_goes C q1898 (by decide)) rfl rfl (Nat.le_of_ble_eq_true rfl) dX4_readsPerson_23 (fun _ u3 => ?_)
    refine v_aload_n C 0 rfl rfl dX4_readsPerson_26 ?_
    refine v_getMa C 45 (by decide) (by decide) q1660 rfl dX4_readsPerson_27 ?_
    refine v_aload_n C 0 rfl rfl dX4_readsPerson_30 ?_
    refine v_getMi C 34 (by decide) (by decide) q1649 rfl dX4_readsPerson_31 ?_
    refine v_aload_n C 0 rfl rfl dX4_readsPerson_34 ?_
    refine v_iconst C 0 (by decide) dX4_readsPerson_35 ?_
    refine v_bipush C 99 (by decide) dX4_readsPerson_36 ?_
    refine v_callVM C [.int 0, .int 99] [.int (u3.1 34), .ref (g.2 45)] (ct4_number t g l 0 99 u3) (cw4_number C q1935 (by decide)) rfl rfl (Nat.le_of_ble_eq_true rfl) dX4_readsPerson_38 (fun r5 u4 => ?_)
    refine v_chk (fun h6 => ?_)
    refine v_iastM C h6 dX4_readsPerson_41 (fun u7 => ?_)
    refine v_aload_n C 0 rfl rfl dX4_readsPerson_42 ?_
    refine v_getMa C 50 (by decide) (by decide) q1665 rfl dX4_readsPerson_43 ?_
    refine v_bipush C 22 (by decide) dX4_readsPerson_46 ?_
    refine v_aload_n C 0 rfl rfl dX4_readsPerson_48 ?_
    refine v_getMi C 34 (by decide) (by decide) q1649 rfl dX4_readsPerson_49 ?_
    refine v_iadd C dX4_readsPerson_52 ?_
    refine v_aload_n C 0 rfl rfl dX4_readsPerson_53 ?_
    refine v_aload_n C 0 rfl rfl dX4_readsPerson_54 ?_
    refine v_getMi C 32 (by decide) (by decide) q1647 rfl dX4_readsPerson_55 ?_
    refine v_callVM C [.int (u7.1 32)] [.int (22 + (u7.1 34)), .ref (g.2 50)] (ct4_among t g l (u7.1 32) u7) (cw4_among C q1947 (by decide)) rfl rfl (Nat.le_of_ble_eq_true rfl) dX4_readsPerson_58 (fun r9 u8 => ?_)
    refine v_chk (fun h10 => ?_)
    refine v_iastM C h10 dX4_readsPerson_61 (fun u11 => ?_)
    refine v_aload_n C 0 rfl rfl dX4_readsPerson_62 ?_
    refine v_getMa C 46 (by decide) (by decide) q1661 rfl dX4_readsPerson_63 ?_
    refine v_aload_n C 0 rfl rfl dX4_readsPerson_66 ?_
    refine v_getMi C 34 (by decide) (by decide) q1649 rfl dX4_readsPerson_67 ?_
    refine v_iconst C 0 (by decide) dX4_readsPerson_70 ?_
    refine v_chk (fun h12 => ?_)
    refine v_iastM C h12 dX4_readsPerson_71 (fun u13 => ?_)
    refine v_aload_n C 0 rfl rfl dX4_readsPerson_72 ?_
    refine v_callVM C [] [] (ct4_isGood t g l u13) (cw4_isGood C q1912 (by decide)) rfl rfl (Nat.le_of_ble_eq_true rfl) dX4_readsPerson_73 (fun r15 u14 => ?_)
    refine v_if_eq C 89 (by decide) dX4_readsPerson_76 (fun _ => ?_) (fun _ => ?_)
    · exact v_vretM C dX4_readsPerson_89
    · refine v_aload_n C 0 rfl rfl dX4_readsPerson_79 ?_
      refine v_dup C rfl dX4_readsPerson_80 ?_
      refine v_getMi C 34 (by decide) (by decide) q1649 rfl dX4_readsPerson_81 ?_
      refine v_iconst C 1 (by decide) dX4_readsPerson_84 ?_
      refine v_iadd C dX4_readsPerson_85 ?_
      refine v_putMi C 34 (by decide) (by decide) q1649 rfl rfl (by decide +kernel) dX4_readsPerson_86 (fun u16 => ?_)
      exact v_vretM C dX4_readsPerson_89
def f4_readsPerson (u : MS) : Option (Unit × MS) :=
  if (u.1 34) = 9 then
    mb (f4_wrong 2 u) fun _ u1 =>
    f4_readsPerson_14 u1
  else
    f4_readsPerson_14 u
theorem ct4_readsPerson (t : TT) (g : GM) (l : Launch) (u : MS) : CtM mkU t g l yX4_readsPerson cX4_readsPerson 1 none LV_readsPerson [.ref g.1] u (f4_readsPerson u) := by
  refine ctM_of [(0, .ref g.1)] rfl (Nat.le_of_ble_eq_true rfl) rfl (fun p e s m args below meth c C => ?_)
  unfold f4_readsPerson
  refine v_aload_n C 0 rfl rfl dX4_readsPerson_0 ?_
  refine v_getMi C 34 (by decide) (by decide) q1649 rfl dX4_readsPerson_1 ?_
  refine v_bipush C 9 (by decide) dX4_readsPerson_4 ?_
  refine v_icmp_ne C 14 (by decide) dX4_readsPerson_6 (fun _ => ?_) (fun _ => ?_)
  · refine v_aload_n C 0 rfl rfl dX4_readsPerson_9 ?_
    refine v_iconst C 2 (by decide) dX4_readsPerson_10 ?_
    refine v_callVM C [.int 2] [] (ct4_wrong t g l 2 u) (cw4_wrong C q1931 (by decide)) rfl rfl (Nat.le_of_ble_eq_true rfl) dX4_readsPerson_11 (fun _ u1 => ?_)
    exact w4_readsPerson_14 C u1
  · exact w4_readsPerson_14 C u
theorem cw4_readsPerson {t : TT} {p : Program} {s : State} {m : MethodId} {args : Array Value} {meth : Method} {c : Code} {y0 : MethodName} {cc0 : ByteArray} {nL0 : Nat} {ret0 : Option FieldType} (C : Cx t p s m args meth c y0 cc0 nL0 ret0) {index lv : Nat} (hq : Cond.methodLink y0.cls index yX4_readsPerson ∈ lw_all) (hR : LV_readsPerson + 1 ≤ lv) : CallW (rmM lv) s args y0.cls RX4 index yX4_readsPerson cX4_readsPerson 1 none (ws_ yX4_readsPerson cX4_readsPerson 1 none) (rmM LV_readsPerson) 0 0 0 :=
  cwV 0 C.2.2.2.2.1 (lw_V hq q1961 qs67 q127 q1962) rfl rfl rfl (by decide +kernel) ⟨hR, by show 8 + (1 + 11) + 100 * LV_readsPerson ≤ 100 * lv; omega⟩
abbrev LV_readsKin : Nat := 3
def f4_readsKin_77 (x1 : Int32) (u : MS) : Option (Unit × MS) :=
  mb (f4_isGood u) fun r2 u1 =>
  if r2 = 0 then
    some ((), u1)
  else
    mchk (inbM x1 46) <|
    mchk (inbM x1 46) <|
    mlet (mA u1 46 x1.toNatClampNeg ((u1.2.1 46 x1.toNatClampNeg) ||| (1 <<< ((u1.1 28) &&& 31)))) fun u5 =>
    mchk (inbM (u5.1 28) 46) <|
    mchk (inbM (u5.1 28) 46) <|
    mlet (mA u5 46 (u5.1 28).toNatClampNeg ((u5.2.1 46 (u5.1 28).toNatClampNeg) ||| (1 <<< (x1 &&& 31)))) fun u8 =>
    mlet (mS u8 35 ((u8.1 35) + 1)) fun u9 =>
    mb (f4_goes u9) fun _ u10 =>
    some ((), u10)
theorem w4_readsKin_77 {p : Program} {e : Env} {s : State} {m : MethodId} {args : Array Value} {below : List Frame} {meth : Method} {c : Code} (C : Cx t p s m args meth c yX4_readsKin cX4_readsKin 2 none) (x1 : Int32) (u : MS) : VM mkU t g p l e LV_readsKin s m args below meth c 2 77 [(0, .ref g.1), (1, .int x1)] [] u (f4_readsKin_77 x1 u) := by
  unfold f4_readsKin_77
  refine v_aload_n C 0 rfl rfl dX4_readsKin_77 ?_
  refine v_callVM C [] [] (ct4_isGood t g l u) (cw4_isGood C q1912 (by decide)) rfl rfl (Nat.le_of_ble_eq_true rfl) dX4_readsKin_78 (fun r2 u1 => ?_)
  refine v_if_ne C 85 (by decide) dX4_readsKin_81 (fun _ => ?_) (fun _ => ?_)
  · exact v_vretM C dX4_readsKin_84
  · refine v_aload_n C 0 rfl rfl dX4_readsKin_85 ?_
    refine v_getMa C 46 (by decide) (by decide) q1661 rfl dX4_readsKin_86 ?_
    refine v_iload_n C 1 rfl rfl dX4_readsKin_89 ?_
    refine v_dup2 C rfl rfl dX4_readsKin_90 ?_
    refine v_chk (fun h3 => ?_)
    refine v_ialdM C h3 dX4_readsKin_91 ?_
    refine v_iconst C 1 (by decide) dX4_readsKin_92 ?_
    refine v_aload_n C 0 rfl rfl dX4_readsKin_93 ?_
    refine v_getMi C 28 (by decide) (by decide) q1643 rfl dX4_readsKin_94 ?_
    refine v_ishl C dX4_readsKin_97 ?_
    refine v_ior C dX4_readsKin_98 ?_
    refine v_chk (fun h4 => ?_)
    refine v_iastM C h4 dX4_readsKin_99 (fun u5 => ?_)
    refine v_aload_n C 0 rfl rfl dX4_readsKin_100 ?_
    refine v_getMa C 46 (by decide) (by decide) q1661 rfl dX4_readsKin_101 ?_
    refine v_aload_n C 0 rfl rfl dX4_readsKin_104 ?_
    refine v_getMi C 28 (by decide) (by decide) q1643 rfl dX4_readsKin_105 ?_
    refine v_dup2 C rfl rfl dX4_readsKin_108 ?_
    refine v_chk (fun h6 => ?_)
    refine v_ialdM C h6 dX4_readsKin_109 ?_
    refine v_iconst C 1 (by decide) dX4_readsKin_110 ?_
    refine v_iload_n C 1 rfl rfl dX4_readsKin_111 ?_
    refine v_ishl C dX4_readsKin_112 ?_
    refine v_ior C dX4_readsKin_113 ?_
    refine v_chk (fun h7 => ?_)
    refine v_iastM C h7 dX4_readsKin_114 (fun u8 => ?_)
    refine v_aload_n C 0 rfl rfl dX4_readsKin_115 ?_
    refine v_dup C rfl dX4_readsKin_116 ?_
    refine v_getMi C 35 (by decide) (by decide) q1650 rfl dX4_readsKin_117 ?_
    refine v_iconst C 1 (by decide) dX4_readsKin_120 ?_
    refine v_iadd C dX4_readsKin_121 ?_
    refine v_putMi C 35 (by decide) (by decide) q1650 rfl rfl (by decide +kernel) dX4_readsKin_122 (fun u9 => ?_)
    refine v_aload_n C 0 rfl rfl dX4_readsKin_125 ?_
    refine v_callVM C [] [] (ct4_goes t g l u9) (cw4_goes C q1898 (by decide)) rfl rfl (Nat.le_of_ble_eq_true rfl) dX4_readsKin_126 (fun _ u10 => ?_)
    exact v_vretM C dX4_readsKin_129
def f4_readsKin_72 (x1 : Int32) (u : MS) : Option (Unit × MS) :=
  mb (f4_wrong 4 u) fun _ u1 =>
  f4_readsKin_77 x1 u1
theorem w4_readsKin_72 {p : Program} {e : Env} {s : State} {m : MethodId} {args : Array Value} {below : List Frame} {meth : Method} {c : Code} (C : Cx t p s m args meth c yX4_readsKin cX4_readsKin 2 none) (x1 : Int32) (u : MS) : VM mkU t g p l e LV_readsKin s m args below meth c 2 72 [(0, .ref g.1), (1, .int x1)] [] u (f4_readsKin_72 x1 u) := by
  unfold f4_readsKin_72
  refine v_aload_n C 0 rfl rfl dX4_readsKin_72 ?_
  refine v_iconst C 4 (by decide) dX4_readsKin_73 ?_
  refine v_callVM C [.int 4] [] (ct4_wrong t g l 4 u) (cw4_wrong C q1931 (by decide)) rfl rfl (Nat.le_of_ble_eq_true rfl) dX4_readsKin_74 (fun _ u1 => ?_)
  exact w4_readsKin_77 C x1 u1
def f4_readsKin_14 (u : MS) : Option (Unit × MS) :=
  mb (f4_isGood u) fun r2 u1 =>
  if r2 = 0 then
    some ((), u1)
  else
    mb (f4_goes u1) fun _ u3 =>
    mb (f4_among (u3.1 34) u3) fun r5 u4 =>
    mb (f4_amongHere (u4.1 34) u4) fun r7 u6 =>
    if r7 = 0 then
      some ((), u6)
    else
      if (u6.1 28) = r5 then
        f4_readsKin_72 r5 u6
      else
        mchk (inbM r5 46) <|
        if (((u6.2.1 46 r5.toNatClampNeg) >>> ((u6.1 28) &&& 31)) &&& 1) = 1 then
          f4_readsKin_72 r5 u6
        else
          f4_readsKin_77 r5 u6
theorem w4_readsKin_14 {p : Program} {e : Env} {s : State} {m : MethodId} {args : Array Value} {below : List Frame} {meth : Method} {c : Code} (C : Cx t p s m args meth c yX4_readsKin cX4_readsKin 2 none) (u : MS) : VM mkU t g p l e LV_readsKin s m args below meth c 2 14 [(0, .ref g.1)] [] u (f4_readsKin_14 u) := by
  unfold f4_readsKin_14
  refine v_aload_n C 0 rfl rfl dX4_readsKin_14 ?_
  refine v_callVM C [] [] (ct4_isGood t g l u) (cw4_isGood C q1912 (by decide)) rfl rfl (Nat.le_of_ble_eq_true rfl) dX4_readsKin_15 (fun r2 u1 => ?_)
  refine v_if_ne C 22 (by decide) dX4_readsKin_18 (fun _ => ?_) (fun _ => ?_)
  · exact v_vretM C dX4_readsKin_21
  · refine v_aload_n C 0 rfl rfl dX4_readsKin_22 ?_
    refine v_callVM C [] [] (ct4_goes t g l u1) (cw4_goes C q1898 (by decide)) rfl rfl (Nat.le_of_ble_eq_true rfl) dX4_readsKin_23 (fun _ u3 => ?_)
    refine v_aload_n C 0 rfl rfl dX4_readsKin_26 ?_
    refine v_aload_n C 0 rfl rfl dX4_readsKin_27 ?_
    refine v_getMi C 34 (by decide) (by decide) q1649 rfl dX4_readsKin_28 ?_
    refine v_callVM C [.int (u3.1 34)] [] (ct4_among t g l (u3.1 34) u3) (cw4_among C q1947 (by decide)) rfl rfl (Nat.le_of_ble_eq_true rfl) dX4_readsKin_31 (fun r5 u4 => ?_)
    refine v_istore_n C [(1, .int r5), (0, .ref g.1)] rfl (by decide) rfl dX4_readsKin_34 ?_
    refine v_aload_n C 1 rfl rfl dX4_readsKin_35 ?_
    refine v_aload_n C 1 rfl rfl dX4_readsKin_36 ?_
    refine v_getMi C 34 (by decide) (by decide) q1649 rfl dX4_readsKin_37 ?_
    refine v_callVM C [.int (u4.1 34)] [] (ct4_amongHere t g l (u4.1 34) u4) (cw4_amongHere C q1951 (by decide)) rfl rfl (Nat.le_of_ble_eq_true rfl) dX4_readsKin_40 (fun r7 u6 => ?_)
    refine v_if_ne C 47 (by decide) dX4_readsKin_43 (fun _ => ?_) (fun _ => ?_)
    · exact v_vretM C dX4_readsKin_46
    · refine v_aload_n C 1 rfl rfl dX4_readsKin_47 ?_
      refine v_getMi C 28 (by decide) (by decide) q1643 rfl dX4_readsKin_48 ?_
      refine v_iload_n C 0 rfl rfl dX4_readsKin_51 ?_
      refine v_icmp_eq C 72 (by decide) dX4_readsKin_52 (fun _ => ?_) (fun _ => ?_)
      · refine v_sub [1, 0] rfl ?_
        exact w4_readsKin_72 C r5 u6
      · refine v_aload_n C 1 rfl rfl dX4_readsKin_55 ?_
        refine v_getMa C 46 (by decide) (by decide) q1661 rfl dX4_readsKin_56 ?_
        refine v_iload_n C 0 rfl rfl dX4_readsKin_59 ?_
        refine v_chk (fun h8 => ?_)
        refine v_ialdM C h8 dX4_readsKin_60 ?_
        refine v_aload_n C 1 rfl rfl dX4_readsKin_61 ?_
        refine v_getMi C 28 (by decide) (by decide) q1643 rfl dX4_readsKin_62 ?_
        refine v_ishr C dX4_readsKin_65 ?_
        refine v_iconst C 1 (by decide) dX4_readsKin_66 ?_
        refine v_iand C dX4_readsKin_67 ?_
        refine v_iconst C 1 (by decide) dX4_readsKin_68 ?_
        refine v_icmp_ne C 77 (by decide) dX4_readsKin_69 (fun _ => ?_) (fun _ => ?_)
        · refine v_sub [1, 0] rfl ?_
          exact w4_readsKin_72 C r5 u6
        · refine v_sub [1, 0] rfl ?_
          exact w4_readsKin_77 C r5 u6
def f4_readsKin (u : MS) : Option (Unit × MS) :=
  if (u.1 35) = 9 then
    mb (f4_wrong 2 u) fun _ u1 =>
    f4_readsKin_14 u1
  else
    f4_readsKin_14 u
theorem ct4_readsKin (t : TT) (g : GM) (l : Launch) (u : MS) : CtM mkU t g l yX4_readsKin cX4_readsKin 2 none LV_readsKin [.ref g.1] u (f4_readsKin u) := by
  refine ctM_of [(0, .ref g.1)] rfl (Nat.le_of_ble_eq_true rfl) rfl (fun p e s m args below meth c C => ?_)
  unfold f4_readsKin
  refine v_aload_n C 0 rfl rfl dX4_readsKin_0 ?_
  refine v_getMi C 35 (by decide) (by decide) q1650 rfl dX4_readsKin_1 ?_
  refine v_bipush C 9 (by decide) dX4_readsKin_4 ?_
  refine v_icmp_ne C 14 (by decide) dX4_readsKin_6 (fun _ => ?_) (fun _ => ?_)
  · refine v_aload_n C 0 rfl rfl dX4_readsKin_9 ?_
    refine v_iconst C 2 (by decide) dX4_readsKin_10 ?_
    refine v_callVM C [.int 2] [] (ct4_wrong t g l 2 u) (cw4_wrong C q1931 (by decide)) rfl rfl (Nat.le_of_ble_eq_true rfl) dX4_readsKin_11 (fun _ u1 => ?_)
    exact w4_readsKin_14 C u1
  · exact w4_readsKin_14 C u
theorem cw4_readsKin {t : TT} {p : Program} {s : State} {m : MethodId} {args : Array Value} {meth : Method} {c : Code} {y0 : MethodName} {cc0 : ByteArray} {nL0 : Nat} {ret0 : Option FieldType} (C : Cx t p s m args meth c y0 cc0 nL0 ret0) {index lv : Nat} (hq : Cond.methodLink y0.cls index yX4_readsKin ∈ lw_all) (hR : LV_readsKin + 1 ≤ lv) : CallW (rmM lv) s args y0.cls RX4 index yX4_readsKin cX4_readsKin 2 none (ws_ yX4_readsKin cX4_readsKin 2 none) (rmM LV_readsKin) 0 0 0 :=
  cwV 0 C.2.2.2.2.1 (lw_V hq q1965 qs68 q127 q1966) rfl rfl rfl (by decide +kernel) ⟨hR, by show 8 + (2 + 11) + 100 * LV_readsKin ≤ 100 * lv; omega⟩
abbrev LV_readsFriend : Nat := 3
def f4_readsFriend_98 (p1 : Int32) (x2 : Int32) (u : MS) : Option (Unit × MS) :=
  mb (f4_isGood u) fun r2 u1 =>
  if r2 = 0 then
    some ((), u1)
  else
    mchk (inbM (u1.1 36) 47) <|
    mlet (mA u1 47 (u1.1 36).toNatClampNeg x2) fun u4 =>
    mchk (inbM (u4.1 36) 48) <|
    mlet (mA u4 48 (u4.1 36).toNatClampNeg (u4.1 28)) fun u6 =>
    mchk (inbM (u6.1 36) 49) <|
    mlet (mA u6 49 (u6.1 36).toNatClampNeg p1) fun u8 =>
    mlet (mS u8 36 ((u8.1 36) + 1)) fun u9 =>
    mb (f4_goes u9) fun _ u10 =>
    some ((), u10)
theorem w4_readsFriend_98 {p : Program} {e : Env} {s : State} {m : MethodId} {args : Array Value} {below : List Frame} {meth : Method} {c : Code} (C : Cx t p s m args meth c yX4_readsFriend cX4_readsFriend 4 none) (p1 : Int32) (x2 : Int32) (u : MS) : VM mkU t g p l e LV_readsFriend s m args below meth c 4 98 [(0, .ref g.1), (1, .int p1), (2, .int x2)] [] u (f4_readsFriend_98 p1 x2 u) := by
  unfold f4_readsFriend_98
  refine v_aload_n C 0 rfl rfl dX4_readsFriend_98 ?_
  refine v_callVM C [] [] (ct4_isGood t g l u) (cw4_isGood C q1912 (by decide)) rfl rfl (Nat.le_of_ble_eq_true rfl) dX4_readsFriend_99 (fun r2 u1 => ?_)
  refine v_if_ne C 106 (by decide) dX4_readsFriend_102 (fun _ => ?_) (fun _ => ?_)
  · exact v_vretM C dX4_readsFriend_105
  · refine v_aload_n C 0 rfl rfl dX4_readsFriend_106 ?_
    refine v_getMa C 47 (by decide) (by decide) q1662 rfl dX4_readsFriend_107 ?_
    refine v_aload_n C 0 rfl rfl dX4_readsFriend_110 ?_
    refine v_getMi C 36 (by decide) (by decide) q1651 rfl dX4_readsFriend_111 ?_
    refine v_iload_n C 2 rfl rfl dX4_readsFriend_114 ?_
    refine v_chk (fun h3 => ?_)
    refine v_iastM C h3 dX4_readsFriend_115 (fun u4 => ?_)
    refine v_aload_n C 0 rfl rfl dX4_readsFriend_116 ?_
    refine v_getMa C 48 (by decide) (by decide) q1663 rfl dX4_readsFriend_117 ?_
    refine v_aload_n C 0 rfl rfl dX4_readsFriend_120 ?_
    refine v_getMi C 36 (by decide) (by decide) q1651 rfl dX4_readsFriend_121 ?_
    refine v_aload_n C 0 rfl rfl dX4_readsFriend_124 ?_
    refine v_getMi C 28 (by decide) (by decide) q1643 rfl dX4_readsFriend_125 ?_
    refine v_chk (fun h5 => ?_)
    refine v_iastM C h5 dX4_readsFriend_128 (fun u6 => ?_)
    refine v_aload_n C 0 rfl rfl dX4_readsFriend_129 ?_
    refine v_getMa C 49 (by decide) (by decide) q1664 rfl dX4_readsFriend_130 ?_
    refine v_aload_n C 0 rfl rfl dX4_readsFriend_133 ?_
    refine v_getMi C 36 (by decide) (by decide) q1651 rfl dX4_readsFriend_134 ?_
    refine v_iload_n C 1 rfl rfl dX4_readsFriend_137 ?_
    refine v_chk (fun h7 => ?_)
    refine v_iastM C h7 dX4_readsFriend_138 (fun u8 => ?_)
    refine v_aload_n C 0 rfl rfl dX4_readsFriend_139 ?_
    refine v_dup C rfl dX4_readsFriend_140 ?_
    refine v_getMi C 36 (by decide) (by decide) q1651 rfl dX4_readsFriend_141 ?_
    refine v_iconst C 1 (by decide) dX4_readsFriend_144 ?_
    refine v_iadd C dX4_readsFriend_145 ?_
    refine v_putMi C 36 (by decide) (by decide) q1651 rfl rfl (by decide +kernel) dX4_readsFriend_146 (fun u9 => ?_)
    refine v_aload_n C 0 rfl rfl dX4_readsFriend_149 ?_
    refine v_callVM C [] [] (ct4_goes t g l u9) (cw4_goes C q1898 (by decide)) rfl rfl (Nat.le_of_ble_eq_true rfl) dX4_readsFriend_150 (fun _ u10 => ?_)
    exact v_vretM C dX4_readsFriend_153
def f4_readsFriend_49 (p1 : Int32) (k : Int32 → Int32 → MS → Option (Unit × MS)) (x2 : Int32) (x3 : Int32) (u : MS) : Option (Unit × MS) :=
  if (u.1 36) ≤ x3 then
    f4_readsFriend_98 p1 x2 u
  else
    mb (f4_isGood u) fun r2 u1 =>
    if r2 = 0 then
      f4_readsFriend_98 p1 x2 u1
    else
      mchk (inbM x3 47) <|
      if (u1.2.1 47 x3.toNatClampNeg) = x2 then
        mchk (inbM x3 48) <|
        if (u1.2.1 48 x3.toNatClampNeg) = (u1.1 28) then
          mb (f4_wrong 4 u1) fun _ u5 =>
          k x2 (x3 + 1) u5
        else
          k x2 (x3 + 1) u1
      else
        k x2 (x3 + 1) u1
theorem w4_readsFriend_49 {p : Program} {e : Env} {s : State} {m : MethodId} {args : Array Value} {below : List Frame} {meth : Method} {c : Code} (C : Cx t p s m args meth c yX4_readsFriend cX4_readsFriend 4 none) (p1 : Int32) (n : Nat) (x2 : Int32) (x3 : Int32) (u : MS) : VM mkU t g p l e LV_readsFriend s m args below meth c 4 49 [(0, .ref g.1), (1, .int p1), (2, .int x2), (3, .int x3)] [] u (ml2 (f4_readsFriend_49 p1) n x2 x3 u) := by
  refine vl2 (L := fun x2 x3 => [(0, .ref g.1), (1, .int p1), (2, .int x2), (3, .int x3)]) (fun k hk x2 x3 u => ?_) n x2 x3 u
  unfold f4_readsFriend_49
  refine v_iload_n C 3 rfl rfl dX4_readsFriend_49 ?_
  refine v_aload_n C 0 rfl rfl dX4_readsFriend_50 ?_
  refine v_getMi C 36 (by decide) (by decide) q1651 rfl dX4_readsFriend_51 ?_
  refine v_icmp_ge C 98 (by decide) dX4_readsFriend_54 (fun _ => ?_) (fun _ => ?_)
  · refine v_sub [0, 1, 2] rfl ?_
    exact w4_readsFriend_98 C p1 x2 u
  · refine v_aload_n C 0 rfl rfl dX4_readsFriend_57 ?_
    refine v_callVM C [] [] (ct4_isGood t g l u) (cw4_isGood C q1912 (by decide)) rfl rfl (Nat.le_of_ble_eq_true rfl) dX4_readsFriend_58 (fun r2 u1 => ?_)
    refine v_if_eq C 98 (by decide) dX4_readsFriend_61 (fun _ => ?_) (fun _ => ?_)
    · refine v_sub [0, 1, 2] rfl ?_
      exact w4_readsFriend_98 C p1 x2 u1
    · refine v_aload_n C 0 rfl rfl dX4_readsFriend_64 ?_
      refine v_getMa C 47 (by decide) (by decide) q1662 rfl dX4_readsFriend_65 ?_
      refine v_iload_n C 3 rfl rfl dX4_readsFriend_68 ?_
      refine v_chk (fun h3 => ?_)
      refine v_ialdM C h3 dX4_readsFriend_69 ?_
      refine v_iload_n C 2 rfl rfl dX4_readsFriend_70 ?_
      refine v_icmp_ne C 92 (by decide) dX4_readsFriend_71 (fun _ => ?_) (fun _ => ?_)
      · refine v_aload_n C 0 rfl rfl dX4_readsFriend_74 ?_
        refine v_getMa C 48 (by decide) (by decide) q1663 rfl dX4_readsFriend_75 ?_
        refine v_iload_n C 3 rfl rfl dX4_readsFriend_78 ?_
        refine v_chk (fun h4 => ?_)
        refine v_ialdM C h4 dX4_readsFriend_79 ?_
        refine v_aload_n C 0 rfl rfl dX4_readsFriend_80 ?_
        refine v_getMi C 28 (by decide) (by decide) q1643 rfl dX4_readsFriend_81 ?_
        refine v_icmp_ne C 92 (by decide) dX4_readsFriend_84 (fun _ => ?_) (fun _ => ?_)
        · refine v_aload_n C 0 rfl rfl dX4_readsFriend_87 ?_
          refine v_iconst C 4 (by decide) dX4_readsFriend_88 ?_
          refine v_callVM C [.int 4] [] (ct4_wrong t g l 4 u1) (cw4_wrong C q1931 (by decide)) rfl rfl (Nat.le_of_ble_eq_true rfl) dX4_readsFriend_89 (fun _ u5 => ?_)
          refine v_iinc C 1 [(3, .int (x3 + 1)), (0, .ref g.1), (1, .int p1), (2, .int x2)] 3 rfl (by decide) (by decide) rfl dX4_readsFriend_92 ?_
          refine v_goto C 49 (by decide) dX4_readsFriend_95 ?_
          refine v_sub [1, 2, 3, 0] rfl ?_
          exact hk x2 (x3 + 1) u5
        · refine v_iinc C 1 [(3, .int (x3 + 1)), (0, .ref g.1), (1, .int p1), (2, .int x2)] 3 rfl (by decide) (by decide) rfl dX4_readsFriend_92 ?_
          refine v_goto C 49 (by decide) dX4_readsFriend_95 ?_
          refine v_sub [1, 2, 3, 0] rfl ?_
          exact hk x2 (x3 + 1) u1
      · refine v_iinc C 1 [(3, .int (x3 + 1)), (0, .ref g.1), (1, .int p1), (2, .int x2)] 3 rfl (by decide) (by decide) rfl dX4_readsFriend_92 ?_
        refine v_goto C 49 (by decide) dX4_readsFriend_95 ?_
        refine v_sub [1, 2, 3, 0] rfl ?_
        exact hk x2 (x3 + 1) u1
def f4_readsFriend_14 (p1 : Int32) (u : MS) : Option (Unit × MS) :=
  mb (f4_isGood u) fun r2 u1 =>
  if r2 = 0 then
    some ((), u1)
  else
    mb (f4_goes u1) fun _ u3 =>
    mb (f4_among (u3.1 31) u3) fun r5 u4 =>
    mb (f4_amongHere (u4.1 34) u4) fun r7 u6 =>
    if r7 = 0 then
      some ((), u6)
    else
      ml2 (f4_readsFriend_49 p1) FUEL r5 0 u6
theorem w4_readsFriend_14 {p : Program} {e : Env} {s : State} {m : MethodId} {args : Array Value} {below : List Frame} {meth : Method} {c : Code} (C : Cx t p s m args meth c yX4_readsFriend cX4_readsFriend 4 none) (p1 : Int32) (u : MS) : VM mkU t g p l e LV_readsFriend s m args below meth c 4 14 [(0, .ref g.1), (1, .int p1)] [] u (f4_readsFriend_14 p1 u) := by
  unfold f4_readsFriend_14
  refine v_aload_n C 0 rfl rfl dX4_readsFriend_14 ?_
  refine v_callVM C [] [] (ct4_isGood t g l u) (cw4_isGood C q1912 (by decide)) rfl rfl (Nat.le_of_ble_eq_true rfl) dX4_readsFriend_15 (fun r2 u1 => ?_)
  refine v_if_ne C 22 (by decide) dX4_readsFriend_18 (fun _ => ?_) (fun _ => ?_)
  · exact v_vretM C dX4_readsFriend_21
  · refine v_aload_n C 0 rfl rfl dX4_readsFriend_22 ?_
    refine v_callVM C [] [] (ct4_goes t g l u1) (cw4_goes C q1898 (by decide)) rfl rfl (Nat.le_of_ble_eq_true rfl) dX4_readsFriend_23 (fun _ u3 => ?_)
    refine v_aload_n C 0 rfl rfl dX4_readsFriend_26 ?_
    refine v_aload_n C 0 rfl rfl dX4_readsFriend_27 ?_
    refine v_getMi C 31 (by decide) (by decide) q1646 rfl dX4_readsFriend_28 ?_
    refine v_callVM C [.int (u3.1 31)] [] (ct4_among t g l (u3.1 31) u3) (cw4_among C q1947 (by decide)) rfl rfl (Nat.le_of_ble_eq_true rfl) dX4_readsFriend_31 (fun r5 u4 => ?_)
    refine v_istore_n C [(2, .int r5), (0, .ref g.1), (1, .int p1)] rfl (by decide) rfl dX4_readsFriend_34 ?_
    refine v_aload_n C 1 rfl rfl dX4_readsFriend_35 ?_
    refine v_aload_n C 1 rfl rfl dX4_readsFriend_36 ?_
    refine v_getMi C 34 (by decide) (by decide) q1649 rfl dX4_readsFriend_37 ?_
    refine v_callVM C [.int (u4.1 34)] [] (ct4_amongHere t g l (u4.1 34) u4) (cw4_amongHere C q1951 (by decide)) rfl rfl (Nat.le_of_ble_eq_true rfl) dX4_readsFriend_40 (fun r7 u6 => ?_)
    refine v_if_ne C 47 (by decide) dX4_readsFriend_43 (fun _ => ?_) (fun _ => ?_)
    · exact v_vretM C dX4_readsFriend_46
    · refine v_iconst C 0 (by decide) dX4_readsFriend_47 ?_
      refine v_istore_n C [(3, .int 0), (2, .int r5), (0, .ref g.1), (1, .int p1)] rfl (by decide) rfl dX4_readsFriend_48 ?_
      refine v_sub [2, 3, 1, 0] rfl ?_
      exact w4_readsFriend_49 C p1 FUEL r5 0 u6
def f4_readsFriend (p1 : Int32) (u : MS) : Option (Unit × MS) :=
  if (u.1 36) = 12 then
    mb (f4_wrong 2 u) fun _ u1 =>
    f4_readsFriend_14 p1 u1
  else
    f4_readsFriend_14 p1 u
theorem ct4_readsFriend (t : TT) (g : GM) (l : Launch) (p1 : Int32) (u : MS) : CtM mkU t g l yX4_readsFriend cX4_readsFriend 4 none LV_readsFriend [.ref g.1, .int p1] u (f4_readsFriend p1 u) := by
  refine ctM_of [(0, .ref g.1), (1, .int p1)] rfl (Nat.le_of_ble_eq_true rfl) rfl (fun p e s m args below meth c C => ?_)
  unfold f4_readsFriend
  refine v_aload_n C 0 rfl rfl dX4_readsFriend_0 ?_
  refine v_getMi C 36 (by decide) (by decide) q1651 rfl dX4_readsFriend_1 ?_
  refine v_bipush C 12 (by decide) dX4_readsFriend_4 ?_
  refine v_icmp_ne C 14 (by decide) dX4_readsFriend_6 (fun _ => ?_) (fun _ => ?_)
  · refine v_aload_n C 0 rfl rfl dX4_readsFriend_9 ?_
    refine v_iconst C 2 (by decide) dX4_readsFriend_10 ?_
    refine v_callVM C [.int 2] [] (ct4_wrong t g l 2 u) (cw4_wrong C q1931 (by decide)) rfl rfl (Nat.le_of_ble_eq_true rfl) dX4_readsFriend_11 (fun _ u1 => ?_)
    exact w4_readsFriend_14 C p1 u1
  · exact w4_readsFriend_14 C p1 u
theorem cw4_readsFriend {t : TT} {p : Program} {s : State} {m : MethodId} {args : Array Value} {meth : Method} {c : Code} {y0 : MethodName} {cc0 : ByteArray} {nL0 : Nat} {ret0 : Option FieldType} (C : Cx t p s m args meth c y0 cc0 nL0 ret0) {index lv : Nat} (hq : Cond.methodLink y0.cls index yX4_readsFriend ∈ lw_all) (hR : LV_readsFriend + 1 ≤ lv) : CallW (rmM lv) s args y0.cls RX4 index yX4_readsFriend cX4_readsFriend 4 none (ws_ yX4_readsFriend cX4_readsFriend 4 none) (rmM LV_readsFriend) 0 0 1 :=
  cwV 1 C.2.2.2.2.1 (lw_V hq q1969 qs69 q127 q1970) rfl rfl rfl (by decide +kernel) ⟨hR, by show 8 + (4 + 11) + 100 * LV_readsFriend ≤ 100 * lv; omega⟩
abbrev LV_isSign : Nat := 0
def f4_isSign (p1 : Int32) (u : MS) : Option (Int32 × MS) :=
  if (u.1 25) = 3 then
    if (u.1 29) = p1 then
      rz 1 u
    else
      rz 0 u
  else
    rz 0 u
theorem ct4_isSign (t : TT) (g : GM) (l : Launch) (p1 : Int32) (u : MS) : CtM mkI t g l yX4_isSign cX4_isSign 2 (some .boolean) LV_isSign [.ref g.1, .int p1] u (f4_isSign p1 u) := by
  refine ctM_of [(0, .ref g.1), (1, .int p1)] rfl (Nat.le_of_ble_eq_true rfl) rfl (fun p e s m args below meth c C => ?_)
  unfold f4_isSign
  refine v_aload_n C 0 rfl rfl dX4_isSign_0 ?_
  refine v_getMi C 25 (by decide) (by decide) q1640 rfl dX4_isSign_1 ?_
  refine v_iconst C 3 (by decide) dX4_isSign_4 ?_
  refine v_icmp_ne C 20 (by decide) dX4_isSign_5 (fun _ => ?_) (fun _ => ?_)
  · refine v_aload_n C 0 rfl rfl dX4_isSign_8 ?_
    refine v_getMi C 29 (by decide) (by decide) q1644 rfl dX4_isSign_9 ?_
    refine v_iload_n C 1 rfl rfl dX4_isSign_12 ?_
    refine v_icmp_ne C 20 (by decide) dX4_isSign_13 (fun _ => ?_) (fun _ => ?_)
    · refine v_iconst C 1 (by decide) dX4_isSign_16 ?_
      refine v_goto C 21 (by decide) dX4_isSign_17 ?_
      exact v_zretM C dX4_isSign_21
    · refine v_iconst C 0 (by decide) dX4_isSign_20 ?_
      exact v_zretM C dX4_isSign_21
  · refine v_iconst C 0 (by decide) dX4_isSign_20 ?_
    exact v_zretM C dX4_isSign_21
theorem cw4_isSign {t : TT} {p : Program} {s : State} {m : MethodId} {args : Array Value} {meth : Method} {c : Code} {y0 : MethodName} {cc0 : ByteArray} {nL0 : Nat} {ret0 : Option FieldType} (C : Cx t p s m args meth c y0 cc0 nL0 ret0) {index lv : Nat} (hq : Cond.methodLink y0.cls index yX4_isSign ∈ lw_all) (hR : LV_isSign + 1 ≤ lv) : CallW (rmM lv) s args y0.cls RX4 index yX4_isSign cX4_isSign 2 (some .boolean) (ws_ yX4_isSign cX4_isSign 2 (some .boolean)) (rmM LV_isSign) 0 0 1 :=
  cwV 1 C.2.2.2.2.1 (lw_V hq q1981 qs72 q127 q1982) rfl rfl rfl (by decide +kernel) ⟨hR, by show 8 + (2 + 11) + 100 * LV_isSign ≤ 100 * lv; omega⟩
abbrev LV_deeper : Nat := 1
def f4_deeper_61 (s1 : Int32) (u : MS) : Option (Unit × MS) :=
  mb (f4_wrong s1 u) fun _ u1 =>
  some ((), u1)
theorem w4_deeper_61 {p : Program} {e : Env} {s : State} {m : MethodId} {args : Array Value} {below : List Frame} {meth : Method} {c : Code} (C : Cx t p s m args meth c yX4_deeper cX4_deeper 1 none) (s1 : Int32) (u : MS) : VM mkU t g p l e LV_deeper s m args below meth c 1 61 [] [.int s1, .ref g.1] u (f4_deeper_61 s1 u) := by
  unfold f4_deeper_61
  refine v_callVM C [.int s1] [] (ct4_wrong t g l s1 u) (cw4_wrong C q1931 (by decide)) rfl rfl (Nat.le_of_ble_eq_true rfl) dX4_deeper_61 (fun _ u1 => ?_)
  exact v_vretM C dX4_deeper_64
def f4_deeper (u : MS) : Option (Unit × MS) :=
  if 6 ≤ (u.1 40) then
    if (u.1 25) = 2 then
      f4_deeper_61 2 u
    else
      if (u.1 25) = 1 then
        f4_deeper_61 2 u
      else
        mb (f4_isSign 40 u) fun r2 u1 =>
        if r2 = 0 then
          f4_deeper_61 1 u1
        else
          f4_deeper_61 2 u1
  else
    mlet (mS u 40 ((u.1 40) + 1)) fun u1 =>
    mchk (inbZ (u1.1 40) 53) <|
    mlet (mA u1 53 (u1.1 40).toNatClampNeg 0) fun u3 =>
    some ((), u3)
theorem ct4_deeper (t : TT) (g : GM) (l : Launch) (u : MS) : CtM mkU t g l yX4_deeper cX4_deeper 1 none LV_deeper [.ref g.1] u (f4_deeper u) := by
  refine ctM_of [(0, .ref g.1)] rfl (Nat.le_of_ble_eq_true rfl) rfl (fun p e s m args below meth c C => ?_)
  unfold f4_deeper
  refine v_aload_n C 0 rfl rfl dX4_deeper_0 ?_
  refine v_getMi C 40 (by decide) (by decide) q1655 rfl dX4_deeper_1 ?_
  refine v_bipush C 6 (by decide) dX4_deeper_4 ?_
  refine v_icmp_ge C 30 (by decide) dX4_deeper_6 (fun _ => ?_) (fun _ => ?_)
  · refine v_aload_n C 0 rfl rfl dX4_deeper_30 ?_
    refine v_aload_n C 0 rfl rfl dX4_deeper_31 ?_
    refine v_getMi C 25 (by decide) (by decide) q1640 rfl dX4_deeper_32 ?_
    refine v_iconst C 2 (by decide) dX4_deeper_35 ?_
    refine v_icmp_eq C 56 (by decide) dX4_deeper_36 (fun _ => ?_) (fun _ => ?_)
    · refine v_iconst C 2 (by decide) dX4_deeper_56 ?_
      refine v_goto C 61 (by decide) dX4_deeper_57 ?_
      refine v_sub [] rfl ?_
      exact w4_deeper_61 C 2 u
    · refine v_aload_n C 0 rfl rfl dX4_deeper_39 ?_
      refine v_getMi C 25 (by decide) (by decide) q1640 rfl dX4_deeper_40 ?_
      refine v_iconst C 1 (by decide) dX4_deeper_43 ?_
      refine v_icmp_eq C 56 (by decide) dX4_deeper_44 (fun _ => ?_) (fun _ => ?_)
      · refine v_iconst C 2 (by decide) dX4_deeper_56 ?_
        refine v_goto C 61 (by decide) dX4_deeper_57 ?_
        refine v_sub [] rfl ?_
        exact w4_deeper_61 C 2 u
      · refine v_aload_n C 0 rfl rfl dX4_deeper_47 ?_
        refine v_bipush C 40 (by decide) dX4_deeper_48 ?_
        refine v_callVM C [.int 40] [.ref g.1] (ct4_isSign t g l 40 u) (cw4_isSign C q1979 (by decide)) rfl rfl (Nat.le_of_ble_eq_true rfl) dX4_deeper_50 (fun r2 u1 => ?_)
        refine v_if_eq C 60 (by decide) dX4_deeper_53 (fun _ => ?_) (fun _ => ?_)
        · refine v_iconst C 1 (by decide) dX4_deeper_60 ?_
          refine v_sub [] rfl ?_
          exact w4_deeper_61 C 1 u1
        · refine v_iconst C 2 (by decide) dX4_deeper_56 ?_
          refine v_goto C 61 (by decide) dX4_deeper_57 ?_
          refine v_sub [] rfl ?_
          exact w4_deeper_61 C 2 u1
  · refine v_aload_n C 0 rfl rfl dX4_deeper_9 ?_
    refine v_dup C rfl dX4_deeper_10 ?_
    refine v_getMi C 40 (by decide) (by decide) q1655 rfl dX4_deeper_11 ?_
    refine v_iconst C 1 (by decide) dX4_deeper_14 ?_
    refine v_iadd C dX4_deeper_15 ?_
    refine v_putMi C 40 (by decide) (by decide) q1655 rfl rfl (by decide +kernel) dX4_deeper_16 (fun u1 => ?_)
    refine v_aload_n C 0 rfl rfl dX4_deeper_19 ?_
    refine v_getMa C 53 (by decide) (by decide) q1668 rfl dX4_deeper_20 ?_
    refine v_aload_n C 0 rfl rfl dX4_deeper_23 ?_
    refine v_getMi C 40 (by decide) (by decide) q1655 rfl dX4_deeper_24 ?_
    refine v_iconst C 0 (by decide) dX4_deeper_27 ?_
    refine v_chk (fun h2 => ?_)
    refine v_bastM C h2 rfl dX4_deeper_28 (fun u3 => ?_)
    exact v_vretM C dX4_deeper_29
theorem cw4_deeper {t : TT} {p : Program} {s : State} {m : MethodId} {args : Array Value} {meth : Method} {c : Code} {y0 : MethodName} {cc0 : ByteArray} {nL0 : Nat} {ret0 : Option FieldType} (C : Cx t p s m args meth c y0 cc0 nL0 ret0) {index lv : Nat} (hq : Cond.methodLink y0.cls index yX4_deeper ∈ lw_all) (hR : LV_deeper + 1 ≤ lv) : CallW (rmM lv) s args y0.cls RX4 index yX4_deeper cX4_deeper 1 none (ws_ yX4_deeper cX4_deeper 1 none) (rmM LV_deeper) 0 0 0 :=
  cwV 0 C.2.2.2.2.1 (lw_V hq q1977 qs71 q127 q1978) rfl rfl rfl (by decide +kernel) ⟨hR, by show 8 + (1 + 11) + 100 * LV_deeper ≤ 100 * lv; omega⟩
abbrev LV_waitsFor : Nat := 0
def f4_waitsFor (p1 : Int32) (u : MS) : Option (Unit × MS) :=
  mchk (inbM (u.1 39) 52) <|
  mlet (mA u 52 (u.1 39).toNatClampNeg p1) fun u2 =>
  mlet (mS u2 39 ((u2.1 39) + 1)) fun u3 =>
  some ((), u3)
theorem ct4_waitsFor (t : TT) (g : GM) (l : Launch) (p1 : Int32) (u : MS) : CtM mkU t g l yX4_waitsFor cX4_waitsFor 2 none LV_waitsFor [.ref g.1, .int p1] u (f4_waitsFor p1 u) := by
  refine ctM_of [(0, .ref g.1), (1, .int p1)] rfl (Nat.le_of_ble_eq_true rfl) rfl (fun p e s m args below meth c C => ?_)
  unfold f4_waitsFor
  refine v_aload_n C 0 rfl rfl dX4_waitsFor_0 ?_
  refine v_getMa C 52 (by decide) (by decide) q1667 rfl dX4_waitsFor_1 ?_
  refine v_aload_n C 0 rfl rfl dX4_waitsFor_4 ?_
  refine v_getMi C 39 (by decide) (by decide) q1654 rfl dX4_waitsFor_5 ?_
  refine v_iload_n C 1 rfl rfl dX4_waitsFor_8 ?_
  refine v_chk (fun h1 => ?_)
  refine v_iastM C h1 dX4_waitsFor_9 (fun u2 => ?_)
  refine v_aload_n C 0 rfl rfl dX4_waitsFor_10 ?_
  refine v_dup C rfl dX4_waitsFor_11 ?_
  refine v_getMi C 39 (by decide) (by decide) q1654 rfl dX4_waitsFor_12 ?_
  refine v_iconst C 1 (by decide) dX4_waitsFor_15 ?_
  refine v_iadd C dX4_waitsFor_16 ?_
  refine v_putMi C 39 (by decide) (by decide) q1654 rfl rfl (by decide +kernel) dX4_waitsFor_17 (fun u3 => ?_)
  exact v_vretM C dX4_waitsFor_20
theorem cw4_waitsFor {t : TT} {p : Program} {s : State} {m : MethodId} {args : Array Value} {meth : Method} {c : Code} {y0 : MethodName} {cc0 : ByteArray} {nL0 : Nat} {ret0 : Option FieldType} (C : Cx t p s m args meth c y0 cc0 nL0 ret0) {index lv : Nat} (hq : Cond.methodLink y0.cls index yX4_waitsFor ∈ lw_all) (hR : LV_waitsFor + 1 ≤ lv) : CallW (rmM lv) s args y0.cls RX4 index yX4_waitsFor cX4_waitsFor 2 none (ws_ yX4_waitsFor cX4_waitsFor 2 none) (rmM LV_waitsFor) 0 0 1 :=
  cwV 1 C.2.2.2.2.1 (lw_V hq q1989 qs74 q127 q1990) rfl rfl rfl (by decide +kernel) ⟨hR, by show 8 + (2 + 11) + 100 * LV_waitsFor ≤ 100 * lv; omega⟩
abbrev LV_puts : Nat := 0
def f4_puts (p1 : Int32) (u : MS) : Option (Unit × MS) :=
  mchk (inbM (u.1 38) 51) <|
  mlet (mA u 51 (u.1 38).toNatClampNeg p1) fun u2 =>
  mlet (mS u2 38 ((u2.1 38) + 1)) fun u3 =>
  some ((), u3)
theorem ct4_puts (t : TT) (g : GM) (l : Launch) (p1 : Int32) (u : MS) : CtM mkU t g l yX4_puts cX4_puts 2 none LV_puts [.ref g.1, .int p1] u (f4_puts p1 u) := by
  refine ctM_of [(0, .ref g.1), (1, .int p1)] rfl (Nat.le_of_ble_eq_true rfl) rfl (fun p e s m args below meth c C => ?_)
  unfold f4_puts
  refine v_aload_n C 0 rfl rfl dX4_puts_0 ?_
  refine v_getMa C 51 (by decide) (by decide) q1666 rfl dX4_puts_1 ?_
  refine v_aload_n C 0 rfl rfl dX4_puts_4 ?_
  refine v_getMi C 38 (by decide) (by decide) q1653 rfl dX4_puts_5 ?_
  refine v_iload_n C 1 rfl rfl dX4_puts_8 ?_
  refine v_chk (fun h1 => ?_)
  refine v_iastM C h1 dX4_puts_9 (fun u2 => ?_)
  refine v_aload_n C 0 rfl rfl dX4_puts_10 ?_
  refine v_dup C rfl dX4_puts_11 ?_
  refine v_getMi C 38 (by decide) (by decide) q1653 rfl dX4_puts_12 ?_
  refine v_iconst C 1 (by decide) dX4_puts_15 ?_
  refine v_iadd C dX4_puts_16 ?_
  refine v_putMi C 38 (by decide) (by decide) q1653 rfl rfl (by decide +kernel) dX4_puts_17 (fun u3 => ?_)
  exact v_vretM C dX4_puts_20
theorem cw4_puts {t : TT} {p : Program} {s : State} {m : MethodId} {args : Array Value} {meth : Method} {c : Code} {y0 : MethodName} {cc0 : ByteArray} {nL0 : Nat} {ret0 : Option FieldType} (C : Cx t p s m args meth c y0 cc0 nL0 ret0) {index lv : Nat} (hq : Cond.methodLink y0.cls index yX4_puts ∈ lw_all) (hR : LV_puts + 1 ≤ lv) : CallW (rmM lv) s args y0.cls RX4 index yX4_puts cX4_puts 2 none (ws_ yX4_puts cX4_puts 2 none) (rmM LV_puts) 0 0 1 :=
  cwV 1 C.2.2.2.2.1 (lw_V hq q1997 qs76 q127 q1998) rfl rfl rfl (by decide +kernel) ⟨hR, by show 8 + (2 + 11) + 100 * LV_puts ≤ 100 * lv; omega⟩
abbrev LV_part : Nat := 3
def f4_part_91 (u : MS) : Option (Unit × MS) :=
  mb (f4_isGood u) fun r2 u1 =>
  if r2 = 0 then
    some ((), u1)
  else
    mb (f4_goes u1) fun _ u3 =>
    some ((), u3)
theorem w4_part_91 {p : Program} {e : Env} {s : State} {m : MethodId} {args : Array Value} {below : List Frame} {meth : Method} {c : Code} (C : Cx t p s m args meth c yX4_part cX4_part 2 none) (u : MS) : VM mkU t g p l e LV_part s m args below meth c 2 91 [(0, .ref g.1)] [] u (f4_part_91 u) := by
  unfold f4_part_91
  refine v_aload_n C 0 rfl rfl dX4_part_91 ?_
  refine v_callVM C [] [] (ct4_isGood t g l u) (cw4_isGood C q1912 (by decide)) rfl rfl (Nat.le_of_ble_eq_true rfl) dX4_part_92 (fun r2 u1 => ?_)
  refine v_if_eq C 102 (by decide) dX4_part_95 (fun _ => ?_) (fun _ => ?_)
  · exact v_vretM C dX4_part_102
  · refine v_aload_n C 0 rfl rfl dX4_part_98 ?_
    refine v_callVM C [] [] (ct4_goes t g l u1) (cw4_goes C q1898 (by decide)) rfl rfl (Nat.le_of_ble_eq_true rfl) dX4_part_99 (fun _ u3 => ?_)
    exact v_vretM C dX4_part_102
def f4_part_73 (x1 : Int32) (u : MS) : Option (Unit × MS) :=
  mb (f4_puts 2 u) fun _ u1 =>
  mb (f4_puts x1 u1) fun _ u2 =>
  f4_part_91 u2
theorem w4_part_73 {p : Program} {e : Env} {s : State} {m : MethodId} {args : Array Value} {below : List Frame} {meth : Method} {c : Code} (C : Cx t p s m args meth c yX4_part cX4_part 2 none) (x1 : Int32) (u : MS) : VM mkU t g p l e LV_part s m args below meth c 2 73 [(0, .ref g.1), (1, .int x1)] [] u (f4_part_73 x1 u) := by
  unfold f4_part_73
  refine v_aload_n C 0 rfl rfl dX4_part_73 ?_
  refine v_iconst C 2 (by decide) dX4_part_74 ?_
  refine v_callVM C [.int 2] [] (ct4_puts t g l 2 u) (cw4_puts C q1995 (by decide)) rfl rfl (Nat.le_of_ble_eq_true rfl) dX4_part_75 (fun _ u1 => ?_)
  refine v_aload_n C 0 rfl rfl dX4_part_78 ?_
  refine v_iload_n C 1 rfl rfl dX4_part_79 ?_
  refine v_callVM C [.int x1] [] (ct4_puts t g l x1 u1) (cw4_puts C q1995 (by decide)) rfl rfl (Nat.le_of_ble_eq_true rfl) dX4_part_80 (fun _ u2 => ?_)
  refine v_goto C 91 (by decide) dX4_part_83 ?_
  refine v_sub [0] rfl ?_
  exact w4_part_91 C u2
def f4_part_68 (x1 : Int32) (u : MS) : Option (Unit × MS) :=
  mb (f4_wrong 3 u) fun _ u1 =>
  f4_part_73 x1 u1
theorem w4_part_68 {p : Program} {e : Env} {s : State} {m : MethodId} {args : Array Value} {below : List Frame} {meth : Method} {c : Code} (C : Cx t p s m args meth c yX4_part cX4_part 2 none) (x1 : Int32) (u : MS) : VM mkU t g p l e LV_part s m args below meth c 2 68 [(0, .ref g.1), (1, .int x1)] [] u (f4_part_68 x1 u) := by
  unfold f4_part_68
  refine v_aload_n C 0 rfl rfl dX4_part_68 ?_
  refine v_iconst C 3 (by decide) dX4_part_69 ?_
  refine v_callVM C [.int 3] [] (ct4_wrong t g l 3 u) (cw4_wrong C q1931 (by decide)) rfl rfl (Nat.le_of_ble_eq_true rfl) dX4_part_70 (fun _ u1 => ?_)
  exact w4_part_73 C x1 u1
def f4_part_29 (u : MS) : Option (Unit × MS) :=
  mb (f4_puts 1 u) fun _ u1 =>
  mb (f4_puts (u1.1 28) u1) fun _ u2 =>
  f4_part_91 u2
theorem w4_part_29 {p : Program} {e : Env} {s : State} {m : MethodId} {args : Array Value} {below : List Frame} {meth : Method} {c : Code} (C : Cx t p s m args meth c yX4_part cX4_part 2 none) (u : MS) : VM mkU t g p l e LV_part s m args below meth c 2 29 [(0, .ref g.1)] [] u (f4_part_29 u) := by
  unfold f4_part_29
  refine v_aload_n C 0 rfl rfl dX4_part_29 ?_
  refine v_iconst C 1 (by decide) dX4_part_30 ?_
  refine v_callVM C [.int 1] [] (ct4_puts t g l 1 u) (cw4_puts C q1995 (by decide)) rfl rfl (Nat.le_of_ble_eq_true rfl) dX4_part_31 (fun _ u1 => ?_)
  refine v_aload_n C 0 rfl rfl dX4_part_34 ?_
  refine v_aload_n C 0 rfl rfl dX4_part_35 ?_
  refine v_getMi C 28 (by decide) (by decide) q1643 rfl dX4_part_36 ?_
  refine v_callVM C [.int (u1.1 28)] [] (ct4_puts t g l (u1.1 28) u1) (cw4_puts C q1995 (by decide)) rfl rfl (Nat.le_of_ble_eq_true rfl) dX4_part_39 (fun _ u2 => ?_)
  refine v_goto C 91 (by decide) dX4_part_42 ?_
  exact w4_part_91 C u2
def f4_part (u : MS) : Option (Unit × MS) :=
  mb (f4_isGood u) fun r2 u1 =>
  if r2 = 0 then
    some ((), u1)
  else
    if (u1.1 25) = 2 then
      if (u1.1 27) ≤ 4 then
        f4_part_29 u1
      else
        mb (f4_wrong 2 u1) fun _ u3 =>
        f4_part_29 u3
    else
      if (u1.1 25) = 1 then
        mb (f4_knownWord u1) fun r4 u3 =>
        if r4 < 0 then
          f4_part_68 r4 u3
        else
          if r4 ≤ 7 then
            f4_part_73 r4 u3
          else
            f4_part_68 r4 u3
      else
        mb (f4_wrong 1 u1) fun _ u3 =>
        f4_part_91 u3
theorem ct4_part (t : TT) (g : GM) (l : Launch) (u : MS) : CtM mkU t g l yX4_part cX4_part 2 none LV_part [.ref g.1] u (f4_part u) := by
  refine ctM_of [(0, .ref g.1)] rfl (Nat.le_of_ble_eq_true rfl) rfl (fun p e s m args below meth c C => ?_)
  unfold f4_part
  refine v_aload_n C 0 rfl rfl dX4_part_0 ?_
  refine v_callVM C [] [] (ct4_isGood t g l u) (cw4_isGood C q1912 (by decide)) rfl rfl (Nat.le_of_ble_eq_true rfl) dX4_part_1 (fun r2 u1 => ?_)
  refine v_if_ne C 8 (by decide) dX4_part_4 (fun _ => ?_) (fun _ => ?_)
  · exact v_vretM C dX4_part_7
  · refine v_aload_n C 0 rfl rfl dX4_part_8 ?_
    refine v_getMi C 25 (by decide) (by decide) q1640 rfl dX4_part_9 ?_
    refine v_iconst C 2 (by decide) dX4_part_12 ?_
    refine v_icmp_ne C 45 (by decide) dX4_part_13 (fun _ => ?_) (fun _ => ?_)
    · refine v_aload_n C 0 rfl rfl dX4_part_16 ?_
      refine v_getMi C 27 (by decide) (by decide) q1642 rfl dX4_part_17 ?_
      refine v_iconst C 4 (by decide) dX4_part_20 ?_
      refine v_icmp_le C 29 (by decide) dX4_part_21 (fun _ => ?_) (fun _ => ?_)
      · exact w4_part_29 C u1
      · refine v_aload_n C 0 rfl rfl dX4_part_24 ?_
        refine v_iconst C 2 (by decide) dX4_part_25 ?_
        refine v_callVM C [.int 2] [] (ct4_wrong t g l 2 u1) (cw4_wrong C q1931 (by decide)) rfl rfl (Nat.le_of_ble_eq_true rfl) dX4_part_26 (fun _ u3 => ?_)
        exact w4_part_29 C u3
    · refine v_aload_n C 0 rfl rfl dX4_part_45 ?_
      refine v_getMi C 25 (by decide) (by decide) q1640 rfl dX4_part_46 ?_
      refine v_iconst C 1 (by decide) dX4_part_49 ?_
      refine v_icmp_ne C 86 (by decide) dX4_part_50 (fun _ => ?_) (fun _ => ?_)
      · refine v_aload_n C 0 rfl rfl dX4_part_53 ?_
        refine v_callVM C [] [] (ct4_knownWord t g l u1) (cw4_knownWord C q1920 (by decide)) rfl rfl (Nat.le_of_ble_eq_true rfl) dX4_part_54 (fun r4 u3 => ?_)
        refine v_istore_n C [(1, .int r4), (0, .ref g.1)] rfl (by decide) rfl dX4_part_57 ?_
        refine v_iload_n C 0 rfl rfl dX4_part_58 ?_
        refine v_if_lt C 68 (by decide) dX4_part_59 (fun _ => ?_) (fun _ => ?_)
        · refine v_sub [1, 0] rfl ?_
          exact w4_part_68 C r4 u3
        · refine v_iload_n C 0 rfl rfl dX4_part_62 ?_
          refine v_bipush C 7 (by decide) dX4_part_63 ?_
          refine v_icmp_le C 73 (by decide) dX4_part_65 (fun _ => ?_) (fun _ => ?_)
          · refine v_sub [1, 0] rfl ?_
            exact w4_part_73 C r4 u3
          · refine v_sub [1, 0] rfl ?_
            exact w4_part_68 C r4 u3
      · refine v_aload_n C 0 rfl rfl dX4_part_86 ?_
        refine v_iconst C 1 (by decide) dX4_part_87 ?_
        refine v_callVM C [.int 1] [] (ct4_wrong t g l 1 u1) (cw4_wrong C q1931 (by decide)) rfl rfl (Nat.le_of_ble_eq_true rfl) dX4_part_88 (fun _ u3 => ?_)
        exact w4_part_91 C u3
theorem cw4_part {t : TT} {p : Program} {s : State} {m : MethodId} {args : Array Value} {meth : Method} {c : Code} {y0 : MethodName} {cc0 : ByteArray} {nL0 : Nat} {ret0 : Option FieldType} (C : Cx t p s m args meth c y0 cc0 nL0 ret0) {index lv : Nat} (hq : Cond.methodLink y0.cls index yX4_part ∈ lw_all) (hR : LV_part + 1 ≤ lv) : CallW (rmM lv) s args y0.cls RX4 index yX4_part cX4_part 2 none (ws_ yX4_part cX4_part 2 none) (rmM LV_part) 0 0 0 :=
  cwV 0 C.2.2.2.2.1 (lw_V hq q1993 qs75 q127 q1994) rfl rfl rfl (by decide +kernel) ⟨hR, by show 8 + (2 + 11) + 100 * LV_part ≤ 100 * lv; omega⟩
abbrev LV_operand : Nat := 4
def f4_operand_120 (p1 : Int32) (u : MS) : Option (Unit × MS) :=
  mb (f4_part u) fun _ u1 =>
  some ((), u1)
theorem w4_operand_120 {p : Program} {e : Env} {s : State} {m : MethodId} {args : Array Value} {below : List Frame} {meth : Method} {c : Code} (C : Cx t p s m args meth c yX4_operand cX4_operand 5 none) (p1 : Int32) (u : MS) : VM mkU t g p l e LV_operand s m args below meth c 5 120 [(0, .ref g.1)] [] u (f4_operand_120 p1 u) := by
  unfold f4_operand_120
  refine v_aload_n C 0 rfl rfl dX4_operand_120 ?_
  refine v_callVM C [] [] (ct4_part t g l u) (cw4_part C q1991 (by decide)) rfl rfl (Nat.le_of_ble_eq_true rfl) dX4_operand_121 (fun _ u1 => ?_)
  exact v_vretM C dX4_operand_124
def f4_operand_96 (p1 : Int32) (k4 : Int32 → Int32 → MS → Option (Unit × MS)) (x2 : Int32) (s0 : Int32) (u : MS) : Option (Unit × MS) :=
  if s0 = 0 then
    k4 x2 s0 u
  else
    mb (f4_waitsFor 14 u) fun _ u1 =>
    mb (f4_goes u1) fun _ u2 =>
    mb (f4_deeper u2) fun _ u3 =>
    k4 1 s0 u3
theorem w4_operand_96 {p : Program} {e : Env} {s : State} {m : MethodId} {args : Array Value} {below : List Frame} {meth : Method} {c : Code} (C : Cx t p s m args meth c yX4_operand cX4_operand 5 none) (p1 : Int32) (k4 : Int32 → Int32 → MS → Option (Unit × MS)) (hk4 : ∀ (x2 : Int32) (x3 : Int32) (u : MS), VM mkU t g p l e LV_operand s m args below meth c 5 4 [(0, .ref g.1), (2, .int x2), (3, .int x3)] [] u (k4 x2 x3 u)) (x2 : Int32) (s0 : Int32) (u : MS) : VM mkU t g p l e LV_operand s m args below meth c 5 96 [(0, .ref g.1), (2, .int x2)] [.int s0] u (f4_operand_96 p1 k4 x2 s0 u) := by
  unfold f4_operand_96
  refine v_istore_n C [(3, .int s0), (0, .ref g.1), (2, .int x2)] rfl (by decide) rfl dX4_operand_96 ?_
  refine v_iload_n C 0 rfl rfl dX4_operand_97 ?_
  refine v_if_eq C 117 (by decide) dX4_operand_98 (fun _ => ?_) (fun _ => ?_)
  · refine v_goto C 4 (by decide) dX4_operand_117 ?_
    refine v_sub [1, 2, 0] rfl ?_
    exact hk4 x2 s0 u
  · refine v_aload_n C 1 rfl rfl dX4_operand_101 ?_
    refine v_bipush C 14 (by decide) dX4_operand_102 ?_
    refine v_callVM C [.int 14] [] (ct4_waitsFor t g l 14 u) (cw4_waitsFor C q1987 (by decide)) rfl rfl (Nat.le_of_ble_eq_true rfl) dX4_operand_104 (fun _ u1 => ?_)
    refine v_aload_n C 1 rfl rfl dX4_operand_107 ?_
    refine v_callVM C [] [] (ct4_goes t g l u1) (cw4_goes C q1898 (by decide)) rfl rfl (Nat.le_of_ble_eq_true rfl) dX4_operand_108 (fun _ u2 => ?_)
    refine v_aload_n C 1 rfl rfl dX4_operand_111 ?_
    refine v_callVM C [] [] (ct4_deeper t g l u2) (cw4_deeper C q1975 (by decide)) rfl rfl (Nat.le_of_ble_eq_true rfl) dX4_operand_112 (fun _ u3 => ?_)
    refine v_iconst C 1 (by decide) dX4_operand_115 ?_
    refine v_istore_n C [(2, .int 1), (3, .int s0), (0, .ref g.1)] rfl (by decide) rfl dX4_operand_116 ?_
    refine v_goto C 4 (by decide) dX4_operand_117 ?_
    refine v_sub [2, 0, 1] rfl ?_
    exact hk4 1 s0 u3
def f4_operand_75 (p1 : Int32) (k4 : Int32 → Int32 → MS → Option (Unit × MS)) (x2 : Int32) (u : MS) : Option (Unit × MS) :=
  mb (f4_isGood u) fun r2 u1 =>
  if r2 = 0 then
    f4_operand_96 p1 k4 x2 0 u1
  else
    mb (f4_isSign 40 u1) fun r4 u3 =>
    if r4 = 0 then
      f4_operand_96 p1 k4 x2 0 u3
    else
      f4_operand_96 p1 k4 x2 1 u3
theorem w4_operand_75 {p : Program} {e : Env} {s : State} {m : MethodId} {args : Array Value} {below : List Frame} {meth : Method} {c : Code} (C : Cx t p s m args meth c yX4_operand cX4_operand 5 none) (p1 : Int32) (k4 : Int32 → Int32 → MS → Option (Unit × MS)) (hk4 : ∀ (x2 : Int32) (x3 : Int32) (u : MS), VM mkU t g p l e LV_operand s m args below meth c 5 4 [(0, .ref g.1), (2, .int x2), (3, .int x3)] [] u (k4 x2 x3 u)) (x2 : Int32) (u : MS) : VM mkU t g p l e LV_operand s m args below meth c 5 75 [(0, .ref g.1), (2, .int x2)] [] u (f4_operand_75 p1 k4 x2 u) := by
  unfold f4_operand_75
  refine v_aload_n C 0 rfl rfl dX4_operand_75 ?_
  refine v_callVM C [] [] (ct4_isGood t g l u) (cw4_isGood C q1912 (by decide)) rfl rfl (Nat.le_of_ble_eq_true rfl) dX4_operand_76 (fun r2 u1 => ?_)
  refine v_if_eq C 95 (by decide) dX4_operand_79 (fun _ => ?_) (fun _ => ?_)
  · refine v_iconst C 0 (by decide) dX4_operand_95 ?_
    exact w4_operand_96 C p1 k4 hk4 x2 0 u1
  · refine v_aload_n C 0 rfl rfl dX4_operand_82 ?_
    refine v_bipush C 40 (by decide) dX4_operand_83 ?_
    refine v_callVM C [.int 40] [] (ct4_isSign t g l 40 u1) (cw4_isSign C q1979 (by decide)) rfl rfl (Nat.le_of_ble_eq_true rfl) dX4_operand_85 (fun r4 u3 => ?_)
    refine v_if_eq C 95 (by decide) dX4_operand_88 (fun _ => ?_) (fun _ => ?_)
    · refine v_iconst C 0 (by decide) dX4_operand_95 ?_
      exact w4_operand_96 C p1 k4 hk4 x2 0 u3
    · refine v_iconst C 1 (by decide) dX4_operand_91 ?_
      refine v_goto C 96 (by decide) dX4_operand_92 ?_
      exact w4_operand_96 C p1 k4 hk4 x2 1 u3
def f4_operand_50 (p1 : Int32) (k4 : Int32 → Int32 → MS → Option (Unit × MS)) (k18 : Int32 → Int32 → MS → Option (Unit × MS)) (x2 : Int32) (x4 : Int32) (u : MS) : Option (Unit × MS) :=
  mb (f4_isGood u) fun r2 u1 =>
  if r2 = 0 then
    k18 x2 (x4 + 1) u1
  else
    mb (f4_waitsFor 3 u1) fun _ u3 =>
    mb (f4_goes u3) fun _ u4 =>
    k18 x2 (x4 + 1) u4
theorem w4_operand_50 {p : Program} {e : Env} {s : State} {m : MethodId} {args : Array Value} {below : List Frame} {meth : Method} {c : Code} (C : Cx t p s m args meth c yX4_operand cX4_operand 5 none) (p1 : Int32) (k4 : Int32 → Int32 → MS → Option (Unit × MS)) (k18 : Int32 → Int32 → MS → Option (Unit × MS)) (hk4 : ∀ (x2 : Int32) (x3 : Int32) (u : MS), VM mkU t g p l e LV_operand s m args below meth c 5 4 [(0, .ref g.1), (2, .int x2), (3, .int x3)] [] u (k4 x2 x3 u)) (hk18 : ∀ (x2 : Int32) (x4 : Int32) (u : MS), VM mkU t g p l e LV_operand s m args below meth c 5 18 [(0, .ref g.1), (2, .int x2), (4, .int x4)] [] u (k18 x2 x4 u)) (x2 : Int32) (x4 : Int32) (u : MS) : VM mkU t g p l e LV_operand s m args below meth c 5 50 [(0, .ref g.1), (2, .int x2), (4, .int x4)] [] u (f4_operand_50 p1 k4 k18 x2 x4 u) := by
  unfold f4_operand_50
  refine v_iinc C 1 [(4, .int (x4 + 1)), (0, .ref g.1), (2, .int x2)] 2 rfl (by decide) (by decide) rfl dX4_operand_50 ?_
  refine v_aload_n C 1 rfl rfl dX4_operand_53 ?_
  refine v_callVM C [] [] (ct4_isGood t g l u) (cw4_isGood C q1912 (by decide)) rfl rfl (Nat.le_of_ble_eq_true rfl) dX4_operand_54 (fun r2 u1 => ?_)
  refine v_if_ne C 63 (by decide) dX4_operand_57 (fun _ => ?_) (fun _ => ?_)
  · refine v_goto C 18 (by decide) dX4_operand_60 ?_
    refine v_sub [1, 2, 0] rfl ?_
    exact hk18 x2 (x4 + 1) u1
  · refine v_aload_n C 1 rfl rfl dX4_operand_63 ?_
    refine v_iconst C 3 (by decide) dX4_operand_64 ?_
    refine v_callVM C [.int 3] [] (ct4_waitsFor t g l 3 u1) (cw4_waitsFor C q1987 (by decide)) rfl rfl (Nat.le_of_ble_eq_true rfl) dX4_operand_65 (fun _ u3 => ?_)
    refine v_aload_n C 1 rfl rfl dX4_operand_68 ?_
    refine v_callVM C [] [] (ct4_goes t g l u3) (cw4_goes C q1898 (by decide)) rfl rfl (Nat.le_of_ble_eq_true rfl) dX4_operand_69 (fun _ u4 => ?_)
    refine v_goto C 18 (by decide) dX4_operand_72 ?_
    refine v_sub [1, 2, 0] rfl ?_
    exact hk18 x2 (x4 + 1) u4
def f4_operand_18 (p1 : Int32) (k4 : Int32 → Int32 → MS → Option (Unit × MS)) (k : Int32 → Int32 → MS → Option (Unit × MS)) (x2 : Int32) (x4 : Int32) (u : MS) : Option (Unit × MS) :=
  mb (f4_isGood u) fun r2 u1 =>
  if r2 = 0 then
    f4_operand_75 p1 k4 x2 u1
  else
    if x2 = 0 then
      f4_operand_75 p1 k4 x2 u1
    else
      mb (f4_knownWord u1) fun r4 u3 =>
      if r4 = 16 then
        if x4 = 6 then
          mb (f4_wrong 2 u3) fun _ u5 =>
          f4_operand_50 p1 k4 k x2 x4 u5
        else
          f4_operand_50 p1 k4 k x2 x4 u3
      else
        f4_operand_75 p1 k4 x2 u3
theorem w4_operand_18 {p : Program} {e : Env} {s : State} {m : MethodId} {args : Array Value} {below : List Frame} {meth : Method} {c : Code} (C : Cx t p s m args meth c yX4_operand cX4_operand 5 none) (p1 : Int32) (k4 : Int32 → Int32 → MS → Option (Unit × MS)) (hk4 : ∀ (x2 : Int32) (x3 : Int32) (u : MS), VM mkU t g p l e LV_operand s m args below meth c 5 4 [(0, .ref g.1), (2, .int x2), (3, .int x3)] [] u (k4 x2 x3 u)) (n : Nat) (x2 : Int32) (x4 : Int32) (u : MS) : VM mkU t g p l e LV_operand s m args below meth c 5 18 [(0, .ref g.1), (2, .int x2), (4, .int x4)] [] u (ml2 (f4_operand_18 p1 k4) n x2 x4 u) := by
  refine vl2 (L := fun x2 x4 => [(0, .ref g.1), (2, .int x2), (4, .int x4)]) (fun k hk x2 x4 u => ?_) n x2 x4 u
  unfold f4_operand_18
  refine v_aload_n C 0 rfl rfl dX4_operand_18 ?_
  refine v_callVM C [] [] (ct4_isGood t g l u) (cw4_isGood C q1912 (by decide)) rfl rfl (Nat.le_of_ble_eq_true rfl) dX4_operand_19 (fun r2 u1 => ?_)
  refine v_if_eq C 75 (by decide) dX4_operand_22 (fun _ => ?_) (fun _ => ?_)
  · refine v_sub [0, 1] rfl ?_
    exact w4_operand_75 C p1 k4 hk4 x2 u1
  · refine v_iload_n C 1 rfl rfl dX4_operand_25 ?_
    refine v_if_eq C 75 (by decide) dX4_operand_26 (fun _ => ?_) (fun _ => ?_)
    · refine v_sub [0, 1] rfl ?_
      exact w4_operand_75 C p1 k4 hk4 x2 u1
    · refine v_aload_n C 0 rfl rfl dX4_operand_29 ?_
      refine v_callVM C [] [] (ct4_knownWord t g l u1) (cw4_knownWord C q1920 (by decide)) rfl rfl (Nat.le_of_ble_eq_true rfl) dX4_operand_30 (fun r4 u3 => ?_)
      refine v_bipush C 16 (by decide) dX4_operand_33 ?_
      refine v_icmp_ne C 75 (by decide) dX4_operand_35 (fun _ => ?_) (fun _ => ?_)
      · refine v_iload C 2 rfl dX4_operand_38 ?_
        refine v_bipush C 6 (by decide) dX4_operand_40 ?_
        refine v_icmp_ne C 50 (by decide) dX4_operand_42 (fun _ => ?_) (fun _ => ?_)
        · refine v_aload_n C 0 rfl rfl dX4_operand_45 ?_
          refine v_iconst C 2 (by decide) dX4_operand_46 ?_
          refine v_callVM C [.int 2] [] (ct4_wrong t g l 2 u3) (cw4_wrong C q1931 (by decide)) rfl rfl (Nat.le_of_ble_eq_true rfl) dX4_operand_47 (fun _ u5 => ?_)
          exact w4_operand_50 C p1 k4 k hk4 hk x2 x4 u5
        · exact w4_operand_50 C p1 k4 k hk4 hk x2 x4 u3
      · refine v_sub [0, 1] rfl ?_
        exact w4_operand_75 C p1 k4 hk4 x2 u3
def f4_operand_4 (p1 : Int32) (k : Int32 → Int32 → MS → Option (Unit × MS)) (x2 : Int32) (x3 : Int32) (u : MS) : Option (Unit × MS) :=
  if x3 = 0 then
    f4_operand_120 p1 u
  else
    mb (f4_isGood u) fun r2 u1 =>
    if r2 = 0 then
      f4_operand_120 p1 u1
    else
      ml2 (f4_operand_18 p1 k) FUEL x2 0 u1
theorem w4_operand_4 {p : Program} {e : Env} {s : State} {m : MethodId} {args : Array Value} {below : List Frame} {meth : Method} {c : Code} (C : Cx t p s m args meth c yX4_operand cX4_operand 5 none) (p1 : Int32) (n : Nat) (x2 : Int32) (x3 : Int32) (u : MS) : VM mkU t g p l e LV_operand s m args below meth c 5 4 [(0, .ref g.1), (2, .int x2), (3, .int x3)] [] u (ml2 (f4_operand_4 p1) n x2 x3 u) := by
  refine vl2 (L := fun x2 x3 => [(0, .ref g.1), (2, .int x2), (3, .int x3)]) (fun k hk x2 x3 u => ?_) n x2 x3 u
  unfold f4_operand_4
  refine v_iload_n C 2 rfl rfl dX4_operand_4 ?_
  refine v_if_eq C 120 (by decide) dX4_operand_5 (fun _ => ?_) (fun _ => ?_)
  · refine v_sub [0] rfl ?_
    exact w4_operand_120 C p1 u
  · refine v_aload_n C 0 rfl rfl dX4_operand_8 ?_
    refine v_callVM C [] [] (ct4_isGood t g l u) (cw4_isGood C q1912 (by decide)) rfl rfl (Nat.le_of_ble_eq_true rfl) dX4_operand_9 (fun r2 u1 => ?_)
    refine v_if_eq C 120 (by decide) dX4_operand_12 (fun _ => ?_) (fun _ => ?_)
    · refine v_sub [0] rfl ?_
      exact w4_operand_120 C p1 u1
    · refine v_iconst C 0 (by decide) dX4_operand_15 ?_
      refine v_istore C [(4, .int 0), (0, .ref g.1), (2, .int x2), (3, .int x3)] (by decide) rfl dX4_operand_16 ?_
      refine v_sub [1, 2, 0] rfl ?_
      exact w4_operand_18 C p1 k hk FUEL x2 0 u1
def f4_operand (p1 : Int32) (u : MS) : Option (Unit × MS) :=
  ml2 (f4_operand_4 p1) FUEL p1 1 u
theorem ct4_operand (t : TT) (g : GM) (l : Launch) (p1 : Int32) (u : MS) : CtM mkU t g l yX4_operand cX4_operand 5 none LV_operand [.ref g.1, .int p1] u (f4_operand p1 u) := by
  refine ctM_of [(0, .ref g.1), (1, .int p1)] rfl (Nat.le_of_ble_eq_true rfl) rfl (fun p e s m args below meth c C => ?_)
  unfold f4_operand
  refine v_iload_n C 1 rfl rfl dX4_operand_0 ?_
  refine v_istore_n C [(2, .int p1), (0, .ref g.1), (1, .int p1)] rfl (by decide) rfl dX4_operand_1 ?_
  refine v_iconst C 1 (by decide) dX4_operand_2 ?_
  refine v_istore_n C [(3, .int 1), (2, .int p1), (0, .ref g.1), (1, .int p1)] rfl (by decide) rfl dX4_operand_3 ?_
  refine v_sub [2, 1, 0] rfl ?_
  exact w4_operand_4 C p1 FUEL p1 1 u
theorem cw4_operand {t : TT} {p : Program} {s : State} {m : MethodId} {args : Array Value} {meth : Method} {c : Code} {y0 : MethodName} {cc0 : ByteArray} {nL0 : Nat} {ret0 : Option FieldType} (C : Cx t p s m args meth c y0 cc0 nL0 ret0) {index lv : Nat} (hq : Cond.methodLink y0.cls index yX4_operand ∈ lw_all) (hR : LV_operand + 1 ≤ lv) : CallW (rmM lv) s args y0.cls RX4 index yX4_operand cX4_operand 5 none (ws_ yX4_operand cX4_operand 5 none) (rmM LV_operand) 0 0 1 :=
  cwV 1 C.2.2.2.2.1 (lw_V hq q1985 qs73 q127 q1986) rfl rfl rfl (by decide +kernel) ⟨hR, by show 8 + (5 + 11) + 100 * LV_operand ≤ 100 * lv; omega⟩
abbrev LV_isOpen : Nat := 0
def f4_isOpen (p0 : Int32) (u : MS) : Option (Int32 × MS) :=
  if p0 < 14 then
    rz 0 u
  else
    rz 1 u
theorem ct4_isOpen (t : TT) (g : GM) (l : Launch) (p0 : Int32) (u : MS) : CtM mkI t g l yX4_isOpen cX4_isOpen 1 (some .boolean) LV_isOpen [.int p0] u (f4_isOpen p0 u) := by
  refine ctM_of [(0, .int p0)] rfl (Nat.le_of_ble_eq_true rfl) rfl (fun p e s m args below meth c C => ?_)
  unfold f4_isOpen
  refine v_iload_n C 0 rfl rfl dX4_isOpen_0 ?_
  refine v_bipush C 14 (by decide) dX4_isOpen_1 ?_
  refine v_icmp_lt C 10 (by decide) dX4_isOpen_3 (fun _ => ?_) (fun _ => ?_)
  · refine v_iconst C 0 (by decide) dX4_isOpen_10 ?_
    exact v_zretM C dX4_isOpen_11
  · refine v_iconst C 1 (by decide) dX4_isOpen_6 ?_
    refine v_goto C 11 (by decide) dX4_isOpen_7 ?_
    exact v_zretM C dX4_isOpen_11
theorem cw4_isOpen {t : TT} {p : Program} {s : State} {m : MethodId} {args : Array Value} {meth : Method} {c : Code} {y0 : MethodName} {cc0 : ByteArray} {nL0 : Nat} {ret0 : Option FieldType} (C : Cx t p s m args meth c y0 cc0 nL0 ret0) {index lv : Nat} (hq : Cond.methodLink y0.cls index yX4_isOpen ∈ lw_all) (hR : LV_isOpen + 1 ≤ lv) : CallB (rmM lv) s args y0.cls index yX4_isOpen cX4_isOpen 1 (some .boolean) (ws_ yX4_isOpen cX4_isOpen 1 (some .boolean)) (rmM LV_isOpen) 0 0 1 ∧ (Cond.static yX4_isOpen).before args s = true :=
  ⟨callB_of 1 C.2.2.2.2.1 (lw_meth q2005) rfl rfl rfl (C.2.2.2.2.1 _ q127) (C.2.2.2.2.1 _ hq) (by decide +kernel) ⟨hR, by show 8 + (1 + 11) + 100 * LV_isOpen ≤ 100 * lv; omega⟩, C.2.2.2.2.1 _ q2004⟩
abbrev LV_strength : Nat := 0
def f4_strength (p0 : Int32) (u : MS) : Option (Int32 × MS) :=
  if p0 = 5 then
    some (1, u)
  else
    if p0 = 4 then
      some (2, u)
    else
      if p0 = 3 then
        some (3, u)
      else
        if p0 = 6 then
          some (4, u)
        else
          if p0 = 7 then
            some (4, u)
          else
            if p0 = 8 then
              some (5, u)
            else
              if p0 = 9 then
                some (5, u)
              else
                some (6, u)
theorem ct4_strength (t : TT) (g : GM) (l : Launch) (p0 : Int32) (u : MS) : CtM mkI t g l yX4_strength cX4_strength 1 (some .int) LV_strength [.int p0] u (f4_strength p0 u) := by
  refine ctM_of [(0, .int p0)] rfl (Nat.le_of_ble_eq_true rfl) rfl (fun p e s m args below meth c C => ?_)
  unfold f4_strength
  refine v_iload_n C 0 rfl rfl dX4_strength_0 ?_
  refine v_iconst C 5 (by decide) dX4_strength_1 ?_
  refine v_icmp_ne C 9 (by decide) dX4_strength_2 (fun _ => ?_) (fun _ => ?_)
  · refine v_iconst C 1 (by decide) dX4_strength_5 ?_
    refine v_goto C 61 (by decide) dX4_strength_6 ?_
    exact v_iretM C dX4_strength_61
  · refine v_iload_n C 0 rfl rfl dX4_strength_9 ?_
    refine v_iconst C 4 (by decide) dX4_strength_10 ?_
    refine v_icmp_ne C 18 (by decide) dX4_strength_11 (fun _ => ?_) (fun _ => ?_)
    · refine v_iconst C 2 (by decide) dX4_strength_14 ?_
      refine v_goto C 61 (by decide) dX4_strength_15 ?_
      exact v_iretM C dX4_strength_61
    · refine v_iload_n C 0 rfl rfl dX4_strength_18 ?_
      refine v_iconst C 3 (by decide) dX4_strength_19 ?_
      refine v_icmp_ne C 27 (by decide) dX4_strength_20 (fun _ => ?_) (fun _ => ?_)
      · refine v_iconst C 3 (by decide) dX4_strength_23 ?_
        refine v_goto C 61 (by decide) dX4_strength_24 ?_
        exact v_iretM C dX4_strength_61
      · refine v_iload_n C 0 rfl rfl dX4_strength_27 ?_
        refine v_bipush C 6 (by decide) dX4_strength_28 ?_
        refine v_icmp_eq C 39 (by decide) dX4_strength_30 (fun _ => ?_) (fun _ => ?_)
        · refine v_iconst C 4 (by decide) dX4_strength_39 ?_
          refine v_goto C 61 (by decide) dX4_strength_40 ?_
          exact v_iretM C dX4_strength_61
        · refine v_iload_n C 0 rfl rfl dX4_strength_33 ?_
          refine v_bipush C 7 (by decide) dX4_strength_34 ?_
          refine v_icmp_ne C 43 (by decide) dX4_strength_36 (fun _ => ?_) (fun _ => ?_)
          · refine v_iconst C 4 (by decide) dX4_strength_39 ?_
            refine v_goto C 61 (by decide) dX4_strength_40 ?_
            exact v_iretM C dX4_strength_61
          · refine v_iload_n C 0 rfl rfl dX4_strength_43 ?_
            refine v_bipush C 8 (by decide) dX4_strength_44 ?_
            refine v_icmp_eq C 55 (by decide) dX4_strength_46 (fun _ => ?_) (fun _ => ?_)
            · refine v_iconst C 5 (by decide) dX4_strength_55 ?_
              refine v_goto C 61 (by decide) dX4_strength_56 ?_
              exact v_iretM C dX4_strength_61
            · refine v_iload_n C 0 rfl rfl dX4_strength_49 ?_
              refine v_bipush C 9 (by decide) dX4_strength_50 ?_
              refine v_icmp_ne C 59 (by decide) dX4_strength_52 (fun _ => ?_) (fun _ => ?_)
              · refine v_iconst C 5 (by decide) dX4_strength_55 ?_
                refine v_goto C 61 (by decide) dX4_strength_56 ?_
                exact v_iretM C dX4_strength_61
              · refine v_bipush C 6 (by decide) dX4_strength_59 ?_
                exact v_iretM C dX4_strength_61
theorem cw4_strength {t : TT} {p : Program} {s : State} {m : MethodId} {args : Array Value} {meth : Method} {c : Code} {y0 : MethodName} {cc0 : ByteArray} {nL0 : Nat} {ret0 : Option FieldType} (C : Cx t p s m args meth c y0 cc0 nL0 ret0) {index lv : Nat} (hq : Cond.methodLink y0.cls index yX4_strength ∈ lw_all) (hR : LV_strength + 1 ≤ lv) : CallB (rmM lv) s args y0.cls index yX4_strength cX4_strength 1 (some .int) (ws_ yX4_strength cX4_strength 1 (some .int)) (rmM LV_strength) 0 0 1 ∧ (Cond.static yX4_strength).before args s = true :=
  ⟨callB_of 1 C.2.2.2.2.1 (lw_meth q2008) rfl rfl rfl (C.2.2.2.2.1 _ q127) (C.2.2.2.2.1 _ hq) (by decide +kernel) ⟨hR, by show 8 + (1 + 11) + 100 * LV_strength ≤ 100 * lv; omega⟩, C.2.2.2.2.1 _ q2007⟩
end
