/-! walks of WhiteBoardModel, printed by tools/gen.py -/
set_option maxRecDepth 100000
section
variable {t : TT} {g : GM} {l : Launch}
abbrev LV_drops : Nat := 1
def f4_drops_0 (p1 : Int32) (k : MS → Option (Unit × MS)) (u : MS) : Option (Unit × MS) :=
  if (u.1 39) ≤ 0 then
    some ((), u)
  else
    mchk (inbM ((u.1 39) - 1) 52) <|
    mb (f4_isOpen (u.2.1 52 ((u.1 39) - 1).toNatClampNeg) u) fun r3 u2 =>
    if r3 = 0 then
      mchk (inbM ((u2.1 39) - 1) 52) <|
      mb (f4_strength (u2.2.1 52 ((u2.1 39) - 1).toNatClampNeg) u2) fun r6 u5 =>
      if r6 < p1 then
        some ((), u5)
      else
        mlet (mS u5 39 ((u5.1 39) - 1)) fun u7 =>
        mchk (inbM (u7.1 39) 52) <|
        mb (f4_puts (u7.2.1 52 (u7.1 39).toNatClampNeg) u7) fun _ u9 =>
        k u9
    else
      some ((), u2)
theorem w4_drops_0 {p : Program} {e : Env} {s : State} {m : MethodId} {args : Array Value} {below : List Frame} {meth : Method} {c : Code} (C : Cx t p s m args meth c yX4_drops cX4_drops 2 none) (p1 : Int32) (n : Nat) (u : MS) : VM mkU t g p l e LV_drops s m args below meth c 2 0 [(0, .ref g.1), (1, .int p1)] [] u (ml0 (f4_drops_0 p1) n u) := by
  refine vl0 (L := [(0, .ref g.1), (1, .int p1)]) (fun k hk u => ?_) n u
  unfold f4_drops_0
  refine v_aload_n C 0 rfl rfl dX4_drops_0 ?_
  refine v_getMi C 39 (by decide) (by decide) q1654 rfl dX4_drops_1 ?_
  refine v_if_le C 68 (by decide) dX4_drops_4 (fun _ => ?_) (fun _ => ?_)
  · exact v_vretM C dX4_drops_68
  · refine v_aload_n C 0 rfl rfl dX4_drops_7 ?_
    refine v_getMa C 52 (by decide) (by decide) q1667 rfl dX4_drops_8 ?_
    refine v_aload_n C 0 rfl rfl dX4_drops_11 ?_
    refine v_getMi C 39 (by decide) (by decide) q1654 rfl dX4_drops_12 ?_
    refine v_iconst C 1 (by decide) dX4_drops_15 ?_
    refine v_isub C dX4_drops_16 ?_
    refine v_chk (fun h1 => ?_)
    refine v_ialdM C h1 dX4_drops_17 ?_
    refine v_callSM C [.int (u.2.1 52 ((u.1 39) - 1).toNatClampNeg)] [] (ct4_isOpen t g l (u.2.1 52 ((u.1 39) - 1).toNatClampNeg) u) (cw4_isOpen C q2003 (by decide)) rfl rfl (Nat.le_of_ble_eq_true rfl) dX4_drops_18 (fun r3 u2 => ?_)
    refine v_if_ne C 68 (by decide) dX4_drops_21 (fun _ => ?_) (fun _ => ?_)
    · refine v_aload_n C 0 rfl rfl dX4_drops_24 ?_
      refine v_getMa C 52 (by decide) (by decide) q1667 rfl dX4_drops_25 ?_
      refine v_aload_n C 0 rfl rfl dX4_drops_28 ?_
      refine v_getMi C 39 (by decide) (by decide) q1654 rfl dX4_drops_29 ?_
      refine v_iconst C 1 (by decide) dX4_drops_32 ?_
      refine v_isub C dX4_drops_33 ?_
      refine v_chk (fun h4 => ?_)
      refine v_ialdM C h4 dX4_drops_34 ?_
      refine v_callSM C [.int (u2.2.1 52 ((u2.1 39) - 1).toNatClampNeg)] [] (ct4_strength t g l (u2.2.1 52 ((u2.1 39) - 1).toNatClampNeg) u2) (cw4_strength C q2006 (by decide)) rfl rfl (Nat.le_of_ble_eq_true rfl) dX4_drops_35 (fun r6 u5 => ?_)
      refine v_iload_n C 1 rfl rfl dX4_drops_38 ?_
      refine v_icmp_lt C 68 (by decide) dX4_drops_39 (fun _ => ?_) (fun _ => ?_)
      · exact v_vretM C dX4_drops_68
      · refine v_aload_n C 0 rfl rfl dX4_drops_42 ?_
        refine v_dup C rfl dX4_drops_43 ?_
        refine v_getMi C 39 (by decide) (by decide) q1654 rfl dX4_drops_44 ?_
        refine v_iconst C 1 (by decide) dX4_drops_47 ?_
        refine v_isub C dX4_drops_48 ?_
        refine v_putMi C 39 (by decide) (by decide) q1654 rfl rfl (by decide +kernel) dX4_drops_49 (fun u7 => ?_)
        refine v_aload_n C 0 rfl rfl dX4_drops_52 ?_
        refine v_aload_n C 0 rfl rfl dX4_drops_53 ?_
        refine v_getMa C 52 (by decide) (by decide) q1667 rfl dX4_drops_54 ?_
        refine v_aload_n C 0 rfl rfl dX4_drops_57 ?_
        refine v_getMi C 39 (by decide) (by decide) q1654 rfl dX4_drops_58 ?_
        refine v_chk (fun h8 => ?_)
        refine v_ialdM C h8 dX4_drops_61 ?_
        refine v_callVM C [.int (u7.2.1 52 (u7.1 39).toNatClampNeg)] [] (ct4_puts t g l (u7.2.1 52 (u7.1 39).toNatClampNeg) u7) (cw4_puts C q1995 (by decide)) rfl rfl (Nat.le_of_ble_eq_true rfl) dX4_drops_62 (fun _ u9 => ?_)
        refine v_goto C 0 (by decide) dX4_drops_65 ?_
        exact hk u9
    · exact v_vretM C dX4_drops_68
def f4_drops (p1 : Int32) (u : MS) : Option (Unit × MS) :=
  ml0 (f4_drops_0 p1) FUEL u
theorem ct4_drops (t : TT) (g : GM) (l : Launch) (p1 : Int32) (u : MS) : CtM mkU t g l yX4_drops cX4_drops 2 none LV_drops [.ref g.1, .int p1] u (f4_drops p1 u) := by
  refine ctM_of [(0, .ref g.1), (1, .int p1)] rfl (Nat.le_of_ble_eq_true rfl) rfl (fun p e s m args below meth c C => ?_)
  unfold f4_drops
  exact w4_drops_0 C p1 FUEL u
theorem cw4_drops {t : TT} {p : Program} {s : State} {m : MethodId} {args : Array Value} {meth : Method} {c : Code} {y0 : MethodName} {cc0 : ByteArray} {nL0 : Nat} {ret0 : Option FieldType} (C : Cx t p s m args meth c y0 cc0 nL0 ret0) {index lv : Nat} (hq : Cond.methodLink y0.cls index yX4_drops ∈ lw_all) (hR : LV_drops + 1 ≤ lv) : CallW (rmM lv) s args y0.cls RX4 index yX4_drops cX4_drops 2 none (ws_ yX4_drops cX4_drops 2 none) (rmM LV_drops) 0 0 1 :=
  cwV 1 C.2.2.2.2.1 (lw_V hq q2001 qs77 q127 q2002) rfl rfl rfl (by decide +kernel) ⟨hR, by show 8 + (2 + 11) + 100 * LV_drops ≤ 100 * lv; omega⟩
abbrev LV_isOpened : Nat := 1
def f4_isOpened_29 (x1 : Int32) (u : MS) : Option (Int32 × MS) :=
  if x1 < 0 then
    rz 0 u
  else
    rz 1 u
theorem w4_isOpened_29 {p : Program} {e : Env} {s : State} {m : MethodId} {args : Array Value} {below : List Frame} {meth : Method} {c : Code} (C : Cx t p s m args meth c yX4_isOpened cX4_isOpened 2 (some .boolean)) (x1 : Int32) (u : MS) : VM mkI t g p l e LV_isOpened s m args below meth c 2 29 [(1, .int x1)] [] u (f4_isOpened_29 x1 u) := by
  unfold f4_isOpened_29
  refine v_iload_n C 0 rfl rfl dX4_isOpened_29 ?_
  refine v_if_lt C 37 (by decide) dX4_isOpened_30 (fun _ => ?_) (fun _ => ?_)
  · refine v_iconst C 0 (by decide) dX4_isOpened_37 ?_
    exact v_zretM C dX4_isOpened_38
  · refine v_iconst C 1 (by decide) dX4_isOpened_33 ?_
    refine v_goto C 38 (by decide) dX4_isOpened_34 ?_
    exact v_zretM C dX4_isOpened_38
def f4_isOpened_7 (k : Int32 → MS → Option (Int32 × MS)) (x1 : Int32) (u : MS) : Option (Int32 × MS) :=
  if x1 < 0 then
    f4_isOpened_29 x1 u
  else
    mchk (inbM x1 52) <|
    mb (f4_isOpen (u.2.1 52 x1.toNatClampNeg) u) fun r3 u2 =>
    if r3 = 0 then
      k (x1 + (-1)) u2
    else
      f4_isOpened_29 x1 u2
theorem w4_isOpened_7 {p : Program} {e : Env} {s : State} {m : MethodId} {args : Array Value} {below : List Frame} {meth : Method} {c : Code} (C : Cx t p s m args meth c yX4_isOpened cX4_isOpened 2 (some .boolean)) (n : Nat) (x1 : Int32) (u : MS) : VM mkI t g p l e LV_isOpened s m args below meth c 2 7 [(0, .ref g.1), (1, .int x1)] [] u (ml1 (f4_isOpened_7) n x1 u) := by
  refine vl1 (L := fun x1 => [(0, .ref g.1), (1, .int x1)]) (fun k hk x1 u => ?_) n x1 u
  unfold f4_isOpened_7
  refine v_iload_n C 1 rfl rfl dX4_isOpened_7 ?_
  refine v_if_lt C 29 (by decide) dX4_isOpened_8 (fun _ => ?_) (fun _ => ?_)
  · refine v_sub [1] rfl ?_
    exact w4_isOpened_29 C x1 u
  · refine v_aload_n C 0 rfl rfl dX4_isOpened_11 ?_
    refine v_getMa C 52 (by decide) (by decide) q1667 rfl dX4_isOpened_12 ?_
    refine v_iload_n C 1 rfl rfl dX4_isOpened_15 ?_
    refine v_chk (fun h1 => ?_)
    refine v_ialdM C h1 dX4_isOpened_16 ?_
    refine v_callSM C [.int (u.2.1 52 x1.toNatClampNeg)] [] (ct4_isOpen t g l (u.2.1 52 x1.toNatClampNeg) u) (cw4_isOpen C q2003 (by decide)) rfl rfl (Nat.le_of_ble_eq_true rfl) dX4_isOpened_17 (fun r3 u2 => ?_)
    refine v_if_ne C 29 (by decide) dX4_isOpened_20 (fun _ => ?_) (fun _ => ?_)
    · refine v_iinc C (-1) [(1, .int (x1 + (-1))), (0, .ref g.1)] 1 rfl (by decide) (by decide) rfl dX4_isOpened_23 ?_
      refine v_goto C 7 (by decide) dX4_isOpened_26 ?_
      refine v_sub [1, 0] rfl ?_
      exact hk (x1 + (-1)) u2
    · refine v_sub [1] rfl ?_
      exact w4_isOpened_29 C x1 u2
def f4_isOpened (u : MS) : Option (Int32 × MS) :=
  mlet ((u.1 39) - 1) fun v1 =>
  ml1 (f4_isOpened_7) FUEL v1 u
theorem ct4_isOpened (t : TT) (g : GM) (l : Launch) (u : MS) : CtM mkI t g l yX4_isOpened cX4_isOpened 2 (some .boolean) LV_isOpened [.ref g.1] u (f4_isOpened u) := by
  refine ctM_of [(0, .ref g.1)] rfl (Nat.le_of_ble_eq_true rfl) rfl (fun p e s m args below meth c C => ?_)
  unfold f4_isOpened
  refine v_aload_n C 0 rfl rfl dX4_isOpened_0 ?_
  refine v_getMi C 39 (by decide) (by decide) q1654 rfl dX4_isOpened_1 ?_
  refine v_iconst C 1 (by decide) dX4_isOpened_4 ?_
  refine v_isub C dX4_isOpened_5 ?_
  refine v_topi (fun v1 => ?_)
  refine v_istore_n C [(1, .int v1), (0, .ref g.1)] rfl (by decide) rfl dX4_isOpened_6 ?_
  refine v_sub [1, 0] rfl ?_
  exact w4_isOpened_7 C FUEL v1 u
theorem cw4_isOpened {t : TT} {p : Program} {s : State} {m : MethodId} {args : Array Value} {meth : Method} {c : Code} {y0 : MethodName} {cc0 : ByteArray} {nL0 : Nat} {ret0 : Option FieldType} (C : Cx t p s m args meth c y0 cc0 nL0 ret0) {index lv : Nat} (hq : Cond.methodLink y0.cls index yX4_isOpened ∈ lw_all) (hR : LV_isOpened + 1 ≤ lv) : CallW (rmM lv) s args y0.cls RX4 index yX4_isOpened cX4_isOpened 2 (some .boolean) (ws_ yX4_isOpened cX4_isOpened 2 (some .boolean)) (rmM LV_isOpened) 0 0 0 :=
  cwV 0 C.2.2.2.2.1 (lw_V hq q2011 qs78 q127 q2012) rfl rfl rfl (by decide +kernel) ⟨hR, by show 8 + (2 + 11) + 100 * LV_isOpened ≤ 100 * lv; omega⟩
abbrev LV_closes : Nat := 2
def f4_closes (u : MS) : Option (Unit × MS) :=
  mb (f4_drops 0 u) fun _ u1 =>
  mlet (mS u1 39 ((u1.1 39) - 1)) fun u2 =>
  mlet (mS u2 40 ((u2.1 40) - 1)) fun u3 =>
  mb (f4_goes u3) fun _ u4 =>
  some ((), u4)
theorem ct4_closes (t : TT) (g : GM) (l : Launch) (u : MS) : CtM mkU t g l yX4_closes cX4_closes 1 none LV_closes [.ref g.1] u (f4_closes u) := by
  refine ctM_of [(0, .ref g.1)] rfl (Nat.le_of_ble_eq_true rfl) rfl (fun p e s m args below meth c C => ?_)
  unfold f4_closes
  refine v_aload_n C 0 rfl rfl dX4_closes_0 ?_
  refine v_iconst C 0 (by decide) dX4_closes_1 ?_
  refine v_callVM C [.int 0] [] (ct4_drops t g l 0 u) (cw4_drops C q1999 (by decide)) rfl rfl (Nat.le_of_ble_eq_true rfl) dX4_closes_2 (fun _ u1 => ?_)
  refine v_aload_n C 0 rfl rfl dX4_closes_5 ?_
  refine v_dup C rfl dX4_closes_6 ?_
  refine v_getMi C 39 (by decide) (by decide) q1654 rfl dX4_closes_7 ?_
  refine v_iconst C 1 (by decide) dX4_closes_10 ?_
  refine v_isub C dX4_closes_11 ?_
  refine v_putMi C 39 (by decide) (by decide) q1654 rfl rfl (by decide +kernel) dX4_closes_12 (fun u2 => ?_)
  refine v_aload_n C 0 rfl rfl dX4_closes_15 ?_
  refine v_dup C rfl dX4_closes_16 ?_
  refine v_getMi C 40 (by decide) (by decide) q1655 rfl dX4_closes_17 ?_
  refine v_iconst C 1 (by decide) dX4_closes_20 ?_
  refine v_isub C dX4_closes_21 ?_
  refine v_putMi C 40 (by decide) (by decide) q1655 rfl rfl (by decide +kernel) dX4_closes_22 (fun u3 => ?_)
  refine v_aload_n C 0 rfl rfl dX4_closes_25 ?_
  refine v_callVM C [] [] (ct4_goes t g l u3) (cw4_goes C q1898 (by decide)) rfl rfl (Nat.le_of_ble_eq_true rfl) dX4_closes_26 (fun _ u4 => ?_)
  exact v_vretM C dX4_closes_29
theorem cw4_closes {t : TT} {p : Program} {s : State} {m : MethodId} {args : Array Value} {meth : Method} {c : Code} {y0 : MethodName} {cc0 : ByteArray} {nL0 : Nat} {ret0 : Option FieldType} (C : Cx t p s m args meth c y0 cc0 nL0 ret0) {index lv : Nat} (hq : Cond.methodLink y0.cls index yX4_closes ∈ lw_all) (hR : LV_closes + 1 ≤ lv) : CallW (rmM lv) s args y0.cls RX4 index yX4_closes cX4_closes 1 none (ws_ yX4_closes cX4_closes 1 none) (rmM LV_closes) 0 0 0 :=
  cwV 0 C.2.2.2.2.1 (lw_V hq q2015 qs79 q127 q2016) rfl rfl rfl (by decide +kernel) ⟨hR, by show 8 + (1 + 11) + 100 * LV_closes ≤ 100 * lv; omega⟩
abbrev LV_expression : Nat := 5
def f4_expression_345 (u : MS) : Option (Unit × MS) :=
  mb (f4_drops 0 u) fun _ u1 =>
  mb (f4_puts 0 u1) fun _ u2 =>
  some ((), u2)
theorem w4_expression_345 {p : Program} {e : Env} {s : State} {m : MethodId} {args : Array Value} {below : List Frame} {meth : Method} {c : Code} (C : Cx t p s m args meth c yX4_expression cX4_expression 3 none) (u : MS) : VM mkU t g p l e LV_expression s m args below meth c 3 345 [(0, .ref g.1)] [] u (f4_expression_345 u) := by
  unfold f4_expression_345
  refine v_aload_n C 0 rfl rfl dX4_expression_345 ?_
  refine v_iconst C 0 (by decide) dX4_expression_346 ?_
  refine v_callVM C [.int 0] [] (ct4_drops t g l 0 u) (cw4_drops C q1999 (by decide)) rfl rfl (Nat.le_of_ble_eq_true rfl) dX4_expression_347 (fun _ u1 => ?_)
  refine v_aload_n C 0 rfl rfl dX4_expression_350 ?_
  refine v_iconst C 0 (by decide) dX4_expression_351 ?_
  refine v_callVM C [.int 0] [] (ct4_puts t g l 0 u1) (cw4_puts C q1995 (by decide)) rfl rfl (Nat.le_of_ble_eq_true rfl) dX4_expression_352 (fun _ u2 => ?_)
  exact v_vretM C dX4_expression_355
def f4_expression_325 (u : MS) : Option (Unit × MS) :=
  mb (f4_isGood u) fun r2 u1 =>
  if r2 = 0 then
    f4_expression_345 u1
  else
    if (u1.1 40) ≤ 1 then
      f4_expression_345 u1
    else
      mb (f4_wrong 1 u1) fun _ u3 =>
      f4_expression_345 u3
theorem w4_expression_325 {p : Program} {e : Env} {s : State} {m : MethodId} {args : Array Value} {below : List Frame} {meth : Method} {c : Code} (C : Cx t p s m args meth c yX4_expression cX4_expression 3 none) (u : MS) : VM mkU t g p l e LV_expression s m args below meth c 3 325 [(0, .ref g.1)] [] u (f4_expression_325 u) := by
  unfold f4_expression_325
  refine v_aload_n C 0 rfl rfl dX4_expression_325 ?_
  refine v_callVM C [] [] (ct4_isGood t g l u) (cw4_isGood C q1912 (by decide)) rfl rfl (Nat.le_of_ble_eq_true rfl) dX4_expression_326 (fun r2 u1 => ?_)
  refine v_if_eq C 345 (by decide) dX4_expression_329 (fun _ => ?_) (fun _ => ?_)
  · exact w4_expression_345 C u1
  · refine v_aload_n C 0 rfl rfl dX4_expression_332 ?_
    refine v_getMi C 40 (by decide) (by decide) q1655 rfl dX4_expression_333 ?_
    refine v_iconst C 1 (by decide) dX4_expression_336 ?_
    refine v_icmp_le C 345 (by decide) dX4_expression_337 (fun _ => ?_) (fun _ => ?_)
    · exact w4_expression_345 C u1
    · refine v_aload_n C 0 rfl rfl dX4_expression_340 ?_
      refine v_iconst C 1 (by decide) dX4_expression_341 ?_
      refine v_callVM C [.int 1] [] (ct4_wrong t g l 1 u1) (cw4_wrong C q1931 (by decide)) rfl rfl (Nat.le_of_ble_eq_true rfl) dX4_expression_342 (fun _ u3 => ?_)
      exact w4_expression_345 C u3
def f4_expression_282 (k29 : Int32 → MS → Option (Unit × MS)) (x1 : Int32) (s1 : Int32) (u : MS) : Option (Unit × MS) :=
  mb (f4_waitsFor s1 u) fun _ u1 =>
  mb (f4_goes u1) fun _ u2 =>
  mb (f4_operand 0 u2) fun _ u3 =>
  k29 x1 u3
theorem w4_expression_282 {p : Program} {e : Env} {s : State} {m : MethodId} {args : Array Value} {below : List Frame} {meth : Method} {c : Code} (C : Cx t p s m args meth c yX4_expression cX4_expression 3 none) (k29 : Int32 → MS → Option (Unit × MS)) (hk29 : ∀ (x1 : Int32) (u : MS), VM mkU t g p l e LV_expression s m args below meth c 3 29 [(0, .ref g.1), (1, .int x1)] [] u (k29 x1 u)) (x1 : Int32) (s1 : Int32) (u : MS) : VM mkU t g p l e LV_expression s m args below meth c 3 282 [(0, .ref g.1), (1, .int x1)] [.int s1, .ref g.1] u (f4_expression_282 k29 x1 s1 u) := by
  unfold f4_expression_282
  refine v_callVM C [.int s1] [] (ct4_waitsFor t g l s1 u) (cw4_waitsFor C q1987 (by decide)) rfl rfl (Nat.le_of_ble_eq_true rfl) dX4_expression_282 (fun _ u1 => ?_)
  refine v_aload_n C 0 rfl rfl dX4_expression_285 ?_
  refine v_callVM C [] [] (ct4_goes t g l u1) (cw4_goes C q1898 (by decide)) rfl rfl (Nat.le_of_ble_eq_true rfl) dX4_expression_286 (fun _ u2 => ?_)
  refine v_aload_n C 0 rfl rfl dX4_expression_289 ?_
  refine v_iconst C 0 (by decide) dX4_expression_290 ?_
  refine v_callVM C [.int 0] [] (ct4_operand t g l 0 u2) (cw4_operand C q1983 (by decide)) rfl rfl (Nat.le_of_ble_eq_true rfl) dX4_expression_291 (fun _ u3 => ?_)
  refine v_goto C 322 (by decide) dX4_expression_294 ?_
  refine v_goto C 29 (by decide) dX4_expression_322 ?_
  exact hk29 x1 u3
def f4_expression_259 (k29 : Int32 → MS → Option (Unit × MS)) (x1 : Int32) (u : MS) : Option (Unit × MS) :=
  mb (f4_drops 6 u) fun _ u1 =>
  mb (f4_isSign 42 u1) fun r3 u2 =>
  if r3 = 0 then
    f4_expression_282 k29 x1 11 u2
  else
    f4_expression_282 k29 x1 10 u2
theorem w4_expression_259 {p : Program} {e : Env} {s : State} {m : MethodId} {args : Array Value} {below : List Frame} {meth : Method} {c : Code} (C : Cx t p s m args meth c yX4_expression cX4_expression 3 none) (k29 : Int32 → MS → Option (Unit × MS)) (hk29 : ∀ (x1 : Int32) (u : MS), VM mkU t g p l e LV_expression s m args below meth c 3 29 [(0, .ref g.1), (1, .int x1)] [] u (k29 x1 u)) (x1 : Int32) (u : MS) : VM mkU t g p l e LV_expression s m args below meth c 3 259 [(0, .ref g.1), (1, .int x1)] [] u (f4_expression_259 k29 x1 u) := by
  unfold f4_expression_259
  refine v_aload_n C 0 rfl rfl dX4_expression_259 ?_
  refine v_bipush C 6 (by decide) dX4_expression_260 ?_
  refine v_callVM C [.int 6] [] (ct4_drops t g l 6 u) (cw4_drops C q1999 (by decide)) rfl rfl (Nat.le_of_ble_eq_true rfl) dX4_expression_262 (fun _ u1 => ?_)
  refine v_aload_n C 0 rfl rfl dX4_expression_265 ?_
  refine v_aload_n C 0 rfl rfl dX4_expression_266 ?_
  refine v_bipush C 42 (by decide) dX4_expression_267 ?_
  refine v_callVM C [.int 42] [.ref g.1] (ct4_isSign t g l 42 u1) (cw4_isSign C q1979 (by decide)) rfl rfl (Nat.le_of_ble_eq_true rfl) dX4_expression_269 (fun r3 u2 => ?_)
  refine v_if_eq C 280 (by decide) dX4_expression_272 (fun _ => ?_) (fun _ => ?_)
  · refine v_bipush C 11 (by decide) dX4_expression_280 ?_
    exact w4_expression_282 C k29 hk29 x1 11 u2
  · refine v_bipush C 10 (by decide) dX4_expression_275 ?_
    refine v_goto C 282 (by decide) dX4_expression_277 ?_
    exact w4_expression_282 C k29 hk29 x1 10 u2
def f4_expression_226 (k29 : Int32 → MS → Option (Unit × MS)) (x1 : Int32) (s1 : Int32) (u : MS) : Option (Unit × MS) :=
  mb (f4_waitsFor s1 u) fun _ u1 =>
  mb (f4_goes u1) fun _ u2 =>
  mb (f4_operand 0 u2) fun _ u3 =>
  k29 x1 u3
theorem w4_expression_226 {p : Program} {e : Env} {s : State} {m : MethodId} {args : Array Value} {below : List Frame} {meth : Method} {c : Code} (C : Cx t p s m args meth c yX4_expression cX4_expression 3 none) (k29 : Int32 → MS → Option (Unit × MS)) (hk29 : ∀ (x1 : Int32) (u : MS), VM mkU t g p l e LV_expression s m args below meth c 3 29 [(0, .ref g.1), (1, .int x1)] [] u (k29 x1 u)) (x1 : Int32) (s1 : Int32) (u : MS) : VM mkU t g p l e LV_expression s m args below meth c 3 226 [(0, .ref g.1), (1, .int x1)] [.int s1, .ref g.1] u (f4_expression_226 k29 x1 s1 u) := by
  unfold f4_expression_226
  refine v_callVM C [.int s1] [] (ct4_waitsFor t g l s1 u) (cw4_waitsFor C q1987 (by decide)) rfl rfl (Nat.le_of_ble_eq_true rfl) dX4_expression_226 (fun _ u1 => ?_)
  refine v_aload_n C 0 rfl rfl dX4_expression_229 ?_
  refine v_callVM C [] [] (ct4_goes t g l u1) (cw4_goes C q1898 (by decide)) rfl rfl (Nat.le_of_ble_eq_true rfl) dX4_expression_230 (fun _ u2 => ?_)
  refine v_aload_n C 0 rfl rfl dX4_expression_233 ?_
  refine v_iconst C 0 (by decide) dX4_expression_234 ?_
  refine v_callVM C [.int 0] [] (ct4_operand t g l 0 u2) (cw4_operand C q1983 (by decide)) rfl rfl (Nat.le_of_ble_eq_true rfl) dX4_expression_235 (fun _ u3 => ?_)
  refine v_goto C 322 (by decide) dX4_expression_238 ?_
  refine v_goto C 29 (by decide) dX4_expression_322 ?_
  exact hk29 x1 u3
def f4_expression_204 (k29 : Int32 → MS → Option (Unit × MS)) (x1 : Int32) (u : MS) : Option (Unit × MS) :=
  mb (f4_drops 5 u) fun _ u1 =>
  mb (f4_isSign 43 u1) fun r3 u2 =>
  if r3 = 0 then
    f4_expression_226 k29 x1 9 u2
  else
    f4_expression_226 k29 x1 8 u2
theorem w4_expression_204 {p : Program} {e : Env} {s : State} {m : MethodId} {args : Array Value} {below : List Frame} {meth : Method} {c : Code} (C : Cx t p s m args meth c yX4_expression cX4_expression 3 none) (k29 : Int32 → MS → Option (Unit × MS)) (hk29 : ∀ (x1 : Int32) (u : MS), VM mkU t g p l e LV_expression s m args below meth c 3 29 [(0, .ref g.1), (1, .int x1)] [] u (k29 x1 u)) (x1 : Int32) (u : MS) : VM mkU t g p l e LV_expression s m args below meth c 3 204 [(0, .ref g.1), (1, .int x1)] [] u (f4_expression_204 k29 x1 u) := by
  unfold f4_expression_204
  refine v_aload_n C 0 rfl rfl dX4_expression_204 ?_
  refine v_iconst C 5 (by decide) dX4_expression_205 ?_
  refine v_callVM C [.int 5] [] (ct4_drops t g l 5 u) (cw4_drops C q1999 (by decide)) rfl rfl (Nat.le_of_ble_eq_true rfl) dX4_expression_206 (fun _ u1 => ?_)
  refine v_aload_n C 0 rfl rfl dX4_expression_209 ?_
  refine v_aload_n C 0 rfl rfl dX4_expression_210 ?_
  refine v_bipush C 43 (by decide) dX4_expression_211 ?_
  refine v_callVM C [.int 43] [.ref g.1] (ct4_isSign t g l 43 u1) (cw4_isSign C q1979 (by decide)) rfl rfl (Nat.le_of_ble_eq_true rfl) dX4_expression_213 (fun r3 u2 => ?_)
  refine v_if_eq C 224 (by decide) dX4_expression_216 (fun _ => ?_) (fun _ => ?_)
  · refine v_bipush C 9 (by decide) dX4_expression_224 ?_
    exact w4_expression_226 C k29 hk29 x1 9 u2
  · refine v_bipush C 8 (by decide) dX4_expression_219 ?_
    refine v_goto C 226 (by decide) dX4_expression_221 ?_
    exact w4_expression_226 C k29 hk29 x1 8 u2
def f4_expression_186 (k29 : Int32 → MS → Option (Unit × MS)) (x1 : Int32) (u : MS) : Option (Unit × MS) :=
  mb (f4_isSign 43 u) fun r2 u1 =>
  if r2 = 0 then
    mb (f4_isSign 45 u1) fun r4 u3 =>
    if r4 = 0 then
      mb (f4_isSign 42 u3) fun r6 u5 =>
      if r6 = 0 then
        mb (f4_isSign 47 u5) fun r8 u7 =>
        if r8 = 0 then
          mb (f4_isSign 41 u7) fun r10 u9 =>
          if r10 = 0 then
            k29 0 u9
          else
            mb (f4_isOpened u9) fun r12 u11 =>
            if r12 = 0 then
              k29 0 u11
            else
              mb (f4_closes u11) fun _ u13 =>
              k29 x1 u13
        else
          f4_expression_259 k29 x1 u7
      else
        f4_expression_259 k29 x1 u5
    else
      f4_expression_204 k29 x1 u3
  else
    f4_expression_204 k29 x1 u1
theorem w4_expression_186 {p : Program} {e : Env} {s : State} {m : MethodId} {args : Array Value} {below : List Frame} {meth : Method} {c : Code} (C : Cx t p s m args meth c yX4_expression cX4_expression 3 none) (k29 : Int32 → MS → Option (Unit × MS)) (hk29 : ∀ (x1 : Int32) (u : MS), VM mkU t g p l e LV_expression s m args below meth c 3 29 [(0, .ref g.1), (1, .int x1)] [] u (k29 x1 u)) (x1 : Int32) (u : MS) : VM mkU t g p l e LV_expression s m args below meth c 3 186 [(0, .ref g.1), (1, .int x1)] [] u (f4_expression_186 k29 x1 u) := by
  unfold f4_expression_186
  refine v_aload_n C 0 rfl rfl dX4_expression_186 ?_
  refine v_bipush C 43 (by decide) dX4_expression_187 ?_
  refine v_callVM C [.int 43] [] (ct4_isSign t g l 43 u) (cw4_isSign C q1979 (by decide)) rfl rfl (Nat.le_of_ble_eq_true rfl) dX4_expression_189 (fun r2 u1 => ?_)
  refine v_if_ne C 204 (by decide) dX4_expression_192 (fun _ => ?_) (fun _ => ?_)
  · refine v_aload_n C 0 rfl rfl dX4_expression_195 ?_
    refine v_bipush C 45 (by decide) dX4_expression_196 ?_
    refine v_callVM C [.int 45] [] (ct4_isSign t g l 45 u1) (cw4_isSign C q1979 (by decide)) rfl rfl (Nat.le_of_ble_eq_true rfl) dX4_expression_198 (fun r4 u3 => ?_)
    refine v_if_eq C 241 (by decide) dX4_expression_201 (fun _ => ?_) (fun _ => ?_)
    · refine v_aload_n C 0 rfl rfl dX4_expression_241 ?_
      refine v_bipush C 42 (by decide) dX4_expression_242 ?_
      refine v_callVM C [.int 42] [] (ct4_isSign t g l 42 u3) (cw4_isSign C q1979 (by decide)) rfl rfl (Nat.le_of_ble_eq_true rfl) dX4_expression_244 (fun r6 u5 => ?_)
      refine v_if_ne C 259 (by decide) dX4_expression_247 (fun _ => ?_) (fun _ => ?_)
      · refine v_aload_n C 0 rfl rfl dX4_expression_250 ?_
        refine v_bipush C 47 (by decide) dX4_expression_251 ?_
        refine v_callVM C [.int 47] [] (ct4_isSign t g l 47 u5) (cw4_isSign C q1979 (by decide)) rfl rfl (Nat.le_of_ble_eq_true rfl) dX4_expression_253 (fun r8 u7 => ?_)
        refine v_if_eq C 297 (by decide) dX4_expression_256 (fun _ => ?_) (fun _ => ?_)
        · refine v_aload_n C 0 rfl rfl dX4_expression_297 ?_
          refine v_bipush C 41 (by decide) dX4_expression_298 ?_
          refine v_callVM C [.int 41] [] (ct4_isSign t g l 41 u7) (cw4_isSign C q1979 (by decide)) rfl rfl (Nat.le_of_ble_eq_true rfl) dX4_expression_300 (fun r10 u9 => ?_)
          refine v_if_eq C 320 (by decide) dX4_expression_303 (fun _ => ?_) (fun _ => ?_)
          · refine v_iconst C 0 (by decide) dX4_expression_320 ?_
            refine v_istore_n C [(1, .int 0), (0, .ref g.1)] rfl (by decide) rfl dX4_expression_321 ?_
            refine v_goto C 29 (by decide) dX4_expression_322 ?_
            refine v_sub [1, 0] rfl ?_
            exact hk29 0 u9
          · refine v_aload_n C 0 rfl rfl dX4_expression_306 ?_
            refine v_callVM C [] [] (ct4_isOpened t g l u9) (cw4_isOpened C q2009 (by decide)) rfl rfl (Nat.le_of_ble_eq_true rfl) dX4_expression_307 (fun r12 u11 => ?_)
            refine v_if_eq C 320 (by decide) dX4_expression_310 (fun _ => ?_) (fun _ => ?_)
            · refine v_iconst C 0 (by decide) dX4_expression_320 ?_
              refine v_istore_n C [(1, .int 0), (0, .ref g.1)] rfl (by decide) rfl dX4_expression_321 ?_
              refine v_goto C 29 (by decide) dX4_expression_322 ?_
              refine v_sub [1, 0] rfl ?_
              exact hk29 0 u11
            · refine v_aload_n C 0 rfl rfl dX4_expression_313 ?_
              refine v_callVM C [] [] (ct4_closes t g l u11) (cw4_closes C q2013 (by decide)) rfl rfl (Nat.le_of_ble_eq_true rfl) dX4_expression_314 (fun _ u13 => ?_)
              refine v_goto C 322 (by decide) dX4_expression_317 ?_
              refine v_goto C 29 (by decide) dX4_expression_322 ?_
              exact hk29 x1 u13
        · exact w4_expression_259 C k29 hk29 x1 u7
      · exact w4_expression_259 C k29 hk29 x1 u5
    · exact w4_expression_204 C k29 hk29 x1 u3
  · exact w4_expression_204 C k29 hk29 x1 u1
def f4_expression_161 (k29 : Int32 → MS → Option (Unit × MS)) (x1 : Int32) (s1 : Int32) (u : MS) : Option (Unit × MS) :=
  mb (f4_waitsFor s1 u) fun _ u1 =>
  mchk (inbZ (u1.1 40) 53) <|
  mlet (mA u1 53 (u1.1 40).toNatClampNeg 1) fun u3 =>
  mb (f4_goes u3) fun _ u4 =>
  mb (f4_operand 0 u4) fun _ u5 =>
  k29 x1 u5
theorem w4_expression_161 {p : Program} {e : Env} {s : State} {m : MethodId} {args : Array Value} {below : List Frame} {meth : Method} {c : Code} (C : Cx t p s m args meth c yX4_expression cX4_expression 3 none) (k29 : Int32 → MS → Option (Unit × MS)) (hk29 : ∀ (x1 : Int32) (u : MS), VM mkU t g p l e LV_expression s m args below meth c 3 29 [(0, .ref g.1), (1, .int x1)] [] u (k29 x1 u)) (x1 : Int32) (s1 : Int32) (u : MS) : VM mkU t g p l e LV_expression s m args below meth c 3 161 [(0, .ref g.1), (1, .int x1)] [.int s1, .ref g.1] u (f4_expression_161 k29 x1 s1 u) := by
  unfold f4_expression_161
  refine v_callVM C [.int s1] [] (ct4_waitsFor t g l s1 u) (cw4_waitsFor C q1987 (by decide)) rfl rfl (Nat.le_of_ble_eq_true rfl) dX4_expression_161 (fun _ u1 => ?_)
  refine v_aload_n C 0 rfl rfl dX4_expression_164 ?_
  refine v_getMa C 53 (by decide) (by decide) q1668 rfl dX4_expression_165 ?_
  refine v_aload_n C 0 rfl rfl dX4_expression_168 ?_
  refine v_getMi C 40 (by decide) (by decide) q1655 rfl dX4_expression_169 ?_
  refine v_iconst C 1 (by decide) dX4_expression_172 ?_
  refine v_chk (fun h2 => ?_)
  refine v_bastM C h2 rfl dX4_expression_173 (fun u3 => ?_)
  refine v_aload_n C 0 rfl rfl dX4_expression_174 ?_
  refine v_callVM C [] [] (ct4_goes t g l u3) (cw4_goes C q1898 (by decide)) rfl rfl (Nat.le_of_ble_eq_true rfl) dX4_expression_175 (fun _ u4 => ?_)
  refine v_aload_n C 0 rfl rfl dX4_expression_178 ?_
  refine v_iconst C 0 (by decide) dX4_expression_179 ?_
  refine v_callVM C [.int 0] [] (ct4_operand t g l 0 u4) (cw4_operand C q1983 (by decide)) rfl rfl (Nat.le_of_ble_eq_true rfl) dX4_expression_180 (fun _ u5 => ?_)
  refine v_goto C 322 (by decide) dX4_expression_183 ?_
  refine v_goto C 29 (by decide) dX4_expression_322 ?_
  exact hk29 x1 u5
def f4_expression_127 (k29 : Int32 → MS → Option (Unit × MS)) (x1 : Int32) (u : MS) : Option (Unit × MS) :=
  mchk (inbZ (u.1 40) 53) <|
  if (u.2.1 53 (u.1 40).toNatClampNeg) = 0 then
    mb (f4_drops 4 u) fun _ u2 =>
    mb (f4_isSign 60 u2) fun r4 u3 =>
    if r4 = 0 then
      f4_expression_161 k29 x1 7 u3
    else
      f4_expression_161 k29 x1 6 u3
  else
    f4_expression_186 k29 x1 u
theorem w4_expression_127 {p : Program} {e : Env} {s : State} {m : MethodId} {args : Array Value} {below : List Frame} {meth : Method} {c : Code} (C : Cx t p s m args meth c yX4_expression cX4_expression 3 none) (k29 : Int32 → MS → Option (Unit × MS)) (hk29 : ∀ (x1 : Int32) (u : MS), VM mkU t g p l e LV_expression s m args below meth c 3 29 [(0, .ref g.1), (1, .int x1)] [] u (k29 x1 u)) (x1 : Int32) (u : MS) : VM mkU t g p l e LV_expression s m args below meth c 3 127 [(0, .ref g.1), (1, .int x1)] [] u (f4_expression_127 k29 x1 u) := by
  unfold f4_expression_127
  refine v_aload_n C 0 rfl rfl dX4_expression_127 ?_
  refine v_getMa C 53 (by decide) (by decide) q1668 rfl dX4_expression_128 ?_
  refine v_aload_n C 0 rfl rfl dX4_expression_131 ?_
  refine v_getMi C 40 (by decide) (by decide) q1655 rfl dX4_expression_132 ?_
  refine v_chk (fun h1 => ?_)
  refine v_baldM C h1 dX4_expression_135 ?_
  refine v_if_ne C 186 (by decide) dX4_expression_136 (fun _ => ?_) (fun _ => ?_)
  · refine v_aload_n C 0 rfl rfl dX4_expression_139 ?_
    refine v_iconst C 4 (by decide) dX4_expression_140 ?_
    refine v_callVM C [.int 4] [] (ct4_drops t g l 4 u) (cw4_drops C q1999 (by decide)) rfl rfl (Nat.le_of_ble_eq_true rfl) dX4_expression_141 (fun _ u2 => ?_)
    refine v_aload_n C 0 rfl rfl dX4_expression_144 ?_
    refine v_aload_n C 0 rfl rfl dX4_expression_145 ?_
    refine v_bipush C 60 (by decide) dX4_expression_146 ?_
    refine v_callVM C [.int 60] [.ref g.1] (ct4_isSign t g l 60 u2) (cw4_isSign C q1979 (by decide)) rfl rfl (Nat.le_of_ble_eq_true rfl) dX4_expression_148 (fun r4 u3 => ?_)
    refine v_if_eq C 159 (by decide) dX4_expression_151 (fun _ => ?_) (fun _ => ?_)
    · refine v_bipush C 7 (by decide) dX4_expression_159 ?_
      exact w4_expression_161 C k29 hk29 x1 7 u3
    · refine v_bipush C 6 (by decide) dX4_expression_154 ?_
      refine v_goto C 161 (by decide) dX4_expression_156 ?_
      exact w4_expression_161 C k29 hk29 x1 6 u3
  · exact w4_expression_186 C k29 hk29 x1 u
def f4_expression_84 (k29 : Int32 → MS → Option (Unit × MS)) (x1 : Int32) (s1 : Int32) (u : MS) : Option (Unit × MS) :=
  mb (f4_waitsFor s1 u) fun _ u1 =>
  mchk (inbZ (u1.1 40) 53) <|
  mlet (mA u1 53 (u1.1 40).toNatClampNeg 0) fun u3 =>
  mb (f4_goes u3) fun _ u4 =>
  mb (f4_operand 1 u4) fun _ u5 =>
  k29 x1 u5
theorem w4_expression_84 {p : Program} {e : Env} {s : State} {m : MethodId} {args : Array Value} {below : List Frame} {meth : Method} {c : Code} (C : Cx t p s m args meth c yX4_expression cX4_expression 3 none) (k29 : Int32 → MS → Option (Unit × MS)) (hk29 : ∀ (x1 : Int32) (u : MS), VM mkU t g p l e LV_expression s m args below meth c 3 29 [(0, .ref g.1), (1, .int x1)] [] u (k29 x1 u)) (x1 : Int32) (s1 : Int32) (u : MS) : VM mkU t g p l e LV_expression s m args below meth c 3 84 [(0, .ref g.1), (1, .int x1)] [.int s1, .ref g.1] u (f4_expression_84 k29 x1 s1 u) := by
  unfold f4_expression_84
  refine v_callVM C [.int s1] [] (ct4_waitsFor t g l s1 u) (cw4_waitsFor C q1987 (by decide)) rfl rfl (Nat.le_of_ble_eq_true rfl) dX4_expression_84 (fun _ u1 => ?_)
  refine v_aload_n C 0 rfl rfl dX4_expression_87 ?_
  refine v_getMa C 53 (by decide) (by decide) q1668 rfl dX4_expression_88 ?_
  refine v_aload_n C 0 rfl rfl dX4_expression_91 ?_
  refine v_getMi C 40 (by decide) (by decide) q1655 rfl dX4_expression_92 ?_
  refine v_iconst C 0 (by decide) dX4_expression_95 ?_
  refine v_chk (fun h2 => ?_)
  refine v_bastM C h2 rfl dX4_expression_96 (fun u3 => ?_)
  refine v_aload_n C 0 rfl rfl dX4_expression_97 ?_
  refine v_callVM C [] [] (ct4_goes t g l u3) (cw4_goes C q1898 (by decide)) rfl rfl (Nat.le_of_ble_eq_true rfl) dX4_expression_98 (fun _ u4 => ?_)
  refine v_aload_n C 0 rfl rfl dX4_expression_101 ?_
  refine v_iconst C 1 (by decide) dX4_expression_102 ?_
  refine v_callVM C [.int 1] [] (ct4_operand t g l 1 u4) (cw4_operand C q1983 (by decide)) rfl rfl (Nat.le_of_ble_eq_true rfl) dX4_expression_103 (fun _ u5 => ?_)
  refine v_goto C 322 (by decide) dX4_expression_106 ?_
  refine v_goto C 29 (by decide) dX4_expression_322 ?_
  exact hk29 x1 u5
def f4_expression_69 (k29 : Int32 → MS → Option (Unit × MS)) (x1 : Int32) (x2 : Int32) (s1 : Int32) (u : MS) : Option (Unit × MS) :=
  mb (f4_drops s1 u) fun _ u1 =>
  if x2 = 14 then
    f4_expression_84 k29 x1 4 u1
  else
    f4_expression_84 k29 x1 5 u1
theorem w4_expression_69 {p : Program} {e : Env} {s : State} {m : MethodId} {args : Array Value} {below : List Frame} {meth : Method} {c : Code} (C : Cx t p s m args meth c yX4_expression cX4_expression 3 none) (k29 : Int32 → MS → Option (Unit × MS)) (hk29 : ∀ (x1 : Int32) (u : MS), VM mkU t g p l e LV_expression s m args below meth c 3 29 [(0, .ref g.1), (1, .int x1)] [] u (k29 x1 u)) (x1 : Int32) (x2 : Int32) (s1 : Int32) (u : MS) : VM mkU t g p l e LV_expression s m args below meth c 3 69 [(0, .ref g.1), (1, .int x1), (2, .int x2)] [.int s1, .ref g.1] u (f4_expression_69 k29 x1 x2 s1 u) := by
  unfold f4_expression_69
  refine v_callVM C [.int s1] [] (ct4_drops t g l s1 u) (cw4_drops C q1999 (by decide)) rfl rfl (Nat.le_of_ble_eq_true rfl) dX4_expression_69 (fun _ u1 => ?_)
  refine v_aload_n C 0 rfl rfl dX4_expression_72 ?_
  refine v_iload_n C 2 rfl rfl dX4_expression_73 ?_
  refine v_bipush C 14 (by decide) dX4_expression_74 ?_
  refine v_icmp_ne C 83 (by decide) dX4_expression_76 (fun _ => ?_) (fun _ => ?_)
  · refine v_iconst C 4 (by decide) dX4_expression_79 ?_
    refine v_goto C 84 (by decide) dX4_expression_80 ?_
    refine v_sub [0, 1] rfl ?_
    exact w4_expression_84 C k29 hk29 x1 4 u1
  · refine v_iconst C 5 (by decide) dX4_expression_83 ?_
    refine v_sub [0, 1] rfl ?_
    exact w4_expression_84 C k29 hk29 x1 5 u1
def f4_expression_57 (k29 : Int32 → MS → Option (Unit × MS)) (x1 : Int32) (x2 : Int32) (u : MS) : Option (Unit × MS) :=
  if x2 = 14 then
    f4_expression_69 k29 x1 x2 2 u
  else
    f4_expression_69 k29 x1 x2 1 u
theorem w4_expression_57 {p : Program} {e : Env} {s : State} {m : MethodId} {args : Array Value} {below : List Frame} {meth : Method} {c : Code} (C : Cx t p s m args meth c yX4_expression cX4_expression 3 none) (k29 : Int32 → MS → Option (Unit × MS)) (hk29 : ∀ (x1 : Int32) (u : MS), VM mkU t g p l e LV_expression s m args below meth c 3 29 [(0, .ref g.1), (1, .int x1)] [] u (k29 x1 u)) (x1 : Int32) (x2 : Int32) (u : MS) : VM mkU t g p l e LV_expression s m args below meth c 3 57 [(0, .ref g.1), (1, .int x1), (2, .int x2)] [] u (f4_expression_57 k29 x1 x2 u) := by
  unfold f4_expression_57
  refine v_aload_n C 0 rfl rfl dX4_expression_57 ?_
  refine v_iload_n C 2 rfl rfl dX4_expression_58 ?_
  refine v_bipush C 14 (by decide) dX4_expression_59 ?_
  refine v_icmp_ne C 68 (by decide) dX4_expression_61 (fun _ => ?_) (fun _ => ?_)
  · refine v_iconst C 2 (by decide) dX4_expression_64 ?_
    refine v_goto C 69 (by decide) dX4_expression_65 ?_
    exact w4_expression_69 C k29 hk29 x1 x2 2 u
  · refine v_iconst C 1 (by decide) dX4_expression_68 ?_
    exact w4_expression_69 C k29 hk29 x1 x2 1 u
def f4_expression_29 (k : Int32 → MS → Option (Unit × MS)) (x1 : Int32) (u : MS) : Option (Unit × MS) :=
  if x1 = 0 then
    f4_expression_325 u
  else
    mb (f4_isGood u) fun r2 u1 =>
    if r2 = 0 then
      f4_expression_325 u1
    else
      mb (f4_knownWord u1) fun r4 u3 =>
      if r4 = 14 then
        f4_expression_57 k x1 r4 u3
      else
        if r4 = 15 then
          f4_expression_57 k x1 r4 u3
        else
          mb (f4_isSign 60 u3) fun r6 u5 =>
          if r6 = 0 then
            mb (f4_isSign 61 u5) fun r8 u7 =>
            if r8 = 0 then
              f4_expression_186 k x1 u7
            else
              f4_expression_127 k x1 u7
          else
            f4_expression_127 k x1 u5
theorem w4_expression_29 {p : Program} {e : Env} {s : State} {m : MethodId} {args : Array Value} {below : List Frame} {meth : Method} {c : Code} (C : Cx t p s m args meth c yX4_expression cX4_expression 3 none) (n : Nat) (x1 : Int32) (u : MS) : VM mkU t g p l e LV_expression s m args below meth c 3 29 [(0, .ref g.1), (1, .int x1)] [] u (ml1 (f4_expression_29) n x1 u) := by
  refine vl1 (L := fun x1 => [(0, .ref g.1), (1, .int x1)]) (fun k hk x1 u => ?_) n x1 u
  unfold f4_expression_29
  refine v_iload_n C 1 rfl rfl dX4_expression_29 ?_
  refine v_if_eq C 325 (by decide) dX4_expression_30 (fun _ => ?_) (fun _ => ?_)
  · refine v_sub [0] rfl ?_
    exact w4_expression_325 C u
  · refine v_aload_n C 0 rfl rfl dX4_expression_33 ?_
    refine v_callVM C [] [] (ct4_isGood t g l u) (cw4_isGood C q1912 (by decide)) rfl rfl (Nat.le_of_ble_eq_true rfl) dX4_expression_34 (fun r2 u1 => ?_)
    refine v_if_eq C 325 (by decide) dX4_expression_37 (fun _ => ?_) (fun _ => ?_)
    · refine v_sub [0] rfl ?_
      exact w4_expression_325 C u1
    · refine v_aload_n C 0 rfl rfl dX4_expression_40 ?_
      refine v_callVM C [] [] (ct4_knownWord t g l u1) (cw4_knownWord C q1920 (by decide)) rfl rfl (Nat.le_of_ble_eq_true rfl) dX4_expression_41 (fun r4 u3 => ?_)
      refine v_istore_n C [(2, .int r4), (0, .ref g.1), (1, .int x1)] rfl (by decide) rfl dX4_expression_44 ?_
      refine v_iload_n C 0 rfl rfl dX4_expression_45 ?_
      refine v_bipush C 14 (by decide) dX4_expression_46 ?_
      refine v_icmp_eq C 57 (by decide) dX4_expression_48 (fun _ => ?_) (fun _ => ?_)
      · refine v_sub [1, 2, 0] rfl ?_
        exact w4_expression_57 C k hk x1 r4 u3
      · refine v_iload_n C 0 rfl rfl dX4_expression_51 ?_
        refine v_bipush C 15 (by decide) dX4_expression_52 ?_
        refine v_icmp_ne C 109 (by decide) dX4_expression_54 (fun _ => ?_) (fun _ => ?_)
        · refine v_sub [1, 2, 0] rfl ?_
          exact w4_expression_57 C k hk x1 r4 u3
        · refine v_aload_n C 1 rfl rfl dX4_expression_109 ?_
          refine v_bipush C 60 (by decide) dX4_expression_110 ?_
          refine v_callVM C [.int 60] [] (ct4_isSign t g l 60 u3) (cw4_isSign C q1979 (by decide)) rfl rfl (Nat.le_of_ble_eq_true rfl) dX4_expression_112 (fun r6 u5 => ?_)
          refine v_if_ne C 127 (by decide) dX4_expression_115 (fun _ => ?_) (fun _ => ?_)
          · refine v_aload_n C 1 rfl rfl dX4_expression_118 ?_
            refine v_bipush C 61 (by decide) dX4_expression_119 ?_
            refine v_callVM C [.int 61] [] (ct4_isSign t g l 61 u5) (cw4_isSign C q1979 (by decide)) rfl rfl (Nat.le_of_ble_eq_true rfl) dX4_expression_121 (fun r8 u7 => ?_)
            refine v_if_eq C 186 (by decide) dX4_expression_124 (fun _ => ?_) (fun _ => ?_)
            · refine v_sub [1, 2] rfl ?_
              exact w4_expression_186 C k hk x1 u7
            · refine v_sub [1, 2] rfl ?_
              exact w4_expression_127 C k hk x1 u7
          · refine v_sub [1, 2] rfl ?_
            exact w4_expression_127 C k hk x1 u5
def f4_expression (u : MS) : Option (Unit × MS) :=
  mb (f4_isGood u) fun r2 u1 =>
  if r2 = 0 then
    some ((), u1)
  else
    mlet (mS u1 39 0) fun u3 =>
    mlet (mS u3 40 0) fun u4 =>
    mb (f4_deeper u4) fun _ u5 =>
    mb (f4_operand 1 u5) fun _ u6 =>
    ml1 (f4_expression_29) FUEL 1 u6
theorem ct4_expression (t : TT) (g : GM) (l : Launch) (u : MS) : CtM mkU t g l yX4_expression cX4_expression 3 none LV_expression [.ref g.1] u (f4_expression u) := by
  refine ctM_of [(0, .ref g.1)] rfl (Nat.le_of_ble_eq_true rfl) rfl (fun p e s m args below meth c C => ?_)
  unfold f4_expression
  refine v_aload_n C 0 rfl rfl dX4_expression_0 ?_
  refine v_callVM C [] [] (ct4_isGood t g l u) (cw4_isGood C q1912 (by decide)) rfl rfl (Nat.le_of_ble_eq_true rfl) dX4_expression_1 (fun r2 u1 => ?_)
  refine v_if_ne C 8 (by decide) dX4_expression_4 (fun _ => ?_) (fun _ => ?_)
  · exact v_vretM C dX4_expression_7
  · refine v_aload_n C 0 rfl rfl dX4_expression_8 ?_
    refine v_iconst C 0 (by decide) dX4_expression_9 ?_
    refine v_putMi C 39 (by decide) (by decide) q1654 rfl rfl (by decide +kernel) dX4_expression_10 (fun u3 => ?_)
    refine v_aload_n C 0 rfl rfl dX4_expression_13 ?_
    refine v_iconst C 0 (by decide) dX4_expression_14 ?_
    refine v_putMi C 40 (by decide) (by decide) q1655 rfl rfl (by decide +kernel) dX4_expression_15 (fun u4 => ?_)
    refine v_aload_n C 0 rfl rfl dX4_expression_18 ?_
    refine v_callVM C [] [] (ct4_deeper t g l u4) (cw4_deeper C q1975 (by decide)) rfl rfl (Nat.le_of_ble_eq_true rfl) dX4_expression_19 (fun _ u5 => ?_)
    refine v_aload_n C 0 rfl rfl dX4_expression_22 ?_
    refine v_iconst C 1 (by decide) dX4_expression_23 ?_
    refine v_callVM C [.int 1] [] (ct4_operand t g l 1 u5) (cw4_operand C q1983 (by decide)) rfl rfl (Nat.le_of_ble_eq_true rfl) dX4_expression_24 (fun _ u6 => ?_)
    refine v_iconst C 1 (by decide) dX4_expression_27 ?_
    refine v_istore_n C [(1, .int 1), (0, .ref g.1)] rfl (by decide) rfl dX4_expression_28 ?_
    refine v_sub [1, 0] rfl ?_
    exact w4_expression_29 C FUEL 1 u6
theorem cw4_expression {t : TT} {p : Program} {s : State} {m : MethodId} {args : Array Value} {meth : Method} {c : Code} {y0 : MethodName} {cc0 : ByteArray} {nL0 : Nat} {ret0 : Option FieldType} (C : Cx t p s m args meth c y0 cc0 nL0 ret0) {index lv : Nat} (hq : Cond.methodLink y0.cls index yX4_expression ∈ lw_all) (hR : LV_expression + 1 ≤ lv) : CallW (rmM lv) s args y0.cls RX4 index yX4_expression cX4_expression 3 none (ws_ yX4_expression cX4_expression 3 none) (rmM LV_expression) 0 0 0 :=
  cwV 0 C.2.2.2.2.1 (lw_V hq q1973 qs70 q127 q1974) rfl rfl rfl (by decide +kernel) ⟨hR, by show 8 + (3 + 11) + 100 * LV_expression ≤ 100 * lv; omega⟩
abbrev LV_need : Nat := 2
def f4_need (p1 : Int32) (u : MS) : Option (Unit × MS) :=
  mb (f4_isGood u) fun r2 u1 =>
  if r2 = 0 then
    some ((), u1)
  else
    if p1 = 0 then
      mb (f4_wrong 1 u1) fun _ u3 =>
      some ((), u3)
    else
      mb (f4_goes u1) fun _ u3 =>
      some ((), u3)
theorem ct4_need (t : TT) (g : GM) (l : Launch) (p1 : Int32) (u : MS) : CtM mkU t g l yX4_need cX4_need 2 none LV_need [.ref g.1, .int p1] u (f4_need p1 u) := by
  refine ctM_of [(0, .ref g.1), (1, .int p1)] rfl (Nat.le_of_ble_eq_true rfl) rfl (fun p e s m args below meth c C => ?_)
  unfold f4_need
  refine v_aload_n C 0 rfl rfl dX4_need_0 ?_
  refine v_callVM C [] [] (ct4_isGood t g l u) (cw4_isGood C q1912 (by decide)) rfl rfl (Nat.le_of_ble_eq_true rfl) dX4_need_1 (fun r2 u1 => ?_)
  refine v_if_ne C 8 (by decide) dX4_need_4 (fun _ => ?_) (fun _ => ?_)
  · exact v_vretM C dX4_need_7
  · refine v_iload_n C 1 rfl rfl dX4_need_8 ?_
    refine v_if_eq C 19 (by decide) dX4_need_9 (fun _ => ?_) (fun _ => ?_)
    · refine v_aload_n C 0 rfl rfl dX4_need_19 ?_
      refine v_iconst C 1 (by decide) dX4_need_20 ?_
      refine v_callVM C [.int 1] [] (ct4_wrong t g l 1 u1) (cw4_wrong C q1931 (by decide)) rfl rfl (Nat.le_of_ble_eq_true rfl) dX4_need_21 (fun _ u3 => ?_)
      exact v_vretM C dX4_need_24
    · refine v_aload_n C 0 rfl rfl dX4_need_12 ?_
      refine v_callVM C [] [] (ct4_goes t g l u1) (cw4_goes C q1898 (by decide)) rfl rfl (Nat.le_of_ble_eq_true rfl) dX4_need_13 (fun _ u3 => ?_)
      refine v_goto C 24 (by decide) dX4_need_16 ?_
      exact v_vretM C dX4_need_24
theorem cw4_need {t : TT} {p : Program} {s : State} {m : MethodId} {args : Array Value} {meth : Method} {c : Code} {y0 : MethodName} {cc0 : ByteArray} {nL0 : Nat} {ret0 : Option FieldType} (C : Cx t p s m args meth c y0 cc0 nL0 ret0) {index lv : Nat} (hq : Cond.methodLink y0.cls index yX4_need ∈ lw_all) (hR : LV_need + 1 ≤ lv) : CallW (rmM lv) s args y0.cls RX4 index yX4_need cX4_need 2 none (ws_ yX4_need cX4_need 2 none) (rmM LV_need) 0 0 1 :=
  cwV 1 C.2.2.2.2.1 (lw_V hq q2019 qs80 q127 q2020) rfl rfl rfl (by decide +kernel) ⟨hR, by show 8 + (2 + 11) + 100 * LV_need ≤ 100 * lv; omega⟩
abbrev LV_line : Nat := 6
def f4_line_222 (u : MS) : Option (Unit × MS) :=
  mb (f4_isSign 59 u) fun r2 u1 =>
  mb (f4_need r2 u1) fun _ u3 =>
  some ((), u3)
theorem w4_line_222 {p : Program} {e : Env} {s : State} {m : MethodId} {args : Array Value} {below : List Frame} {meth : Method} {c : Code} (C : Cx t p s m args meth c yX4_line cX4_line 2 none) (u : MS) : VM mkU t g p l e LV_line s m args below meth c 2 222 [(0, .ref g.1)] [] u (f4_line_222 u) := by
  unfold f4_line_222
  refine v_aload_n C 0 rfl rfl dX4_line_222 ?_
  refine v_aload_n C 0 rfl rfl dX4_line_223 ?_
  refine v_bipush C 59 (by decide) dX4_line_224 ?_
  refine v_callVM C [.int 59] [.ref g.1] (ct4_isSign t g l 59 u) (cw4_isSign C q1979 (by decide)) rfl rfl (Nat.le_of_ble_eq_true rfl) dX4_line_226 (fun r2 u1 => ?_)
  refine v_callVM C [.int r2] [] (ct4_need t g l r2 u1) (cw4_need C q2017 (by decide)) rfl rfl (Nat.le_of_ble_eq_true rfl) dX4_line_229 (fun _ u3 => ?_)
  exact v_vretM C dX4_line_232
def f4_line_190 (u : MS) : Option (Unit × MS) :=
  mb (f4_isGood u) fun r2 u1 =>
  if r2 = 0 then
    some ((), u1)
  else
    mb (f4_goes u1) fun _ u3 =>
    mlet (mS u3 37 (u3.1 38)) fun u4 =>
    mb (f4_expression u4) fun _ u5 =>
    f4_line_222 u5
theorem w4_line_190 {p : Program} {e : Env} {s : State} {m : MethodId} {args : Array Value} {below : List Frame} {meth : Method} {c : Code} (C : Cx t p s m args meth c yX4_line cX4_line 2 none) (u : MS) : VM mkU t g p l e LV_line s m args below meth c 2 190 [(0, .ref g.1)] [] u (f4_line_190 u) := by
  unfold f4_line_190
  refine v_aload_n C 0 rfl rfl dX4_line_190 ?_
  refine v_callVM C [] [] (ct4_isGood t g l u) (cw4_isGood C q1912 (by decide)) rfl rfl (Nat.le_of_ble_eq_true rfl) dX4_line_191 (fun r2 u1 => ?_)
  refine v_if_ne C 198 (by decide) dX4_line_194 (fun _ => ?_) (fun _ => ?_)
  · exact v_vretM C dX4_line_197
  · refine v_aload_n C 0 rfl rfl dX4_line_198 ?_
    refine v_callVM C [] [] (ct4_goes t g l u1) (cw4_goes C q1898 (by decide)) rfl rfl (Nat.le_of_ble_eq_true rfl) dX4_line_199 (fun _ u3 => ?_)
    refine v_aload_n C 0 rfl rfl dX4_line_202 ?_
    refine v_aload_n C 0 rfl rfl dX4_line_203 ?_
    refine v_getMi C 38 (by decide) (by decide) q1653 rfl dX4_line_204 ?_
    refine v_putMi C 37 (by decide) (by decide) q1652 rfl rfl (by decide +kernel) dX4_line_207 (fun u4 => ?_)
    refine v_aload_n C 0 rfl rfl dX4_line_210 ?_
    refine v_callVM C [] [] (ct4_expression t g l u4) (cw4_expression C q1971 (by decide)) rfl rfl (Nat.le_of_ble_eq_true rfl) dX4_line_211 (fun _ u5 => ?_)
    refine v_goto C 222 (by decide) dX4_line_214 ?_
    exact w4_line_222 C u5
def f4_line_165 (s1 : Int32) (u : MS) : Option (Unit × MS) :=
  mb (f4_readsFriend s1 u) fun _ u1 =>
  f4_line_222 u1
theorem w4_line_165 {p : Program} {e : Env} {s : State} {m : MethodId} {args : Array Value} {below : List Frame} {meth : Method} {c : Code} (C : Cx t p s m args meth c yX4_line cX4_line 2 none) (s1 : Int32) (u : MS) : VM mkU t g p l e LV_line s m args below meth c 2 165 [(0, .ref g.1)] [.int s1, .ref g.1] u (f4_line_165 s1 u) := by
  unfold f4_line_165
  refine v_callVM C [.int s1] [] (ct4_readsFriend t g l s1 u) (cw4_readsFriend C q1967 (by decide)) rfl rfl (Nat.le_of_ble_eq_true rfl) dX4_line_165 (fun _ u1 => ?_)
  refine v_goto C 222 (by decide) dX4_line_168 ?_
  exact w4_line_222 C u1
def f4_line_154 (x1 : Int32) (u : MS) : Option (Unit × MS) :=
  if x1 = 3 then
    f4_line_165 1 u
  else
    f4_line_165 0 u
theorem w4_line_154 {p : Program} {e : Env} {s : State} {m : MethodId} {args : Array Value} {below : List Frame} {meth : Method} {c : Code} (C : Cx t p s m args meth c yX4_line cX4_line 2 none) (x1 : Int32) (u : MS) : VM mkU t g p l e LV_line s m args below meth c 2 154 [(0, .ref g.1), (1, .int x1)] [] u (f4_line_154 x1 u) := by
  unfold f4_line_154
  refine v_aload_n C 0 rfl rfl dX4_line_154 ?_
  refine v_iload_n C 1 rfl rfl dX4_line_155 ?_
  refine v_iconst C 3 (by decide) dX4_line_156 ?_
  refine v_icmp_ne C 164 (by decide) dX4_line_157 (fun _ => ?_) (fun _ => ?_)
  · refine v_iconst C 1 (by decide) dX4_line_160 ?_
    refine v_goto C 165 (by decide) dX4_line_161 ?_
    refine v_sub [0] rfl ?_
    exact w4_line_165 C 1 u
  · refine v_iconst C 0 (by decide) dX4_line_164 ?_
    refine v_sub [0] rfl ?_
    exact w4_line_165 C 0 u
def f4_line_100 (s1 : Int32) (u : MS) : Option (Unit × MS) :=
  mb (f4_readsPlace s1 u) fun _ u1 =>
  f4_line_222 u1
theorem w4_line_100 {p : Program} {e : Env} {s : State} {m : MethodId} {args : Array Value} {below : List Frame} {meth : Method} {c : Code} (C : Cx t p s m args meth c yX4_line cX4_line 2 none) (s1 : Int32) (u : MS) : VM mkU t g p l e LV_line s m args below meth c 2 100 [(0, .ref g.1)] [.int s1, .ref g.1] u (f4_line_100 s1 u) := by
  unfold f4_line_100
  refine v_callVM C [.int s1] [] (ct4_readsPlace t g l s1 u) (cw4_readsPlace C q1939 (by decide)) rfl rfl (Nat.le_of_ble_eq_true rfl) dX4_line_100 (fun _ u1 => ?_)
  refine v_goto C 222 (by decide) dX4_line_103 ?_
  exact w4_line_222 C u1
def f4_line_88 (x1 : Int32) (u : MS) : Option (Unit × MS) :=
  if x1 = 10 then
    f4_line_100 1 u
  else
    f4_line_100 0 u
theorem w4_line_88 {p : Program} {e : Env} {s : State} {m : MethodId} {args : Array Value} {below : List Frame} {meth : Method} {c : Code} (C : Cx t p s m args meth c yX4_line cX4_line 2 none) (x1 : Int32) (u : MS) : VM mkU t g p l e LV_line s m args below meth c 2 88 [(0, .ref g.1), (1, .int x1)] [] u (f4_line_88 x1 u) := by
  unfold f4_line_88
  refine v_aload_n C 0 rfl rfl dX4_line_88 ?_
  refine v_iload_n C 1 rfl rfl dX4_line_89 ?_
  refine v_bipush C 10 (by decide) dX4_line_90 ?_
  refine v_icmp_ne C 99 (by decide) dX4_line_92 (fun _ => ?_) (fun _ => ?_)
  · refine v_iconst C 1 (by decide) dX4_line_95 ?_
    refine v_goto C 100 (by decide) dX4_line_96 ?_
    refine v_sub [0] rfl ?_
    exact w4_line_100 C 1 u
  · refine v_iconst C 0 (by decide) dX4_line_99 ?_
    refine v_sub [0] rfl ?_
    exact w4_line_100 C 0 u
def f4_line_24 (u : MS) : Option (Unit × MS) :=
  mb (f4_isGood u) fun r2 u1 =>
  if r2 = 0 then
    some ((), u1)
  else
    mb (f4_goes u1) fun _ u3 =>
    mb (f4_number 0 999 u3) fun r5 u4 =>
    mchk (inbM (31 + (u3.1 31)) 50) <|
    mlet (mA u4 50 (31 + (u3.1 31)).toNatClampNeg r5) fun u7 =>
    mb (f4_isGood u7) fun r9 u8 =>
    if r9 = 0 then
      f4_line_222 u8
    else
      mlet (mS u8 31 ((u8.1 31) + 1)) fun u10 =>
      f4_line_222 u10
theorem w4_line_24 {p : Program} {e : Env} {s : State} {m : MethodId} {args : Array Value} {below : List Frame} {meth : Method} {c : Code} (C : Cx t p s m args meth c yX4_line cX4_line 2 none) (u : MS) : VM mkU t g p l e LV_line s m args below meth c 2 24 [(0, .ref g.1)] [] u (f4_line_24 u) := by
  unfold f4_line_24
  refine v_aload_n C 0 rfl rfl dX4_line_24 ?_
  refine v_callVM C [] [] (ct4_isGood t g l u) (cw4_isGood C q1912 (by decide)) rfl rfl (Nat.le_of_ble_eq_true rfl) dX4_line_25 (fun r2 u1 => ?_)
  refine v_if_ne C 32 (by decide) dX4_line_28 (fun _ => ?_) (fun _ => ?_)
  · exact v_vretM C dX4_line_31
  · refine v_aload_n C 0 rfl rfl dX4_line_32 ?_
    refine v_callVM C [] [] (ct4_goes t g l u1) (cw4_goes C q1898 (by decide)) rfl rfl (Nat.le_of_ble_eq_true rfl) dX4_line_33 (fun _ u3 => ?_)
    refine v_aload_n C 0 rfl rfl dX4_line_36 ?_
    refine v_getMa C 50 (by decide) (by decide) q1665 rfl dX4_line_37 ?_
    refine v_bipush C 31 (by decide) dX4_line_40 ?_
    refine v_aload_n C 0 rfl rfl dX4_line_42 ?_
    refine v_getMi C 31 (by decide) (by decide) q1646 rfl dX4_line_43 ?_
    refine v_iadd C dX4_line_46 ?_
    refine v_aload_n C 0 rfl rfl dX4_line_47 ?_
    refine v_iconst C 0 (by decide) dX4_line_48 ?_
    refine v_sipush C 999 (by decide) dX4_line_49 ?_
    refine v_callVM C [.int 0, .int 999] [.int (31 + (u3.1 31)), .ref (g.2 50)] (ct4_number t g l 0 999 u3) (cw4_number C q1935 (by decide)) rfl rfl (Nat.le_of_ble_eq_true rfl) dX4_line_52 (fun r5 u4 => ?_)
    refine v_chk (fun h6 => ?_)
    refine v_iastM C h6 dX4_line_55 (fun u7 => ?_)
    refine v_aload_n C 0 rfl rfl dX4_line_56 ?_
    refine v_callVM C [] [] (ct4_isGood t g l u7) (cw4_isGood C q1912 (by decide)) rfl rfl (Nat.le_of_ble_eq_true rfl) dX4_line_57 (fun r9 u8 => ?_)
    refine v_if_eq C 222 (by decide) dX4_line_60 (fun _ => ?_) (fun _ => ?_)
    · exact w4_line_222 C u8
    · refine v_aload_n C 0 rfl rfl dX4_line_63 ?_
      refine v_dup C rfl dX4_line_64 ?_
      refine v_getMi C 31 (by decide) (by decide) q1646 rfl dX4_line_65 ?_
      refine v_iconst C 1 (by decide) dX4_line_68 ?_
      refine v_iadd C dX4_line_69 ?_
      refine v_putMi C 31 (by decide) (by decide) q1646 rfl rfl (by decide +kernel) dX4_line_70 (fun u10 => ?_)
      refine v_goto C 222 (by decide) dX4_line_73 ?_
      exact w4_line_222 C u10
def f4_line (u : MS) : Option (Unit × MS) :=
  mb (f4_knownWord u) fun r2 u1 =>
  if r2 = 8 then
    if (u1.1 31) = 3 then
      mb (f4_wrong 2 u1) fun _ u3 =>
      f4_line_24 u3
    else
      f4_line_24 u1
  else
    if r2 = 9 then
      f4_line_88 r2 u1
    else
      if r2 = 10 then
        f4_line_88 r2 u1
      else
        if r2 = 11 then
          mb (f4_readsWay u1) fun _ u3 =>
          f4_line_222 u3
        else
          if r2 = 12 then
            mb (f4_readsPerson u1) fun _ u3 =>
            f4_line_222 u3
          else
            if r2 = 4 then
              mb (f4_readsKin u1) fun _ u3 =>
              f4_line_222 u3
            else
              if r2 = 3 then
                f4_line_154 r2 u1
              else
                if r2 = 2 then
                  f4_line_154 r2 u1
                else
                  if r2 = 13 then
                    if (u1.1 37) = (-1) then
                      f4_line_190 u1
                    else
                      mb (f4_wrong 5 u1) fun _ u3 =>
                      f4_line_190 u3
                  else
                    mb (f4_wrong 1 u1) fun _ u3 =>
                    f4_line_222 u3
theorem ct4_line (t : TT) (g : GM) (l : Launch) (u : MS) : CtM mkU t g l yX4_line cX4_line 2 none LV_line [.ref g.1] u (f4_line u) := by
  refine ctM_of [(0, .ref g.1)] rfl (Nat.le_of_ble_eq_true rfl) rfl (fun p e s m args below meth c C => ?_)
  unfold f4_line
  refine v_aload_n C 0 rfl rfl dX4_line_0 ?_
  refine v_callVM C [] [] (ct4_knownWord t g l u) (cw4_knownWord C q1920 (by decide)) rfl rfl (Nat.le_of_ble_eq_true rfl) dX4_line_1 (fun r2 u1 => ?_)
  refine v_istore_n C [(1, .int r2), (0, .ref g.1)] rfl (by decide) rfl dX4_line_4 ?_
  refine v_iload_n C 0 rfl rfl dX4_line_5 ?_
  refine v_bipush C 8 (by decide) dX4_line_6 ?_
  refine v_icmp_ne C 76 (by decide) dX4_line_8 (fun _ => ?_) (fun _ => ?_)
  · refine v_aload_n C 1 rfl rfl dX4_line_11 ?_
    refine v_getMi C 31 (by decide) (by decide) q1646 rfl dX4_line_12 ?_
    refine v_iconst C 3 (by decide) dX4_line_15 ?_
    refine v_icmp_ne C 24 (by decide) dX4_line_16 (fun _ => ?_) (fun _ => ?_)
    · refine v_aload_n C 1 rfl rfl dX4_line_19 ?_
      refine v_iconst C 2 (by decide) dX4_line_20 ?_
      refine v_callVM C [.int 2] [] (ct4_wrong t g l 2 u1) (cw4_wrong C q1931 (by decide)) rfl rfl (Nat.le_of_ble_eq_true rfl) dX4_line_21 (fun _ u3 => ?_)
      refine v_sub [1] rfl ?_
      exact w4_line_24 C u3
    · refine v_sub [1] rfl ?_
      exact w4_line_24 C u1
  · refine v_iload_n C 0 rfl rfl dX4_line_76 ?_
    refine v_bipush C 9 (by decide) dX4_line_77 ?_
    refine v_icmp_eq C 88 (by decide) dX4_line_79 (fun _ => ?_) (fun _ => ?_)
    · refine v_sub [1, 0] rfl ?_
      exact w4_line_88 C r2 u1
    · refine v_iload_n C 0 rfl rfl dX4_line_82 ?_
      refine v_bipush C 10 (by decide) dX4_line_83 ?_
      refine v_icmp_ne C 106 (by decide) dX4_line_85 (fun _ => ?_) (fun _ => ?_)
      · refine v_sub [1, 0] rfl ?_
        exact w4_line_88 C r2 u1
      · refine v_iload_n C 0 rfl rfl dX4_line_106 ?_
        refine v_bipush C 11 (by decide) dX4_line_107 ?_
        refine v_icmp_ne C 119 (by decide) dX4_line_109 (fun _ => ?_) (fun _ => ?_)
        · refine v_aload_n C 1 rfl rfl dX4_line_112 ?_
          refine v_callVM C [] [] (ct4_readsWay t g l u1) (cw4_readsWay C q1943 (by decide)) rfl rfl (Nat.le_of_ble_eq_true rfl) dX4_line_113 (fun _ u3 => ?_)
          refine v_goto C 222 (by decide) dX4_line_116 ?_
          refine v_sub [1] rfl ?_
          exact w4_line_222 C u3
        · refine v_iload_n C 0 rfl rfl dX4_line_119 ?_
          refine v_bipush C 12 (by decide) dX4_line_120 ?_
          refine v_icmp_ne C 132 (by decide) dX4_line_122 (fun _ => ?_) (fun _ => ?_)
          · refine v_aload_n C 1 rfl rfl dX4_line_125 ?_
            refine v_callVM C [] [] (ct4_readsPerson t g l u1) (cw4_readsPerson C q1959 (by decide)) rfl rfl (Nat.le_of_ble_eq_true rfl) dX4_line_126 (fun _ u3 => ?_)
            refine v_goto C 222 (by decide) dX4_line_129 ?_
            refine v_sub [1] rfl ?_
            exact w4_line_222 C u3
          · refine v_iload_n C 0 rfl rfl dX4_line_132 ?_
            refine v_iconst C 4 (by decide) dX4_line_133 ?_
            refine v_icmp_ne C 144 (by decide) dX4_line_134 (fun _ => ?_) (fun _ => ?_)
            · refine v_aload_n C 1 rfl rfl dX4_line_137 ?_
              refine v_callVM C [] [] (ct4_readsKin t g l u1) (cw4_readsKin C q1963 (by decide)) rfl rfl (Nat.le_of_ble_eq_true rfl) dX4_line_138 (fun _ u3 => ?_)
              refine v_goto C 222 (by decide) dX4_line_141 ?_
              refine v_sub [1] rfl ?_
              exact w4_line_222 C u3
            · refine v_iload_n C 0 rfl rfl dX4_line_144 ?_
              refine v_iconst C 3 (by decide) dX4_line_145 ?_
              refine v_icmp_eq C 154 (by decide) dX4_line_146 (fun _ => ?_) (fun _ => ?_)
              · refine v_sub [1, 0] rfl ?_
                exact w4_line_154 C r2 u1
              · refine v_iload_n C 0 rfl rfl dX4_line_149 ?_
                refine v_iconst C 2 (by decide) dX4_line_150 ?_
                refine v_icmp_ne C 171 (by decide) dX4_line_151 (fun _ => ?_) (fun _ => ?_)
                · refine v_sub [1, 0] rfl ?_
                  exact w4_line_154 C r2 u1
                · refine v_iload_n C 0 rfl rfl dX4_line_171 ?_
                  refine v_bipush C 13 (by decide) dX4_line_172 ?_
                  refine v_icmp_ne C 217 (by decide) dX4_line_174 (fun _ => ?_) (fun _ => ?_)
                  · refine v_aload_n C 1 rfl rfl dX4_line_177 ?_
                    refine v_getMi C 37 (by decide) (by decide) q1652 rfl dX4_line_178 ?_
                    refine v_iconst C (-1) (by decide) dX4_line_181 ?_
                    refine v_icmp_eq C 190 (by decide) dX4_line_182 (fun _ => ?_) (fun _ => ?_)
                    · refine v_sub [1] rfl ?_
                      exact w4_line_190 C u1
                    · refine v_aload_n C 1 rfl rfl dX4_line_185 ?_
                      refine v_iconst C 5 (by decide) dX4_line_186 ?_
                      refine v_callVM C [.int 5] [] (ct4_wrong t g l 5 u1) (cw4_wrong C q1931 (by decide)) rfl rfl (Nat.le_of_ble_eq_true rfl) dX4_line_187 (fun _ u3 => ?_)
                      refine v_sub [1] rfl ?_
                      exact w4_line_190 C u3
                  · refine v_aload_n C 1 rfl rfl dX4_line_217 ?_
                    refine v_iconst C 1 (by decide) dX4_line_218 ?_
                    refine v_callVM C [.int 1] [] (ct4_wrong t g l 1 u1) (cw4_wrong C q1931 (by decide)) rfl rfl (Nat.le_of_ble_eq_true rfl) dX4_line_219 (fun _ u3 => ?_)
                    refine v_sub [1] rfl ?_
                    exact w4_line_222 C u3
theorem cw4_line {t : TT} {p : Program} {s : State} {m : MethodId} {args : Array Value} {meth : Method} {c : Code} {y0 : MethodName} {cc0 : ByteArray} {nL0 : Nat} {ret0 : Option FieldType} (C : Cx t p s m args meth c y0 cc0 nL0 ret0) {index lv : Nat} (hq : Cond.methodLink y0.cls index yX4_line ∈ lw_all) (hR : LV_line + 1 ≤ lv) : CallW (rmM lv) s args y0.cls RX4 index yX4_line cX4_line 2 none (ws_ yX4_line cX4_line 2 none) (rmM LV_line) 0 0 0 :=
  cwV 0 C.2.2.2.2.1 (lw_V hq q1918 qs58 q127 q1919) rfl rfl rfl (by decide +kernel) ⟨hR, by show 8 + (2 + 11) + 100 * LV_line ≤ 100 * lv; omega⟩
abbrev LV_copies : Nat := 0
def f4_copies_2 (p1 : Nat) (p2 : Nat) (k : Int32 → MS → Option (Unit × MS)) (x3 : Int32) (u : MS) : Option (Unit × MS) :=
  mchk (mKind p1 == 1) <|
  if (Int32.ofNat (mN p1)) ≤ x3 then
    some ((), u)
  else
    mchk (inbM x3 p1) <|
    mchk (inbM x3 p2) <|
    mlet (mA u p2 x3.toNatClampNeg (u.2.1 p1 x3.toNatClampNeg)) fun u4 =>
    k (x3 + 1) u4
theorem w4_copies_2 {p : Program} {e : Env} {s : State} {m : MethodId} {args : Array Value} {below : List Frame} {meth : Method} {c : Code} (C : Cx t p s m args meth c yX4_copies cX4_copies 4 none) (p1 : Nat) (p2 : Nat) (n : Nat) (x3 : Int32) (u : MS) : VM mkU t g p l e LV_copies s m args below meth c 4 2 [(1, .ref (g.2 p1)), (2, .ref (g.2 p2)), (3, .int x3)] [] u (ml1 (f4_copies_2 p1 p2) n x3 u) := by
  refine vl1 (L := fun x3 => [(1, .ref (g.2 p1)), (2, .ref (g.2 p2)), (3, .int x3)]) (fun k hk x3 u => ?_) n x3 u
  unfold f4_copies_2
  refine v_iload_n C 2 rfl rfl dX4_copies_2 ?_
  refine v_aload_n C 0 rfl rfl dX4_copies_3 ?_
  refine v_chk (fun h1 => ?_)
  refine v_alenM C (eq_of_beq h1) dX4_copies_4 ?_
  refine v_icmp_ge C 20 (by decide) dX4_copies_5 (fun _ => ?_) (fun _ => ?_)
  · exact v_vretM C dX4_copies_20
  · refine v_aload_n C 1 rfl rfl dX4_copies_8 ?_
    refine v_iload_n C 2 rfl rfl dX4_copies_9 ?_
    refine v_aload_n C 0 rfl rfl dX4_copies_10 ?_
    refine v_iload_n C 2 rfl rfl dX4_copies_11 ?_
    refine v_chk (fun h2 => ?_)
    refine v_ialdM C h2 dX4_copies_12 ?_
    refine v_chk (fun h3 => ?_)
    refine v_iastM C h3 dX4_copies_13 (fun u4 => ?_)
    refine v_iinc C 1 [(3, .int (x3 + 1)), (1, .ref (g.2 p1)), (2, .ref (g.2 p2))] 2 rfl (by decide) (by decide) rfl dX4_copies_14 ?_
    refine v_goto C 2 (by decide) dX4_copies_17 ?_
    refine v_sub [1, 2, 0] rfl ?_
    exact hk (x3 + 1) u4
def f4_copies (p1 : Nat) (p2 : Nat) (u : MS) : Option (Unit × MS) :=
  ml1 (f4_copies_2 p1 p2) FUEL 0 u
theorem ct4_copies (t : TT) (g : GM) (l : Launch) (p1 : Nat) (p2 : Nat) (u : MS) : CtM mkU t g l yX4_copies cX4_copies 4 none LV_copies [.ref g.1, .ref (g.2 p1), .ref (g.2 p2)] u (f4_copies p1 p2 u) := by
  refine ctM_of [(0, .ref g.1), (1, .ref (g.2 p1)), (2, .ref (g.2 p2))] rfl (Nat.le_of_ble_eq_true rfl) rfl (fun p e s m args below meth c C => ?_)
  unfold f4_copies
  refine v_iconst C 0 (by decide) dX4_copies_0 ?_
  refine v_istore_n C [(3, .int 0), (0, .ref g.1), (1, .ref (g.2 p1)), (2, .ref (g.2 p2))] rfl (by decide) rfl dX4_copies_1 ?_
  refine v_sub [2, 3, 0] rfl ?_
  exact w4_copies_2 C p1 p2 FUEL 0 u
theorem cw4_copies {t : TT} {p : Program} {s : State} {m : MethodId} {args : Array Value} {meth : Method} {c : Code} {y0 : MethodName} {cc0 : ByteArray} {nL0 : Nat} {ret0 : Option FieldType} (C : Cx t p s m args meth c y0 cc0 nL0 ret0) {index lv : Nat} (hq : Cond.methodLink y0.cls index yX4_copies ∈ lw_all) (hR : LV_copies + 1 ≤ lv) : CallW (rmM lv) s args y0.cls RX4 index yX4_copies cX4_copies 4 none (ws_ yX4_copies cX4_copies 4 none) (rmM LV_copies) 0 0 2 :=
  cwV 2 C.2.2.2.2.1 (lw_V hq q2023 qs81 q127 q2024) rfl rfl rfl (by decide +kernel) ⟨hR, by show 8 + (4 + 11) + 100 * LV_copies ≤ 100 * lv; omega⟩
abbrev LV_board : Nat := 7
def f4_board_350 (p1 : Int32) (k : Int32 → MS → Option (Int32 × MS)) (x2 : Int32) (u : MS) : Option (Int32 × MS) :=
  if 9 ≤ x2 then
    mb (f4_copies 50 54 u) fun _ u1 =>
    mlet (mS u1 56 0) fun u2 =>
    mlet (mS u2 76 0) fun u3 =>
    mlet (mS u3 81 0) fun u4 =>
    some (0, u4)
  else
    mchk (inbM (4 + x2) 50) <|
    mlet (mA u 50 (4 + x2).toNatClampNeg (-1)) fun u2 =>
    mchk (inbM (13 + x2) 50) <|
    mlet (mA u2 50 (13 + x2).toNatClampNeg (-1)) fun u4 =>
    k (x2 + 1) u4
theorem w4_board_350 {p : Program} {e : Env} {s : State} {m : MethodId} {args : Array Value} {below : List Frame} {meth : Method} {c : Code} (C : Cx t p s m args meth c yX4_board cX4_board 3 (some .int)) (p1 : Int32) (n : Nat) (x2 : Int32) (u : MS) : VM mkI t g p l e LV_board s m args below meth c 3 350 [(0, .ref g.1), (2, .int x2)] [] u (ml1 (f4_board_350 p1) n x2 u) := by
  refine vl1 (L := fun x2 => [(0, .ref g.1), (2, .int x2)]) (fun k hk x2 u => ?_) n x2 u
  unfold f4_board_350
  refine v_iload_n C 1 rfl rfl dX4_board_350 ?_
  refine v_bipush C 9 (by decide) dX4_board_351 ?_
  refine v_icmp_ge C 381 (by decide) dX4_board_353 (fun _ => ?_) (fun _ => ?_)
  · refine v_aload_n C 0 rfl rfl dX4_board_381 ?_
    refine v_aload_n C 0 rfl rfl dX4_board_382 ?_
    refine v_getMa C 50 (by decide) (by decide) q1665 rfl dX4_board_383 ?_
    refine v_aload_n C 0 rfl rfl dX4_board_386 ?_
    refine v_getMa C 54 (by decide) (by decide) q1669 rfl dX4_board_387 ?_
    refine v_callVM C [.ref (g.2 50), .ref (g.2 54)] [] (ct4_copies t g l 50 54 u) (cw4_copies C q2021 (by decide)) rfl rfl (Nat.le_of_ble_eq_true rfl) dX4_board_390 (fun _ u1 => ?_)
    refine v_aload_n C 0 rfl rfl dX4_board_393 ?_
    refine v_iconst C 0 (by decide) dX4_board_394 ?_
    refine v_putMi C 56 (by decide) (by decide) q1671 rfl rfl (by decide +kernel) dX4_board_395 (fun u2 => ?_)
    refine v_aload_n C 0 rfl rfl dX4_board_398 ?_
    refine v_iconst C 0 (by decide) dX4_board_399 ?_
    refine v_putMi C 76 (by decide) (by decide) q1691 rfl rfl (by decide +kernel) dX4_board_400 (fun u3 => ?_)
    refine v_aload_n C 0 rfl rfl dX4_board_403 ?_
    refine v_iconst C 0 (by decide) dX4_board_404 ?_
    refine v_putMz C 81 (by decide) (by decide) rfl q1696 rfl rfl (by decide +kernel) dX4_board_405 (fun u4 => ?_)
    refine v_iconst C 0 (by decide) dX4_board_408 ?_
    exact v_iretM C dX4_board_409
  · refine v_aload_n C 0 rfl rfl dX4_board_356 ?_
    refine v_getMa C 50 (by decide) (by decide) q1665 rfl dX4_board_357 ?_
    refine v_iconst C 4 (by decide) dX4_board_360 ?_
    refine v_iload_n C 1 rfl rfl dX4_board_361 ?_
    refine v_iadd C dX4_board_362 ?_
    refine v_iconst C (-1) (by decide) dX4_board_363 ?_
    refine v_chk (fun h1 => ?_)
    refine v_iastM C h1 dX4_board_364 (fun u2 => ?_)
    refine v_aload_n C 0 rfl rfl dX4_board_365 ?_
    refine v_getMa C 50 (by decide) (by decide) q1665 rfl dX4_board_366 ?_
    refine v_bipush C 13 (by decide) dX4_board_369 ?_
    refine v_iload_n C 1 rfl rfl dX4_board_371 ?_
    refine v_iadd C dX4_board_372 ?_
    refine v_iconst C (-1) (by decide) dX4_board_373 ?_
    refine v_chk (fun h3 => ?_)
    refine v_iastM C h3 dX4_board_374 (fun u4 => ?_)
    refine v_iinc C 1 [(2, .int (x2 + 1)), (0, .ref g.1)] 1 rfl (by decide) (by decide) rfl dX4_board_375 ?_
    refine v_goto C 350 (by decide) dX4_board_378 ?_
    refine v_sub [1, 0] rfl ?_
    exact hk (x2 + 1) u4
def f4_board_122 (p1 : Int32) (u : MS) : Option (Int32 × MS) :=
  mb (f4_isGood u) fun r2 u1 =>
  if r2 = 0 then
    mlet (mA u1 22 (0 : Int32).toNatClampNeg ((u1.2.1 22 (0 : Int32).toNatClampNeg) + 1)) fun u3 =>
    some ((u3.1 20), u3)
  else
    mlet (mS u1 1 (u1.1 31)) fun u3 =>
    mlet (mS u3 2 (u3.1 32)) fun u4 =>
    mlet (mS u4 3 (u4.1 33)) fun u5 =>
    mlet (mS u5 4 (u5.1 34)) fun u6 =>
    mlet (mS u6 5 (u6.1 35)) fun u7 =>
    mlet (mS u7 6 (u7.1 36)) fun u8 =>
    mlet (mS u8 7 (u8.1 37)) fun u9 =>
    mb (f4_copies 41 8 u9) fun _ u10 =>
    mb (f4_copies 42 9 u10) fun _ u11 =>
    mb (f4_copies 43 10 u11) fun _ u12 =>
    mb (f4_copies 44 11 u12) fun _ u13 =>
    mb (f4_copies 45 12 u13) fun _ u14 =>
    mb (f4_copies 46 13 u14) fun _ u15 =>
    mb (f4_copies 47 14 u15) fun _ u16 =>
    mb (f4_copies 48 15 u16) fun _ u17 =>
    mb (f4_copies 49 16 u17) fun _ u18 =>
    mb (f4_copies 51 17 u18) fun _ u19 =>
    mlet (mA u19 50 (0 : Int32).toNatClampNeg 0) fun u20 =>
    mlet (mA u20 50 (1 : Int32).toNatClampNeg 0) fun u21 =>
    mlet (mA u21 50 (2 : Int32).toNatClampNeg 0) fun u22 =>
    mlet (mA u22 50 (3 : Int32).toNatClampNeg 1) fun u23 =>
    ml1 (f4_board_350 p1) FUEL 0 u23
theorem w4_board_122 {p : Program} {e : Env} {s : State} {m : MethodId} {args : Array Value} {below : List Frame} {meth : Method} {c : Code} (C : Cx t p s m args meth c yX4_board cX4_board 3 (some .int)) (p1 : Int32) (u : MS) : VM mkI t g p l e LV_board s m args below meth c 3 122 [(0, .ref g.1)] [] u (f4_board_122 p1 u) := by
  unfold f4_board_122
  refine v_aload_n C 0 rfl rfl dX4_board_122 ?_
  refine v_callVM C [] [] (ct4_isGood t g l u) (cw4_isGood C q1912 (by decide)) rfl rfl (Nat.le_of_ble_eq_true rfl) dX4_board_123 (fun r2 u1 => ?_)
  refine v_if_ne C 144 (by decide) dX4_board_126 (fun _ => ?_) (fun _ => ?_)
  · refine v_aload_n C 0 rfl rfl dX4_board_129 ?_
    refine v_getMa C 22 (by decide) (by decide) q1637 rfl dX4_board_130 ?_
    refine v_iconst C 0 (by decide) dX4_board_133 ?_
    refine v_dup2 C rfl rfl dX4_board_134 ?_
    refine v_ialdM C (by decide) dX4_board_135 ?_
    refine v_iconst C 1 (by decide) dX4_board_136 ?_
    refine v_iadd C dX4_board_137 ?_
    refine v_iastM C (by decide) dX4_board_138 (fun u3 => ?_)
    refine v_aload_n C 0 rfl rfl dX4_board_139 ?_
    refine v_getMi C 20 (by decide) (by decide) q1635 rfl dX4_board_140 ?_
    exact v_iretM C dX4_board_143
  · refine v_aload_n C 0 rfl rfl dX4_board_144 ?_
    refine v_aload_n C 0 rfl rfl dX4_board_145 ?_
    refine v_getMi C 31 (by decide) (by decide) q1646 rfl dX4_board_146 ?_
    refine v_putMi C 1 (by decide) (by decide) q1616 rfl rfl (by decide +kernel) dX4_board_149 (fun u3 => ?_)
    refine v_aload_n C 0 rfl rfl dX4_board_152 ?_
    refine v_aload_n C 0 rfl rfl dX4_board_153 ?_
    refine v_getMi C 32 (by decide) (by decide) q1647 rfl dX4_board_154 ?_
    refine v_putMi C 2 (by decide) (by decide) q1617 rfl rfl (by decide +kernel) dX4_board_157 (fun u4 => ?_)
    refine v_aload_n C 0 rfl rfl dX4_board_160 ?_
    refine v_aload_n C 0 rfl rfl dX4_board_161 ?_
    refine v_getMi C 33 (by decide) (by decide) q1648 rfl dX4_board_162 ?_
    refine v_putMi C 3 (by decide) (by decide) q1618 rfl rfl (by decide +kernel) dX4_board_165 (fun u5 => ?_)
    refine v_aload_n C 0 rfl rfl dX4_board_168 ?_
    refine v_aload_n C 0 rfl rfl dX4_board_169 ?_
    refine v_getMi C 34 (by decide) (by decide) q1649 rfl dX4_board_170 ?_
    refine v_putMi C 4 (by decide) (by decide) q1619 rfl rfl (by decide +kernel) dX4_board_173 (fun u6 => ?_)
    refine v_aload_n C 0 rfl rfl dX4_board_176 ?_
    refine v_aload_n C 0 rfl rfl dX4_board_177 ?_
    refine v_getMi C 35 (by decide) (by decide) q1650 rfl dX4_board_178 ?_
    refine v_putMi C 5 (by decide) (by decide) q1620 rfl rfl (by decide +kernel) dX4_board_181 (fun u7 => ?_)
    refine v_aload_n C 0 rfl rfl dX4_board_184 ?_
    refine v_aload_n C 0 rfl rfl dX4_board_185 ?_
    refine v_getMi C 36 (by decide) (by decide) q1651 rfl dX4_board_186 ?_
    refine v_putMi C 6 (by decide) (by decide) q1621 rfl rfl (by decide +kernel) dX4_board_189 (fun u8 => ?_)
    refine v_aload_n C 0 rfl rfl dX4_board_192 ?_
    refine v_aload_n C 0 rfl rfl dX4_board_193 ?_
    refine v_getMi C 37 (by decide) (by decide) q1652 rfl dX4_board_194 ?_
    refine v_putMi C 7 (by decide) (by decide) q1622 rfl rfl (by decide +kernel) dX4_board_197 (fun u9 => ?_)
    refine v_aload_n C 0 rfl rfl dX4_board_200 ?_
    refine v_aload_n C 0 rfl rfl dX4_board_201 ?_
    refine v_getMa C 41 (by decide) (by decide) q1656 rfl dX4_board_202 ?_
    refine v_aload_n C 0 rfl rfl dX4_board_205 ?_
    refine v_getMa C 8 (by decide) (by decide) q1623 rfl dX4_board_206 ?_
    refine v_callVM C [.ref (g.2 41), .ref (g.2 8)] [] (ct4_copies t g l 41 8 u9) (cw4_copies C q2021 (by decide)) rfl rfl (Nat.le_of_ble_eq_true rfl) dX4_board_209 (fun _ u10 => ?_)
    refine v_aload_n C 0 rfl rfl dX4_board_212 ?_
    refine v_aload_n C 0 rfl rfl dX4_board_213 ?_
    refine v_getMa C 42 (by decide) (by decide) q1657 rfl dX4_board_214 ?_
    refine v_aload_n C 0 rfl rfl dX4_board_217 ?_
    refine v_getMa C 9 (by decide) (by decide) q1624 rfl dX4_board_218 ?_
    refine v_callVM C [.ref (g.2 42), .ref (g.2 9)] [] (ct4_copies t g l 42 9 u10) (cw4_copies C q2021 (by decide)) rfl rfl (Nat.le_of_ble_eq_true rfl) dX4_board_221 (fun _ u11 => ?_)
    refine v_aload_n C 0 rfl rfl dX4_board_224 ?_
    refine v_aload_n C 0 rfl rfl dX4_board_225 ?_
    refine v_getMa C 43 (by decide) (by decide) q1658 rfl dX4_board_226 ?_
    refine v_aload_n C 0 rfl rfl dX4_board_229 ?_
    refine v_getMa C 10 (by decide) (by decide) q1625 rfl dX4_board_230 ?_
    refine v_callVM C [.ref (g.2 43), .ref (g.2 10)] [] (ct4_copies t g l 43 10 u11) (cw4_copies C q2021 (by decide)) rfl rfl (Nat.le_of_ble_eq_true rfl) dX4_board_233 (fun _ u12 => ?_)
    refine v_aload_n C 0 rfl rfl dX4_board_236 ?_
    refine v_aload_n C 0 rfl rfl dX4_board_237 ?_
    refine v_getMa C 44 (by decide) (by decide) q1659 rfl dX4_board_238 ?_
    refine v_aload_n C 0 rfl rfl dX4_board_241 ?_
    refine v_getMa C 11 (by decide) (by decide) q1626 rfl dX4_board_242 ?_
    refine v_callVM C [.ref (g.2 44), .ref (g.2 11)] [] (ct4_copies t g l 44 11 u12) (cw4_copies C q2021 (by decide)) rfl rfl (Nat.le_of_ble_eq_true rfl) dX4_board_245 (fun _ u13 => ?_)
    refine v_aload_n C 0 rfl rfl dX4_board_248 ?_
    refine v_aload_n C 0 rfl rfl dX4_board_249 ?_
    refine v_getMa C 45 (by decide) (by decide) q1660 rfl dX4_board_250 ?_
    refine v_aload_n C 0 rfl rfl dX4_board_253 ?_
    refine v_getMa C 12 (by decide) (by decide) q1627 rfl dX4_board_254 ?_
    refine v_callVM C [.ref (g.2 45), .ref (g.2 12)] [] (ct4_copies t g l 45 12 u13) (cw4_copies C q2021 (by decide)) rfl rfl (Nat.le_of_ble_eq_true rfl) dX4_board_257 (fun _ u14 => ?_)
    refine v_aload_n C 0 rfl rfl dX4_board_260 ?_
    refine v_aload_n C 0 rfl rfl dX4_board_261 ?_
    refine v_getMa C 46 (by decide) (by decide) q1661 rfl dX4_board_262 ?_
    refine v_aload_n C 0 rfl rfl dX4_board_265 ?_
    refine v_getMa C 13 (by decide) (by decide) q1628 rfl dX4_board_266 ?_
    refine v_callVM C [.ref (g.2 46), .ref (g.2 13)] [] (ct4_copies t g l 46 13 u14) (cw4_copies C q2021 (by decide)) rfl rfl (Nat.le_of_ble_eq_true rfl) dX4_board_269 (fun _ u15 => ?_)
    refine v_aload_n C 0 rfl rfl dX4_board_272 ?_
    refine v_aload_n C 0 rfl rfl dX4_board_273 ?_
    refine v_getMa C 47 (by decide) (by decide) q1662 rfl dX4_board_274 ?_
    refine v_aload_n C 0 rfl rfl dX4_board_277 ?_
    refine v_getMa C 14 (by decide) (by decide) q1629 rfl dX4_board_278 ?_
    refine v_callVM C [.ref (g.2 47), .ref (g.2 14)] [] (ct4_copies t g l 47 14 u15) (cw4_copies C q2021 (by decide)) rfl rfl (Nat.le_of_ble_eq_true rfl) dX4_board_281 (fun _ u16 => ?_)
    refine v_aload_n C 0 rfl rfl dX4_board_284 ?_
    refine v_aload_n C 0 rfl rfl dX4_board_285 ?_
    refine v_getMa C 48 (by decide) (by decide) q1663 rfl dX4_board_286 ?_
    refine v_aload_n C 0 rfl rfl dX4_board_289 ?_
    refine v_getMa C 15 (by decide) (by decide) q1630 rfl dX4_board_290 ?_
    refine v_callVM C [.ref (g.2 48), .ref (g.2 15)] [] (ct4_copies t g l 48 15 u16) (cw4_copies C q2021 (by decide)) rfl rfl (Nat.le_of_ble_eq_true rfl) dX4_board_293 (fun _ u17 => ?_)
    refine v_aload_n C 0 rfl rfl dX4_board_296 ?_
    refine v_aload_n C 0 rfl rfl dX4_board_297 ?_
    refine v_getMa C 49 (by decide) (by decide) q1664 rfl dX4_board_298 ?_
    refine v_aload_n C 0 rfl rfl dX4_board_301 ?_
    refine v_getMa C 16 (by decide) (by decide) q1631 rfl dX4_board_302 ?_
    refine v_callVM C [.ref (g.2 49), .ref (g.2 16)] [] (ct4_copies t g l 49 16 u17) (cw4_copies C q2021 (by decide)) rfl rfl (Nat.le_of_ble_eq_true rfl) dX4_board_305 (fun _ u18 => ?_)
    refine v_aload_n C 0 rfl rfl dX4_board_308 ?_
    refine v_aload_n C 0 rfl rfl dX4_board_309 ?_
    refine v_getMa C 51 (by decide) (by decide) q1666 rfl dX4_board_310 ?_
    refine v_aload_n C 0 rfl rfl dX4_board_313 ?_
    refine v_getMa C 17 (by decide) (by decide) q1632 rfl dX4_board_314 ?_
    refine v_callVM C [.ref (g.2 51), .ref (g.2 17)] [] (ct4_copies t g l 51 17 u18) (cw4_copies C q2021 (by decide)) rfl rfl (Nat.le_of_ble_eq_true rfl) dX4_board_317 (fun _ u19 => ?_)
    refine v_aload_n C 0 rfl rfl dX4_board_320 ?_
    refine v_getMa C 50 (by decide) (by decide) q1665 rfl dX4_board_321 ?_
    refine v_iconst C 0 (by decide) dX4_board_324 ?_
    refine v_iconst C 0 (by decide) dX4_board_325 ?_
    refine v_iastM C (by decide) dX4_board_326 (fun u20 => ?_)
    refine v_aload_n C 0 rfl rfl dX4_board_327 ?_
    refine v_getMa C 50 (by decide) (by decide) q1665 rfl dX4_board_328 ?_
    refine v_iconst C 1 (by decide) dX4_board_331 ?_
    refine v_iconst C 0 (by decide) dX4_board_332 ?_
    refine v_iastM C (by decide) dX4_board_333 (fun u21 => ?_)
    refine v_aload_n C 0 rfl rfl dX4_board_334 ?_
    refine v_getMa C 50 (by decide) (by decide) q1665 rfl dX4_board_335 ?_
    refine v_iconst C 2 (by decide) dX4_board_338 ?_
    refine v_iconst C 0 (by decide) dX4_board_339 ?_
    refine v_iastM C (by decide) dX4_board_340 (fun u22 => ?_)
    refine v_aload_n C 0 rfl rfl dX4_board_341 ?_
    refine v_getMa C 50 (by decide) (by decide) q1665 rfl dX4_board_342 ?_
    refine v_iconst C 3 (by decide) dX4_board_345 ?_
    refine v_iconst C 1 (by decide) dX4_board_346 ?_
    refine v_iastM C (by decide) dX4_board_347 (fun u23 => ?_)
    refine v_iconst C 0 (by decide) dX4_board_348 ?_
    refine v_istore_n C [(2, .int 0), (0, .ref g.1)] rfl (by decide) rfl dX4_board_349 ?_
    refine v_sub [1, 0] rfl ?_
    exact w4_board_350 C p1 FUEL 0 u23
def f4_board_101 (p1 : Int32) (k : MS → Option (Int32 × MS)) (u : MS) : Option (Int32 × MS) :=
  mb (f4_isGood u) fun r2 u1 =>
  if r2 = 0 then
    f4_board_122 p1 u1
  else
    if (u1.1 25) = 0 then
      f4_board_122 p1 u1
    else
      mb (f4_line u1) fun _ u3 =>
      k u3
theorem w4_board_101 {p : Program} {e : Env} {s : State} {m : MethodId} {args : Array Value} {below : List Frame} {meth : Method} {c : Code} (C : Cx t p s m args meth c yX4_board cX4_board 3 (some .int)) (p1 : Int32) (n : Nat) (u : MS) : VM mkI t g p l e LV_board s m args below meth c 3 101 [(0, .ref g.1)] [] u (ml0 (f4_board_101 p1) n u) := by
  refine vl0 (L := [(0, .ref g.1)]) (fun k hk u => ?_) n u
  unfold f4_board_101
  refine v_aload_n C 0 rfl rfl dX4_board_101 ?_
  refine v_callVM C [] [] (ct4_isGood t g l u) (cw4_isGood C q1912 (by decide)) rfl rfl (Nat.le_of_ble_eq_true rfl) dX4_board_102 (fun r2 u1 => ?_)
  refine v_if_eq C 122 (by decide) dX4_board_105 (fun _ => ?_) (fun _ => ?_)
  · exact w4_board_122 C p1 u1
  · refine v_aload_n C 0 rfl rfl dX4_board_108 ?_
    refine v_getMi C 25 (by decide) (by decide) q1640 rfl dX4_board_109 ?_
    refine v_if_eq C 122 (by decide) dX4_board_112 (fun _ => ?_) (fun _ => ?_)
    · exact w4_board_122 C p1 u1
    · refine v_aload_n C 0 rfl rfl dX4_board_115 ?_
      refine v_callVM C [] [] (ct4_line t g l u1) (cw4_line C q1916 (by decide)) rfl rfl (Nat.le_of_ble_eq_true rfl) dX4_board_116 (fun _ u3 => ?_)
      refine v_goto C 101 (by decide) dX4_board_119 ?_
      exact hk u3
def f4_board_23 (p1 : Int32) (s1 : Int32) (u : MS) : Option (Int32 × MS) :=
  mb (f4_right s1 1 u) fun r2 u1 =>
  if r2 = 0 then
    some (0, u1)
  else
    mlet (mS u1 19 0) fun u3 =>
    mlet (mS u3 21 (-1)) fun u4 =>
    mlet (mS u4 20 0) fun u5 =>
    mlet (mS u5 23 p1) fun u6 =>
    mlet (mS u6 24 0) fun u7 =>
    mlet (mS u7 31 0) fun u8 =>
    mlet (mS u8 32 0) fun u9 =>
    mlet (mS u9 33 0) fun u10 =>
    mlet (mS u10 34 0) fun u11 =>
    mlet (mS u11 35 0) fun u12 =>
    mlet (mS u12 36 0) fun u13 =>
    mlet (mS u13 37 (-1)) fun u14 =>
    mlet (mS u14 38 0) fun u15 =>
    mb (f4_goes u15) fun _ u16 =>
    ml0 (f4_board_101 p1) FUEL u16
theorem w4_board_23 {p : Program} {e : Env} {s : State} {m : MethodId} {args : Array Value} {below : List Frame} {meth : Method} {c : Code} (C : Cx t p s m args meth c yX4_board cX4_board 3 (some .int)) (p1 : Int32) (s1 : Int32) (u : MS) : VM mkI t g p l e LV_board s m args below meth c 3 23 [(0, .ref g.1), (1, .int p1)] [.int s1, .ref g.1] u (f4_board_23 p1 s1 u) := by
  unfold f4_board_23
  refine v_iconst C 1 (by decide) dX4_board_23 ?_
  refine v_callVM C [.int s1, .int 1] [] (ct4_right t g l s1 1 u) (cw4_right C q1894 (by decide)) rfl rfl (Nat.le_of_ble_eq_true rfl) dX4_board_24 (fun r2 u1 => ?_)
  refine v_if_ne C 32 (by decide) dX4_board_27 (fun _ => ?_) (fun _ => ?_)
  · refine v_iconst C 0 (by decide) dX4_board_30 ?_
    exact v_iretM C dX4_board_31
  · refine v_aload_n C 0 rfl rfl dX4_board_32 ?_
    refine v_iconst C 0 (by decide) dX4_board_33 ?_
    refine v_putMi C 19 (by decide) (by decide) q1634 rfl rfl (by decide +kernel) dX4_board_34 (fun u3 => ?_)
    refine v_aload_n C 0 rfl rfl dX4_board_37 ?_
    refine v_iconst C (-1) (by decide) dX4_board_38 ?_
    refine v_putMi C 21 (by decide) (by decide) q1636 rfl rfl (by decide +kernel) dX4_board_39 (fun u4 => ?_)
    refine v_aload_n C 0 rfl rfl dX4_board_42 ?_
    refine v_iconst C 0 (by decide) dX4_board_43 ?_
    refine v_putMi C 20 (by decide) (by decide) q1635 rfl rfl (by decide +kernel) dX4_board_44 (fun u5 => ?_)
    refine v_aload_n C 0 rfl rfl dX4_board_47 ?_
    refine v_iload_n C 1 rfl rfl dX4_board_48 ?_
    refine v_putMi C 23 (by decide) (by decide) q1638 rfl rfl (by decide +kernel) dX4_board_49 (fun u6 => ?_)
    refine v_aload_n C 0 rfl rfl dX4_board_52 ?_
    refine v_iconst C 0 (by decide) dX4_board_53 ?_
    refine v_putMi C 24 (by decide) (by decide) q1639 rfl rfl (by decide +kernel) dX4_board_54 (fun u7 => ?_)
    refine v_aload_n C 0 rfl rfl dX4_board_57 ?_
    refine v_iconst C 0 (by decide) dX4_board_58 ?_
    refine v_putMi C 31 (by decide) (by decide) q1646 rfl rfl (by decide +kernel) dX4_board_59 (fun u8 => ?_)
    refine v_aload_n C 0 rfl rfl dX4_board_62 ?_
    refine v_iconst C 0 (by decide) dX4_board_63 ?_
    refine v_putMi C 32 (by decide) (by decide) q1647 rfl rfl (by decide +kernel) dX4_board_64 (fun u9 => ?_)
    refine v_aload_n C 0 rfl rfl dX4_board_67 ?_
    refine v_iconst C 0 (by decide) dX4_board_68 ?_
    refine v_putMi C 33 (by decide) (by decide) q1648 rfl rfl (by decide +kernel) dX4_board_69 (fun u10 => ?_)
    refine v_aload_n C 0 rfl rfl dX4_board_72 ?_
    refine v_iconst C 0 (by decide) dX4_board_73 ?_
    refine v_putMi C 34 (by decide) (by decide) q1649 rfl rfl (by decide +kernel) dX4_board_74 (fun u11 => ?_)
    refine v_aload_n C 0 rfl rfl dX4_board_77 ?_
    refine v_iconst C 0 (by decide) dX4_board_78 ?_
    refine v_putMi C 35 (by decide) (by decide) q1650 rfl rfl (by decide +kernel) dX4_board_79 (fun u12 => ?_)
    refine v_aload_n C 0 rfl rfl dX4_board_82 ?_
    refine v_iconst C 0 (by decide) dX4_board_83 ?_
    refine v_putMi C 36 (by decide) (by decide) q1651 rfl rfl (by decide +kernel) dX4_board_84 (fun u13 => ?_)
    refine v_aload_n C 0 rfl rfl dX4_board_87 ?_
    refine v_iconst C (-1) (by decide) dX4_board_88 ?_
    refine v_putMi C 37 (by decide) (by decide) q1652 rfl rfl (by decide +kernel) dX4_board_89 (fun u14 => ?_)
    refine v_aload_n C 0 rfl rfl dX4_board_92 ?_
    refine v_iconst C 0 (by decide) dX4_board_93 ?_
    refine v_putMi C 38 (by decide) (by decide) q1653 rfl rfl (by decide +kernel) dX4_board_94 (fun u15 => ?_)
    refine v_aload_n C 0 rfl rfl dX4_board_97 ?_
    refine v_callVM C [] [] (ct4_goes t g l u15) (cw4_goes C q1898 (by decide)) rfl rfl (Nat.le_of_ble_eq_true rfl) dX4_board_98 (fun _ u16 => ?_)
    refine v_sub [0] rfl ?_
    exact w4_board_101 C p1 FUEL u16
def f4_board (p1 : Int32) (u : MS) : Option (Int32 × MS) :=
  mlet (mS u 0 0) fun u1 =>
  if p1 < 0 then
    f4_board_23 p1 0 u1
  else
    if (u1.1 19) < p1 then
      f4_board_23 p1 0 u1
    else
      f4_board_23 p1 1 u1
theorem ct4_board (t : TT) (g : GM) (l : Launch) (p1 : Int32) (u : MS) : CtM mkI t g l yX4_board cX4_board 3 (some .int) LV_board [.ref g.1, .int p1] u (f4_board p1 u) := by
  refine ctM_of [(0, .ref g.1), (1, .int p1)] rfl (Nat.le_of_ble_eq_true rfl) rfl (fun p e s m args below meth c C => ?_)
  unfold f4_board
  refine v_aload_n C 0 rfl rfl dX4_board_0 ?_
  refine v_iconst C 0 (by decide) dX4_board_1 ?_
  refine v_putMi C 0 (by decide) (by decide) q1615 rfl rfl (by decide +kernel) dX4_board_2 (fun u1 => ?_)
  refine v_aload_n C 0 rfl rfl dX4_board_5 ?_
  refine v_iload_n C 1 rfl rfl dX4_board_6 ?_
  refine v_if_lt C 22 (by decide) dX4_board_7 (fun _ => ?_) (fun _ => ?_)
  · refine v_iconst C 0 (by decide) dX4_board_22 ?_
    exact w4_board_23 C p1 0 u1
  · refine v_iload_n C 1 rfl rfl dX4_board_10 ?_
    refine v_aload_n C 0 rfl rfl dX4_board_11 ?_
    refine v_getMi C 19 (by decide) (by decide) q1634 rfl dX4_board_12 ?_
    refine v_icmp_gt C 22 (by decide) dX4_board_15 (fun _ => ?_) (fun _ => ?_)
    · refine v_iconst C 0 (by decide) dX4_board_22 ?_
      exact w4_board_23 C p1 0 u1
    · refine v_iconst C 1 (by decide) dX4_board_18 ?_
      refine v_goto C 23 (by decide) dX4_board_19 ?_
      exact w4_board_23 C p1 1 u1
theorem cw4_board {t : TT} {p : Program} {s : State} {m : MethodId} {args : Array Value} {meth : Method} {c : Code} {y0 : MethodName} {cc0 : ByteArray} {nL0 : Nat} {ret0 : Option FieldType} (C : Cx t p s m args meth c y0 cc0 nL0 ret0) {index lv : Nat} (hq : Cond.methodLink y0.cls index yX4_board ∈ lw_all) (hR : LV_board + 1 ≤ lv) : CallW (rmM lv) s args y0.cls RX4 index yX4_board cX4_board 3 (some .int) (ws_ yX4_board cX4_board 3 (some .int)) (rmM LV_board) 0 0 1 :=
  cwV 1 C.2.2.2.2.1 (lw_V hq q1891 q1892 q127 q1893) rfl rfl rfl (by decide +kernel) ⟨hR, by show 8 + (3 + 11) + 100 * LV_board ≤ 100 * lv; omega⟩
abbrev LV_fault : Nat := 0
def f4_fault (u : MS) : Option (Int32 × MS) :=
  mlet (mS u 0 0) fun u1 =>
  some ((u1.1 21), u1)
theorem ct4_fault (t : TT) (g : GM) (l : Launch) (u : MS) : CtM mkI t g l yX4_fault cX4_fault 1 (some .int) LV_fault [.ref g.1] u (f4_fault u) := by
  refine ctM_of [(0, .ref g.1)] rfl (Nat.le_of_ble_eq_true rfl) rfl (fun p e s m args below meth c C => ?_)
  unfold f4_fault
  refine v_aload_n C 0 rfl rfl dX4_fault_0 ?_
  refine v_iconst C 0 (by decide) dX4_fault_1 ?_
  refine v_putMi C 0 (by decide) (by decide) q1615 rfl rfl (by decide +kernel) dX4_fault_2 (fun u1 => ?_)
  refine v_aload_n C 0 rfl rfl dX4_fault_5 ?_
  refine v_getMi C 21 (by decide) (by decide) q1636 rfl dX4_fault_6 ?_
  exact v_iretM C dX4_fault_9
theorem cw4_fault {t : TT} {p : Program} {s : State} {m : MethodId} {args : Array Value} {meth : Method} {c : Code} {y0 : MethodName} {cc0 : ByteArray} {nL0 : Nat} {ret0 : Option FieldType} (C : Cx t p s m args meth c y0 cc0 nL0 ret0) {index lv : Nat} (hq : Cond.methodLink y0.cls index yX4_fault ∈ lw_all) (hR : LV_fault + 1 ≤ lv) : CallW (rmM lv) s args y0.cls RX4 index yX4_fault cX4_fault 1 (some .int) (ws_ yX4_fault cX4_fault 1 (some .int)) (rmM LV_fault) 0 0 0 :=
  cwV 0 C.2.2.2.2.1 (lw_V hq q2026 q2027 q127 q2028) rfl rfl rfl (by decide +kernel) ⟨hR, by show 8 + (1 + 11) + 100 * LV_fault ≤ 100 * lv; omega⟩
abbrev LV_undo : Nat := 0
def f4_undo_26 (k : Int32 → MS → Option (Int32 × MS)) (x1 : Int32) (u : MS) : Option (Int32 × MS) :=
  if 34 ≤ x1 then
    some ((u.1 56), u)
  else
    mchk (inbM ((34 * (u.1 56)) + x1) 55) <|
    mchk (inbM x1 54) <|
    mlet (mA u 54 x1.toNatClampNeg (u.2.1 55 ((34 * (u.1 56)) + x1).toNatClampNeg)) fun u3 =>
    k (x1 + 1) u3
theorem w4_undo_26 {p : Program} {e : Env} {s : State} {m : MethodId} {args : Array Value} {below : List Frame} {meth : Method} {c : Code} (C : Cx t p s m args meth c yX4_undo cX4_undo 2 (some .int)) (n : Nat) (x1 : Int32) (u : MS) : VM mkI t g p l e LV_undo s m args below meth c 2 26 [(0, .ref g.1), (1, .int x1)] [] u (ml1 (f4_undo_26) n x1 u) := by
  refine vl1 (L := fun x1 => [(0, .ref g.1), (1, .int x1)]) (fun k hk x1 u => ?_) n x1 u
  unfold f4_undo_26
  refine v_iload_n C 1 rfl rfl dX4_undo_26 ?_
  refine v_bipush C 34 (by decide) dX4_undo_27 ?_
  refine v_icmp_ge C 58 (by decide) dX4_undo_29 (fun _ => ?_) (fun _ => ?_)
  · refine v_aload_n C 0 rfl rfl dX4_undo_58 ?_
    refine v_getMi C 56 (by decide) (by decide) q1671 rfl dX4_undo_59 ?_
    exact v_iretM C dX4_undo_62
  · refine v_aload_n C 0 rfl rfl dX4_undo_32 ?_
    refine v_getMa C 54 (by decide) (by decide) q1669 rfl dX4_undo_33 ?_
    refine v_iload_n C 1 rfl rfl dX4_undo_36 ?_
    refine v_aload_n C 0 rfl rfl dX4_undo_37 ?_
    refine v_getMa C 55 (by decide) (by decide) q1670 rfl dX4_undo_38 ?_
    refine v_bipush C 34 (by decide) dX4_undo_41 ?_
    refine v_aload_n C 0 rfl rfl dX4_undo_43 ?_
    refine v_getMi C 56 (by decide) (by decide) q1671 rfl dX4_undo_44 ?_
    refine v_imul C dX4_undo_47 ?_
    refine v_iload_n C 1 rfl rfl dX4_undo_48 ?_
    refine v_iadd C dX4_undo_49 ?_
    refine v_chk (fun h1 => ?_)
    refine v_ialdM C h1 dX4_undo_50 ?_
    refine v_chk (fun h2 => ?_)
    refine v_iastM C h2 dX4_undo_51 (fun u3 => ?_)
    refine v_iinc C 1 [(1, .int (x1 + 1)), (0, .ref g.1)] 1 rfl (by decide) (by decide) rfl dX4_undo_52 ?_
    refine v_goto C 26 (by decide) dX4_undo_55 ?_
    refine v_sub [1, 0] rfl ?_
    exact hk (x1 + 1) u3
def f4_undo (u : MS) : Option (Int32 × MS) :=
  mlet (mS u 0 0) fun u1 =>
  if (u1.1 56) = 0 then
    some (-1, u1)
  else
    mlet (mS u1 56 ((u1.1 56) - 1)) fun u2 =>
    ml1 (f4_undo_26) FUEL 0 u2
theorem ct4_undo (t : TT) (g : GM) (l : Launch) (u : MS) : CtM mkI t g l yX4_undo cX4_undo 2 (some .int) LV_undo [.ref g.1] u (f4_undo u) := by
  refine ctM_of [(0, .ref g.1)] rfl (Nat.le_of_ble_eq_true rfl) rfl (fun p e s m args below meth c C => ?_)
  unfold f4_undo
  refine v_aload_n C 0 rfl rfl dX4_undo_0 ?_
  refine v_iconst C 0 (by decide) dX4_undo_1 ?_
  refine v_putMi C 0 (by decide) (by decide) q1615 rfl rfl (by decide +kernel) dX4_undo_2 (fun u1 => ?_)
  refine v_aload_n C 0 rfl rfl dX4_undo_5 ?_
  refine v_getMi C 56 (by decide) (by decide) q1671 rfl dX4_undo_6 ?_
  refine v_if_ne C 14 (by decide) dX4_undo_9 (fun _ => ?_) (fun _ => ?_)
  · refine v_iconst C (-1) (by decide) dX4_undo_12 ?_
    exact v_iretM C dX4_undo_13
  · refine v_aload_n C 0 rfl rfl dX4_undo_14 ?_
    refine v_dup C rfl dX4_undo_15 ?_
    refine v_getMi C 56 (by decide) (by decide) q1671 rfl dX4_undo_16 ?_
    refine v_iconst C 1 (by decide) dX4_undo_19 ?_
    refine v_isub C dX4_undo_20 ?_
    refine v_putMi C 56 (by decide) (by decide) q1671 rfl rfl (by decide +kernel) dX4_undo_21 (fun u2 => ?_)
    refine v_iconst C 0 (by decide) dX4_undo_24 ?_
    refine v_istore_n C [(1, .int 0), (0, .ref g.1)] rfl (by decide) rfl dX4_undo_25 ?_
    refine v_sub [1, 0] rfl ?_
    exact w4_undo_26 C FUEL 0 u2
theorem cw4_undo {t : TT} {p : Program} {s : State} {m : MethodId} {args : Array Value} {meth : Method} {c : Code} {y0 : MethodName} {cc0 : ByteArray} {nL0 : Nat} {ret0 : Option FieldType} (C : Cx t p s m args meth c y0 cc0 nL0 ret0) {index lv : Nat} (hq : Cond.methodLink y0.cls index yX4_undo ∈ lw_all) (hR : LV_undo + 1 ≤ lv) : CallW (rmM lv) s args y0.cls RX4 index yX4_undo cX4_undo 2 (some .int) (ws_ yX4_undo cX4_undo 2 (some .int)) (rmM LV_undo) 0 0 0 :=
  cwV 0 C.2.2.2.2.1 (lw_V hq q2030 q2031 q127 q2032) rfl rfl rfl (by decide +kernel) ⟨hR, by show 8 + (2 + 11) + 100 * LV_undo ≤ 100 * lv; omega⟩
abbrev LV_within : Nat := 0
def f4_within (p0 : Int32) (p1 : Int32) (p2 : Int32) (u : MS) : Option (Int32 × MS) :=
  if p0 < p1 then
    rz 0 u
  else
    if p2 < p0 then
      rz 0 u
    else
      rz 1 u
theorem ct4_within (t : TT) (g : GM) (l : Launch) (p0 : Int32) (p1 : Int32) (p2 : Int32) (u : MS) : CtM mkI t g l yX4_within cX4_within 3 (some .boolean) LV_within [.int p0, .int p1, .int p2] u (f4_within p0 p1 p2 u) := by
  refine ctM_of [(0, .int p0), (1, .int p1), (2, .int p2)] rfl (Nat.le_of_ble_eq_true rfl) rfl (fun p e s m args below meth c C => ?_)
  unfold f4_within
  refine v_iload_n C 0 rfl rfl dX4_within_0 ?_
  refine v_iload_n C 1 rfl rfl dX4_within_1 ?_
  refine v_icmp_lt C 14 (by decide) dX4_within_2 (fun _ => ?_) (fun _ => ?_)
  · refine v_iconst C 0 (by decide) dX4_within_14 ?_
    exact v_zretM C dX4_within_15
  · refine v_iload_n C 0 rfl rfl dX4_within_5 ?_
    refine v_iload_n C 2 rfl rfl dX4_within_6 ?_
    refine v_icmp_gt C 14 (by decide) dX4_within_7 (fun _ => ?_) (fun _ => ?_)
    · refine v_iconst C 0 (by decide) dX4_within_14 ?_
      exact v_zretM C dX4_within_15
    · refine v_iconst C 1 (by decide) dX4_within_10 ?_
      refine v_goto C 15 (by decide) dX4_within_11 ?_
      exact v_zretM C dX4_within_15
theorem cw4_within {t : TT} {p : Program} {s : State} {m : MethodId} {args : Array Value} {meth : Method} {c : Code} {y0 : MethodName} {cc0 : ByteArray} {nL0 : Nat} {ret0 : Option FieldType} (C : Cx t p s m args meth c y0 cc0 nL0 ret0) {index lv : Nat} (hq : Cond.methodLink y0.cls index yX4_within ∈ lw_all) (hR : LV_within + 1 ≤ lv) : CallB (rmM lv) s args y0.cls index yX4_within cX4_within 3 (some .boolean) (ws_ yX4_within cX4_within 3 (some .boolean)) (rmM LV_within) 0 0 3 ∧ (Cond.static yX4_within).before args s = true :=
  ⟨callB_of 3 C.2.2.2.2.1 (lw_meth q2039) rfl rfl rfl (C.2.2.2.2.1 _ q127) (C.2.2.2.2.1 _ hq) (by decide +kernel) ⟨hR, by show 8 + (3 + 11) + 100 * LV_within ≤ 100 * lv; omega⟩, C.2.2.2.2.1 _ q2038⟩
abbrev LV_listOf : Nat := 0
def f4_listOf_4 (p1 : Nat) (k : Int32 → Int32 → MS → Option (Int32 × MS)) (x2 : Int32) (x3 : Int32) (u : MS) : Option (Int32 × MS) :=
  if (u.1 4) ≤ x3 then
    some (x2, u)
  else
    mchk (inbM (4 + x3) p1) <|
    if (u.2.1 p1 (4 + x3).toNatClampNeg) = (-1) then
      mlet (x2 ||| 0) fun v2 =>
      k v2 (x3 + 1) u
    else
      mlet (x2 ||| (1 <<< (x3 &&& 31))) fun v2 =>
      k v2 (x3 + 1) u
theorem w4_listOf_4 {p : Program} {e : Env} {s : State} {m : MethodId} {args : Array Value} {below : List Frame} {meth : Method} {c : Code} (C : Cx t p s m args meth c yX4_listOf cX4_listOf 4 (some .int)) (p1 : Nat) (n : Nat) (x2 : Int32) (x3 : Int32) (u : MS) : VM mkI t g p l e LV_listOf s m args below meth c 4 4 [(0, .ref g.1), (1, .ref (g.2 p1)), (2, .int x2), (3, .int x3)] [] u (ml2 (f4_listOf_4 p1) n x2 x3 u) := by
  refine vl2 (L := fun x2 x3 => [(0, .ref g.1), (1, .ref (g.2 p1)), (2, .int x2), (3, .int x3)]) (fun k hk x2 x3 u => ?_) n x2 x3 u
  unfold f4_listOf_4
  refine v_iload_n C 3 rfl rfl dX4_listOf_4 ?_
  refine v_aload_n C 0 rfl rfl dX4_listOf_5 ?_
  refine v_getMi C 4 (by decide) (by decide) q1619 rfl dX4_listOf_6 ?_
  refine v_icmp_ge C 37 (by decide) dX4_listOf_9 (fun _ => ?_) (fun _ => ?_)
  · refine v_iload_n C 2 rfl rfl dX4_listOf_37 ?_
    exact v_iretM C dX4_listOf_38
  · refine v_iload_n C 2 rfl rfl dX4_listOf_12 ?_
    refine v_aload_n C 1 rfl rfl dX4_listOf_13 ?_
    refine v_iconst C 4 (by decide) dX4_listOf_14 ?_
    refine v_iload_n C 3 rfl rfl dX4_listOf_15 ?_
    refine v_iadd C dX4_listOf_16 ?_
    refine v_chk (fun h1 => ?_)
    refine v_ialdM C h1 dX4_listOf_17 ?_
    refine v_iconst C (-1) (by decide) dX4_listOf_18 ?_
    refine v_icmp_eq C 28 (by decide) dX4_listOf_19 (fun _ => ?_) (fun _ => ?_)
    · refine v_iconst C 0 (by decide) dX4_listOf_28 ?_
      refine v_ior C dX4_listOf_29 ?_
      refine v_topi (fun v2 => ?_)
      refine v_istore_n C [(2, .int v2), (0, .ref g.1), (1, .ref (g.2 p1)), (3, .int x3)] rfl (by decide) rfl dX4_listOf_30 ?_
      refine v_iinc C 1 [(3, .int (x3 + 1)), (2, .int v2), (0, .ref g.1), (1, .ref (g.2 p1))] 3 rfl (by decide) (by decide) rfl dX4_listOf_31 ?_
      refine v_goto C 4 (by decide) dX4_listOf_34 ?_
      refine v_sub [2, 3, 1, 0] rfl ?_
      exact hk v2 (x3 + 1) u
    · refine v_iconst C 1 (by decide) dX4_listOf_22 ?_
      refine v_iload_n C 3 rfl rfl dX4_listOf_23 ?_
      refine v_ishl C dX4_listOf_24 ?_
      refine v_goto C 29 (by decide) dX4_listOf_25 ?_
      refine v_ior C dX4_listOf_29 ?_
      refine v_topi (fun v2 => ?_)
      refine v_istore_n C [(2, .int v2), (0, .ref g.1), (1, .ref (g.2 p1)), (3, .int x3)] rfl (by decide) rfl dX4_listOf_30 ?_
      refine v_iinc C 1 [(3, .int (x3 + 1)), (2, .int v2), (0, .ref g.1), (1, .ref (g.2 p1))] 3 rfl (by decide) (by decide) rfl dX4_listOf_31 ?_
      refine v_goto C 4 (by decide) dX4_listOf_34 ?_
      refine v_sub [2, 3, 1, 0] rfl ?_
      exact hk v2 (x3 + 1) u
def f4_listOf (p1 : Nat) (u : MS) : Option (Int32 × MS) :=
  ml2 (f4_listOf_4 p1) FUEL 0 0 u
theorem ct4_listOf (t : TT) (g : GM) (l : Launch) (p1 : Nat) (u : MS) : CtM mkI t g l yX4_listOf cX4_listOf 4 (some .int) LV_listOf [.ref g.1, .ref (g.2 p1)] u (f4_listOf p1 u) := by
  refine ctM_of [(0, .ref g.1), (1, .ref (g.2 p1))] rfl (Nat.le_of_ble_eq_true rfl) rfl (fun p e s m args below meth c C => ?_)
  unfold f4_listOf
  refine v_iconst C 0 (by decide) dX4_listOf_0 ?_
  refine v_istore_n C [(2, .int 0), (0, .ref g.1), (1, .ref (g.2 p1))] rfl (by decide) rfl dX4_listOf_1 ?_
  refine v_iconst C 0 (by decide) dX4_listOf_2 ?_
  refine v_istore_n C [(3, .int 0), (2, .int 0), (0, .ref g.1), (1, .ref (g.2 p1))] rfl (by decide) rfl dX4_listOf_3 ?_
  refine v_sub [2, 3, 1, 0] rfl ?_
  exact w4_listOf_4 C p1 FUEL 0 0 u
theorem cw4_listOf {t : TT} {p : Program} {s : State} {m : MethodId} {args : Array Value} {meth : Method} {c : Code} {y0 : MethodName} {cc0 : ByteArray} {nL0 : Nat} {ret0 : Option FieldType} (C : Cx t p s m args meth c y0 cc0 nL0 ret0) {index lv : Nat} (hq : Cond.methodLink y0.cls index yX4_listOf ∈ lw_all) (hR : LV_listOf + 1 ≤ lv) : CallW (rmM lv) s args y0.cls RX4 index yX4_listOf cX4_listOf 4 (some .int) (ws_ yX4_listOf cX4_listOf 4 (some .int)) (rmM LV_listOf) 0 0 1 :=
  cwV 1 C.2.2.2.2.1 (lw_V hq q2042 qs82 q127 q2043) rfl rfl rfl (by decide +kernel) ⟨hR, by show 8 + (4 + 11) + 100 * LV_listOf ≤ 100 * lv; omega⟩
abbrev LV_isAway : Nat := 0
def f4_isAway (p1 : Nat) (p2 : Int32) (u : MS) : Option (Int32 × MS) :=
  mchk (inbM (22 + p2) p1) <|
  mchk (inbM (u.2.1 p1 (22 + p2).toNatClampNeg) 8) <|
  if (u.2.1 8 (u.2.1 p1 (22 + p2).toNatClampNeg).toNatClampNeg) = (-1) then
    rz 1 u
  else
    rz 0 u
theorem ct4_isAway (t : TT) (g : GM) (l : Launch) (p1 : Nat) (p2 : Int32) (u : MS) : CtM mkI t g l yX4_isAway cX4_isAway 3 (some .boolean) LV_isAway [.ref g.1, .ref (g.2 p1), .int p2] u (f4_isAway p1 p2 u) := by
  refine ctM_of [(0, .ref g.1), (1, .ref (g.2 p1)), (2, .int p2)] rfl (Nat.le_of_ble_eq_true rfl) rfl (fun p e s m args below meth c C => ?_)
  unfold f4_isAway
  refine v_aload_n C 0 rfl rfl dX4_isAway_0 ?_
  refine v_getMa C 8 (by decide) (by decide) q1623 rfl dX4_isAway_1 ?_
  refine v_aload_n C 1 rfl rfl dX4_isAway_4 ?_
  refine v_bipush C 22 (by decide) dX4_isAway_5 ?_
  refine v_iload_n C 2 rfl rfl dX4_isAway_7 ?_
  refine v_iadd C dX4_isAway_8 ?_
  refine v_chk (fun h1 => ?_)
  refine v_ialdM C h1 dX4_isAway_9 ?_
  refine v_chk (fun h2 => ?_)
  refine v_ialdM C h2 dX4_isAway_10 ?_
  refine v_iconst C (-1) (by decide) dX4_isAway_11 ?_
  refine v_icmp_ne C 19 (by decide) dX4_isAway_12 (fun _ => ?_) (fun _ => ?_)
  · refine v_iconst C 1 (by decide) dX4_isAway_15 ?_
    refine v_goto C 20 (by decide) dX4_isAway_16 ?_
    exact v_zretM C dX4_isAway_20
  · refine v_iconst C 0 (by decide) dX4_isAway_19 ?_
    exact v_zretM C dX4_isAway_20
theorem cw4_isAway {t : TT} {p : Program} {s : State} {m : MethodId} {args : Array Value} {meth : Method} {c : Code} {y0 : MethodName} {cc0 : ByteArray} {nL0 : Nat} {ret0 : Option FieldType} (C : Cx t p s m args meth c y0 cc0 nL0 ret0) {index lv : Nat} (hq : Cond.methodLink y0.cls index yX4_isAway ∈ lw_all) (hR : LV_isAway + 1 ≤ lv) : CallW (rmM lv) s args y0.cls RX4 index yX4_isAway cX4_isAway 3 (some .boolean) (ws_ yX4_isAway cX4_isAway 3 (some .boolean)) (rmM LV_isAway) 0 0 2 :=
  cwV 2 C.2.2.2.2.1 (lw_V hq q2050 qs84 q127 q2051) rfl rfl rfl (by decide +kernel) ⟨hR, by show 8 + (3 + 11) + 100 * LV_isAway ≤ 100 * lv; omega⟩
abbrev LV_awayOf : Nat := 1
def f4_awayOf_4 (p1 : Nat) (k : Int32 → Int32 → MS → Option (Int32 × MS)) (x2 : Int32) (x3 : Int32) (u : MS) : Option (Int32 × MS) :=
  if (u.1 4) ≤ x3 then
    some (x2, u)
  else
    mb (f4_isAway p1 x3 u) fun r2 u1 =>
    if r2 = 0 then
      mlet (x2 ||| 0) fun v3 =>
      k v3 (x3 + 1) u1
    else
      mlet (x2 ||| (1 <<< (x3 &&& 31))) fun v3 =>
      k v3 (x3 + 1) u1
theorem w4_awayOf_4 {p : Program} {e : Env} {s : State} {m : MethodId} {args : Array Value} {below : List Frame} {meth : Method} {c : Code} (C : Cx t p s m args meth c yX4_awayOf cX4_awayOf 4 (some .int)) (p1 : Nat) (n : Nat) (x2 : Int32) (x3 : Int32) (u : MS) : VM mkI t g p l e LV_awayOf s m args below meth c 4 4 [(0, .ref g.1), (1, .ref (g.2 p1)), (2, .int x2), (3, .int x3)] [] u (ml2 (f4_awayOf_4 p1) n x2 x3 u) := by
  refine vl2 (L := fun x2 x3 => [(0, .ref g.1), (1, .ref (g.2 p1)), (2, .int x2), (3, .int x3)]) (fun k hk x2 x3 u => ?_) n x2 x3 u
  unfold f4_awayOf_4
  refine v_iload_n C 3 rfl rfl dX4_awayOf_4 ?_
  refine v_aload_n C 0 rfl rfl dX4_awayOf_5 ?_
  refine v_getMi C 4 (by decide) (by decide) q1619 rfl dX4_awayOf_6 ?_
  refine v_icmp_ge C 37 (by decide) dX4_awayOf_9 (fun _ => ?_) (fun _ => ?_)
  · refine v_iload_n C 2 rfl rfl dX4_awayOf_37 ?_
    exact v_iretM C dX4_awayOf_38
  · refine v_iload_n C 2 rfl rfl dX4_awayOf_12 ?_
    refine v_aload_n C 0 rfl rfl dX4_awayOf_13 ?_
    refine v_aload_n C 1 rfl rfl dX4_awayOf_14 ?_
    refine v_iload_n C 3 rfl rfl dX4_awayOf_15 ?_
    refine v_callVM C [.ref (g.2 p1), .int x3] [.int x2] (ct4_isAway t g l p1 x3 u) (cw4_isAway C q2048 (by decide)) rfl rfl (Nat.le_of_ble_eq_true rfl) dX4_awayOf_16 (fun r2 u1 => ?_)
    refine v_if_eq C 28 (by decide) dX4_awayOf_19 (fun _ => ?_) (fun _ => ?_)
    · refine v_iconst C 0 (by decide) dX4_awayOf_28 ?_
      refine v_ior C dX4_awayOf_29 ?_
      refine v_topi (fun v3 => ?_)
      refine v_istore_n C [(2, .int v3), (0, .ref g.1), (1, .ref (g.2 p1)), (3, .int x3)] rfl (by decide) rfl dX4_awayOf_30 ?_
      refine v_iinc C 1 [(3, .int (x3 + 1)), (2, .int v3), (0, .ref g.1), (1, .ref (g.2 p1))] 3 rfl (by decide) (by decide) rfl dX4_awayOf_31 ?_
      refine v_goto C 4 (by decide) dX4_awayOf_34 ?_
      refine v_sub [2, 3, 1, 0] rfl ?_
      exact hk v3 (x3 + 1) u1
    · refine v_iconst C 1 (by decide) dX4_awayOf_22 ?_
      refine v_iload_n C 3 rfl rfl dX4_awayOf_23 ?_
      refine v_ishl C dX4_awayOf_24 ?_
      refine v_goto C 29 (by decide) dX4_awayOf_25 ?_
      refine v_ior C dX4_awayOf_29 ?_
      refine v_topi (fun v3 => ?_)
      refine v_istore_n C [(2, .int v3), (0, .ref g.1), (1, .ref (g.2 p1)), (3, .int x3)] rfl (by decide) rfl dX4_awayOf_30 ?_
      refine v_iinc C 1 [(3, .int (x3 + 1)), (2, .int v3), (0, .ref g.1), (1, .ref (g.2 p1))] 3 rfl (by decide) (by decide) rfl dX4_awayOf_31 ?_
      refine v_goto C 4 (by decide) dX4_awayOf_34 ?_
      refine v_sub [2, 3, 1, 0] rfl ?_
      exact hk v3 (x3 + 1) u1
def f4_awayOf (p1 : Nat) (u : MS) : Option (Int32 × MS) :=
  ml2 (f4_awayOf_4 p1) FUEL 0 0 u
theorem ct4_awayOf (t : TT) (g : GM) (l : Launch) (p1 : Nat) (u : MS) : CtM mkI t g l yX4_awayOf cX4_awayOf 4 (some .int) LV_awayOf [.ref g.1, .ref (g.2 p1)] u (f4_awayOf p1 u) := by
  refine ctM_of [(0, .ref g.1), (1, .ref (g.2 p1))] rfl (Nat.le_of_ble_eq_true rfl) rfl (fun p e s m args below meth c C => ?_)
  unfold f4_awayOf
  refine v_iconst C 0 (by decide) dX4_awayOf_0 ?_
  refine v_istore_n C [(2, .int 0), (0, .ref g.1), (1, .ref (g.2 p1))] rfl (by decide) rfl dX4_awayOf_1 ?_
  refine v_iconst C 0 (by decide) dX4_awayOf_2 ?_
  refine v_istore_n C [(3, .int 0), (2, .int 0), (0, .ref g.1), (1, .ref (g.2 p1))] rfl (by decide) rfl dX4_awayOf_3 ?_
  refine v_sub [2, 3, 1, 0] rfl ?_
  exact w4_awayOf_4 C p1 FUEL 0 0 u
theorem cw4_awayOf {t : TT} {p : Program} {s : State} {m : MethodId} {args : Array Value} {meth : Method} {c : Code} {y0 : MethodName} {cc0 : ByteArray} {nL0 : Nat} {ret0 : Option FieldType} (C : Cx t p s m args meth c y0 cc0 nL0 ret0) {index lv : Nat} (hq : Cond.methodLink y0.cls index yX4_awayOf ∈ lw_all) (hR : LV_awayOf + 1 ≤ lv) : CallW (rmM lv) s args y0.cls RX4 index yX4_awayOf cX4_awayOf 4 (some .int) (ws_ yX4_awayOf cX4_awayOf 4 (some .int)) (rmM LV_awayOf) 0 0 1 :=
  cwV 1 C.2.2.2.2.1 (lw_V hq q2046 qs83 q127 q2047) rfl rfl rfl (by decide +kernel) ⟨hR, by show 8 + (4 + 11) + 100 * LV_awayOf ≤ 100 * lv; omega⟩
abbrev LV_barred : Nat := 1
def f4_barred_24 (k13 : Int32 → Int32 → Int32 → MS → Option (Int32 × MS)) (k : Int32 → Int32 → Int32 → Int32 → MS → Option (Int32 × MS)) (x1 : Int32) (x2 : Int32) (x3 : Int32) (x4 : Int32) (u : MS) : Option (Int32 × MS) :=
  if (u.1 4) ≤ x4 then
    k13 x1 x2 (x3 + 1) u
  else
    mchk (inbM x4 13) <|
    if ((u.2.1 13 x4.toNatClampNeg) &&& x2) = 0 then
      mlet (x2 ||| 0) fun v2 =>
      k x1 v2 x3 (x4 + 1) u
    else
      mlet (x2 ||| (1 <<< (x4 &&& 31))) fun v2 =>
      k x1 v2 x3 (x4 + 1) u
theorem w4_barred_24 {p : Program} {e : Env} {s : State} {m : MethodId} {args : Array Value} {below : List Frame} {meth : Method} {c : Code} (C : Cx t p s m args meth c yX4_barred cX4_barred 5 (some .int)) (k13 : Int32 → Int32 → Int32 → MS → Option (Int32 × MS)) (hk13 : ∀ (x1 : Int32) (x2 : Int32) (x3 : Int32) (u : MS), VM mkI t g p l e LV_barred s m args below meth c 5 13 [(0, .ref g.1), (1, .int x1), (2, .int x2), (3, .int x3)] [] u (k13 x1 x2 x3 u)) (n : Nat) (x1 : Int32) (x2 : Int32) (x3 : Int32) (x4 : Int32) (u : MS) : VM mkI t g p l e LV_barred s m args below meth c 5 24 [(0, .ref g.1), (1, .int x1), (2, .int x2), (3, .int x3), (4, .int x4)] [] u (ml4 (f4_barred_24 k13) n x1 x2 x3 x4 u) := by
  refine vl4 (L := fun x1 x2 x3 x4 => [(0, .ref g.1), (1, .int x1), (2, .int x2), (3, .int x3), (4, .int x4)]) (fun k hk x1 x2 x3 x4 u => ?_) n x1 x2 x3 x4 u
  unfold f4_barred_24
  refine v_iload C 4 rfl dX4_barred_24 ?_
  refine v_aload_n C 0 rfl rfl dX4_barred_26 ?_
  refine v_getMi C 4 (by decide) (by decide) q1619 rfl dX4_barred_27 ?_
  refine v_icmp_ge C 62 (by decide) dX4_barred_30 (fun _ => ?_) (fun _ => ?_)
  · refine v_iinc C 1 [(3, .int (x3 + 1)), (0, .ref g.1), (1, .int x1), (2, .int x2), (4, .int x4)] 3 rfl (by decide) (by decide) rfl dX4_barred_62 ?_
    refine v_goto C 13 (by decide) dX4_barred_65 ?_
    refine v_sub [1, 2, 3, 0] rfl ?_
    exact hk13 x1 x2 (x3 + 1) u
  · refine v_iload_n C 2 rfl rfl dX4_barred_33 ?_
    refine v_aload_n C 0 rfl rfl dX4_barred_34 ?_
    refine v_getMa C 13 (by decide) (by decide) q1628 rfl dX4_barred_35 ?_
    refine v_iload C 4 rfl dX4_barred_38 ?_
    refine v_chk (fun h1 => ?_)
    refine v_ialdM C h1 dX4_barred_40 ?_
    refine v_iload_n C 2 rfl rfl dX4_barred_41 ?_
    refine v_iand C dX4_barred_42 ?_
    refine v_if_eq C 53 (by decide) dX4_barred_43 (fun _ => ?_) (fun _ => ?_)
    · refine v_iconst C 0 (by decide) dX4_barred_53 ?_
      refine v_ior C dX4_barred_54 ?_
      refine v_topi (fun v2 => ?_)
      refine v_istore_n C [(2, .int v2), (0, .ref g.1), (1, .int x1), (3, .int x3), (4, .int x4)] rfl (by decide) rfl dX4_barred_55 ?_
      refine v_iinc C 1 [(4, .int (x4 + 1)), (2, .int v2), (0, .ref g.1), (1, .int x1), (3, .int x3)] 4 rfl (by decide) (by decide) rfl dX4_barred_56 ?_
      refine v_goto C 24 (by decide) dX4_barred_59 ?_
      refine v_sub [2, 3, 1, 4, 0] rfl ?_
      exact hk x1 v2 x3 (x4 + 1) u
    · refine v_iconst C 1 (by decide) dX4_barred_46 ?_
      refine v_iload C 4 rfl dX4_barred_47 ?_
      refine v_ishl C dX4_barred_49 ?_
      refine v_goto C 54 (by decide) dX4_barred_50 ?_
      refine v_ior C dX4_barred_54 ?_
      refine v_topi (fun v2 => ?_)
      refine v_istore_n C [(2, .int v2), (0, .ref g.1), (1, .int x1), (3, .int x3), (4, .int x4)] rfl (by decide) rfl dX4_barred_55 ?_
      refine v_iinc C 1 [(4, .int (x4 + 1)), (2, .int v2), (0, .ref g.1), (1, .int x1), (3, .int x3)] 4 rfl (by decide) (by decide) rfl dX4_barred_56 ?_
      refine v_goto C 24 (by decide) dX4_barred_59 ?_
      refine v_sub [2, 3, 1, 4, 0] rfl ?_
      exact hk x1 v2 x3 (x4 + 1) u
def f4_barred_13 (k : Int32 → Int32 → Int32 → MS → Option (Int32 × MS)) (x1 : Int32) (x2 : Int32) (x3 : Int32) (u : MS) : Option (Int32 × MS) :=
  if (u.1 4) ≤ x3 then
    some ((x2 &&& (x1 ^^^ (-1))), u)
  else
    ml4 (f4_barred_24 k) FUEL x1 x2 x3 0 u
theorem w4_barred_13 {p : Program} {e : Env} {s : State} {m : MethodId} {args : Array Value} {below : List Frame} {meth : Method} {c : Code} (C : Cx t p s m args meth c yX4_barred cX4_barred 5 (some .int)) (n : Nat) (x1 : Int32) (x2 : Int32) (x3 : Int32) (u : MS) : VM mkI t g p l e LV_barred s m args below meth c 5 13 [(0, .ref g.1), (1, .int x1), (2, .int x2), (3, .int x3)] [] u (ml3 (f4_barred_13) n x1 x2 x3 u) := by
  refine vl3 (L := fun x1 x2 x3 => [(0, .ref g.1), (1, .int x1), (2, .int x2), (3, .int x3)]) (fun k hk x1 x2 x3 u => ?_) n x1 x2 x3 u
  unfold f4_barred_13
  refine v_iload_n C 3 rfl rfl dX4_barred_13 ?_
  refine v_aload_n C 0 rfl rfl dX4_barred_14 ?_
  refine v_getMi C 4 (by decide) (by decide) q1619 rfl dX4_barred_15 ?_
  refine v_icmp_ge C 68 (by decide) dX4_barred_18 (fun _ => ?_) (fun _ => ?_)
  · refine v_iload_n C 2 rfl rfl dX4_barred_68 ?_
    refine v_iload_n C 1 rfl rfl dX4_barred_69 ?_
    refine v_iconst C (-1) (by decide) dX4_barred_70 ?_
    refine v_ixor C dX4_barred_71 ?_
    refine v_iand C dX4_barred_72 ?_
    exact v_iretM C dX4_barred_73
  · refine v_iconst C 0 (by decide) dX4_barred_21 ?_
    refine v_istore C [(4, .int 0), (0, .ref g.1), (1, .int x1), (2, .int x2), (3, .int x3)] (by decide) rfl dX4_barred_22 ?_
    refine v_sub [1, 2, 3, 4, 0] rfl ?_
    exact w4_barred_24 C k hk FUEL x1 x2 x3 0 u
def f4_barred (u : MS) : Option (Int32 × MS) :=
  mb (f4_listOf 54 u) fun r2 u1 =>
  ml3 (f4_barred_13) FUEL r2 r2 0 u1
theorem ct4_barred (t : TT) (g : GM) (l : Launch) (u : MS) : CtM mkI t g l yX4_barred cX4_barred 5 (some .int) LV_barred [.ref g.1] u (f4_barred u) := by
  refine ctM_of [(0, .ref g.1)] rfl (Nat.le_of_ble_eq_true rfl) rfl (fun p e s m args below meth c C => ?_)
  unfold f4_barred
  refine v_aload_n C 0 rfl rfl dX4_barred_0 ?_
  refine v_aload_n C 0 rfl rfl dX4_barred_1 ?_
  refine v_getMa C 54 (by decide) (by decide) q1669 rfl dX4_barred_2 ?_
  refine v_callVM C [.ref (g.2 54)] [] (ct4_listOf t g l 54 u) (cw4_listOf C q2040 (by decide)) rfl rfl (Nat.le_of_ble_eq_true rfl) dX4_barred_5 (fun r2 u1 => ?_)
  refine v_istore_n C [(1, .int r2), (0, .ref g.1)] rfl (by decide) rfl dX4_barred_8 ?_
  refine v_iload_n C 0 rfl rfl dX4_barred_9 ?_
  refine v_istore_n C [(2, .int r2), (1, .int r2), (0, .ref g.1)] rfl (by decide) rfl dX4_barred_10 ?_
  refine v_iconst C 0 (by decide) dX4_barred_11 ?_
  refine v_istore_n C [(3, .int 0), (2, .int r2), (1, .int r2), (0, .ref g.1)] rfl (by decide) rfl dX4_barred_12 ?_
  refine v_sub [3, 2, 1, 0] rfl ?_
  exact w4_barred_13 C FUEL r2 r2 0 u1
theorem cw4_barred {t : TT} {p : Program} {s : State} {m : MethodId} {args : Array Value} {meth : Method} {c : Code} {y0 : MethodName} {cc0 : ByteArray} {nL0 : Nat} {ret0 : Option FieldType} (C : Cx t p s m args meth c y0 cc0 nL0 ret0) {index lv : Nat} (hq : Cond.methodLink y0.cls index yX4_barred ∈ lw_all) (hR : LV_barred + 1 ≤ lv) : CallW (rmM lv) s args y0.cls RX4 index yX4_barred cX4_barred 5 (some .int) (ws_ yX4_barred cX4_barred 5 (some .int)) (rmM LV_barred) 0 0 0 :=
  cwV 0 C.2.2.2.2.1 (lw_V hq q2054 qs85 q127 q2055) rfl rfl rfl (by decide +kernel) ⟨hR, by show 8 + (5 + 11) + 100 * LV_barred ≤ 100 * lv; omega⟩
abbrev LV_count : Nat := 2
def f4_count (p1 : Int32) (u : MS) : Option (Int32 × MS) :=
  mlet (mS u 0 0) fun u1 =>
  mb (f4_within p1 0 16 u1) fun r3 u2 =>
  mb (f4_right r3 1 u2) fun r5 u4 =>
  if r5 = 0 then
    some (0, u4)
  else
    if p1 = 0 then
      some ((u4.1 1), u4)
    else
      if p1 = 1 then
        some ((u4.1 2), u4)
      else
        if p1 = 2 then
          some ((u4.1 3), u4)
        else
          if p1 = 3 then
            some ((u4.1 4), u4)
          else
            if p1 = 4 then
              some ((u4.2.1 54 (0 : Int32).toNatClampNeg), u4)
            else
              if p1 = 5 then
                mb (f4_listOf 54 u4) fun r13 u12 =>
                some (r13, u12)
              else
                if p1 = 6 then
                  some ((u4.2.1 54 (1 : Int32).toNatClampNeg), u4)
                else
                  if p1 = 7 then
                    mb (f4_awayOf 54 u4) fun r15 u14 =>
                    some (r15, u14)
                  else
                    if p1 = 8 then
                      some ((u4.2.1 54 (2 : Int32).toNatClampNeg), u4)
                    else
                      if p1 = 9 then
                        some ((u4.2.1 54 (3 : Int32).toNatClampNeg), u4)
                      else
                        if p1 = 10 then
                          mb (f4_barred u4) fun r18 u17 =>
                          some (r18, u17)
                        else
                          if p1 = 11 then
                            some ((u4.1 56), u4)
                          else
                            if p1 = 12 then
                              some ((u4.1 76), u4)
                            else
                              if p1 = 13 then
                                some ((u4.1 19), u4)
                              else
                                mchk (inbM (p1 - 14) 22) <|
                                some ((u4.2.1 22 (p1 - 14).toNatClampNeg), u4)
theorem ct4_count (t : TT) (g : GM) (l : Launch) (p1 : Int32) (u : MS) : CtM mkI t g l yX4_count cX4_count 2 (some .int) LV_count [.ref g.1, .int p1] u (f4_count p1 u) := by
  refine ctM_of [(0, .ref g.1), (1, .int p1)] rfl (Nat.le_of_ble_eq_true rfl) rfl (fun p e s m args below meth c C => ?_)
  unfold f4_count
  refine v_aload_n C 0 rfl rfl dX4_count_0 ?_
  refine v_iconst C 0 (by decide) dX4_count_1 ?_
  refine v_putMi C 0 (by decide) (by decide) q1615 rfl rfl (by decide +kernel) dX4_count_2 (fun u1 => ?_)
  refine v_aload_n C 0 rfl rfl dX4_count_5 ?_
  refine v_iload_n C 1 rfl rfl dX4_count_6 ?_
  refine v_iconst C 0 (by decide) dX4_count_7 ?_
  refine v_bipush C 16 (by decide) dX4_count_8 ?_
  refine v_callSM C [.int p1, .int 0, .int 16] [.ref g.1] (ct4_within t g l p1 0 16 u1) (cw4_within C q2037 (by decide)) rfl rfl (Nat.le_of_ble_eq_true rfl) dX4_count_10 (fun r3 u2 => ?_)
  refine v_iconst C 1 (by decide) dX4_count_13 ?_
  refine v_callVM C [.int r3, .int 1] [] (ct4_right t g l r3 1 u2) (cw4_right C q1894 (by decide)) rfl rfl (Nat.le_of_ble_eq_true rfl) dX4_count_14 (fun r5 u4 => ?_)
  refine v_if_ne C 22 (by decide) dX4_count_17 (fun _ => ?_) (fun _ => ?_)
  · refine v_iconst C 0 (by decide) dX4_count_20 ?_
    exact v_iretM C dX4_count_21
  · refine v_iload_n C 1 rfl rfl dX4_count_22 ?_
    refine v_if (fun h6 => ?_) (fun h6 => ?_)
    · refine v_tableIn C (69) 92 (by rw [h6]; decide) (by rw [h6]; decide) (by rw [h6]; rfl) (by decide) dX4_count_23 ?_
      refine v_aload_n C 0 rfl rfl dX4_count_92 ?_
      refine v_getMi C 1 (by decide) (by decide) q1616 rfl dX4_count_93 ?_
      exact v_iretM C dX4_count_96
    · skip
      refine v_if (fun h7 => ?_) (fun h7 => ?_)
      · refine v_tableIn C (74) 97 (by rw [h7]; decide) (by rw [h7]; decide) (by rw [h7]; rfl) (by decide) dX4_count_23 ?_
        refine v_aload_n C 0 rfl rfl dX4_count_97 ?_
        refine v_getMi C 2 (by decide) (by decide) q1617 rfl dX4_count_98 ?_
        exact v_iretM C dX4_count_101
      · skip
        refine v_if (fun h8 => ?_) (fun h8 => ?_)
        · refine v_tableIn C (79) 102 (by rw [h8]; decide) (by rw [h8]; decide) (by rw [h8]; rfl) (by decide) dX4_count_23 ?_
          refine v_aload_n C 0 rfl rfl dX4_count_102 ?_
          refine v_getMi C 3 (by decide) (by decide) q1618 rfl dX4_count_103 ?_
          exact v_iretM C dX4_count_106
        · skip
          refine v_if (fun h9 => ?_) (fun h9 => ?_)
          · refine v_tableIn C (84) 107 (by rw [h9]; decide) (by rw [h9]; decide) (by rw [h9]; rfl) (by decide) dX4_count_23 ?_
            refine v_aload_n C 0 rfl rfl dX4_count_107 ?_
            refine v_getMi C 4 (by decide) (by decide) q1619 rfl dX4_count_108 ?_
            exact v_iretM C dX4_count_111
          · skip
            refine v_if (fun h10 => ?_) (fun h10 => ?_)
            · refine v_tableIn C (89) 112 (by rw [h10]; decide) (by rw [h10]; decide) (by rw [h10]; rfl) (by decide) dX4_count_23 ?_
              refine v_aload_n C 0 rfl rfl dX4_count_112 ?_
              refine v_getMa C 54 (by decide) (by decide) q1669 rfl dX4_count_113 ?_
              refine v_iconst C 0 (by decide) dX4_count_116 ?_
              refine v_ialdM C (by decide) dX4_count_117 ?_
              exact v_iretM C dX4_count_118
            · skip
              refine v_if (fun h11 => ?_) (fun h11 => ?_)
              · refine v_tableIn C (96) 119 (by rw [h11]; decide) (by rw [h11]; decide) (by rw [h11]; rfl) (by decide) dX4_count_23 ?_
                refine v_aload_n C 0 rfl rfl dX4_count_119 ?_
                refine v_aload_n C 0 rfl rfl dX4_count_120 ?_
                refine v_getMa C 54 (by decide) (by decide) q1669 rfl dX4_count_121 ?_
                refine v_callVM C [.ref (g.2 54)] [] (ct4_listOf t g l 54 u4) (cw4_listOf C q2040 (by decide)) rfl rfl (Nat.le_of_ble_eq_true rfl) dX4_count_124 (fun r13 u12 => ?_)
                exact v_iretM C dX4_count_127
              · skip
                refine v_if (fun h12 => ?_) (fun h12 => ?_)
                · refine v_tableIn C (105) 128 (by rw [h12]; decide) (by rw [h12]; decide) (by rw [h12]; rfl) (by decide) dX4_count_23 ?_
                  refine v_aload_n C 0 rfl rfl dX4_count_128 ?_
                  refine v_getMa C 54 (by decide) (by decide) q1669 rfl dX4_count_129 ?_
                  refine v_iconst C 1 (by decide) dX4_count_132 ?_
                  refine v_ialdM C (by decide) dX4_count_133 ?_
                  exact v_iretM C dX4_count_134
                · skip
                  refine v_if (fun h13 => ?_) (fun h13 => ?_)
                  · refine v_tableIn C (112) 135 (by rw [h13]; decide) (by rw [h13]; decide) (by rw [h13]; rfl) (by decide) dX4_count_23 ?_
                    refine v_aload_n C 0 rfl rfl dX4_count_135 ?_
                    refine v_aload_n C 0 rfl rfl dX4_count_136 ?_
                    refine v_getMa C 54 (by decide) (by decide) q1669 rfl dX4_count_137 ?_
                    refine v_callVM C [.ref (g.2 54)] [] (ct4_awayOf t g l 54 u4) (cw4_awayOf C q2044 (by decide)) rfl rfl (Nat.le_of_ble_eq_true rfl) dX4_count_140 (fun r15 u14 => ?_)
                    exact v_iretM C dX4_count_143
                  · skip
                    refine v_if (fun h14 => ?_) (fun h14 => ?_)
                    · refine v_tableIn C (121) 144 (by rw [h14]; decide) (by rw [h14]; decide) (by rw [h14]; rfl) (by decide) dX4_count_23 ?_
                      refine v_aload_n C 0 rfl rfl dX4_count_144 ?_
                      refine v_getMa C 54 (by decide) (by decide) q1669 rfl dX4_count_145 ?_
                      refine v_iconst C 2 (by decide) dX4_count_148 ?_
                      refine v_ialdM C (by decide) dX4_count_149 ?_
                      exact v_iretM C dX4_count_150
                    · skip
                      refine v_if (fun h15 => ?_) (fun h15 => ?_)
                      · refine v_tableIn C (128) 151 (by rw [h15]; decide) (by rw [h15]; decide) (by rw [h15]; rfl) (by decide) dX4_count_23 ?_
                        refine v_aload_n C 0 rfl rfl dX4_count_151 ?_
                        refine v_getMa C 54 (by decide) (by decide) q1669 rfl dX4_count_152 ?_
                        refine v_iconst C 3 (by decide) dX4_count_155 ?_
                        refine v_ialdM C (by decide) dX4_count_156 ?_
                        exact v_iretM C dX4_count_157
                      · skip
                        refine v_if (fun h16 => ?_) (fun h16 => ?_)
                        · refine v_tableIn C (135) 158 (by rw [h16]; decide) (by rw [h16]; decide) (by rw [h16]; rfl) (by decide) dX4_count_23 ?_
                          refine v_aload_n C 0 rfl rfl dX4_count_158 ?_
                          refine v_callVM C [] [] (ct4_barred t g l u4) (cw4_barred C q2052 (by decide)) rfl rfl (Nat.le_of_ble_eq_true rfl) dX4_count_159 (fun r18 u17 => ?_)
                          exact v_iretM C dX4_count_162
                        · skip
                          refine v_if (fun h17 => ?_) (fun h17 => ?_)
                          · refine v_tableIn C (140) 163 (by rw [h17]; decide) (by rw [h17]; decide) (by rw [h17]; rfl) (by decide) dX4_count_23 ?_
                            refine v_aload_n C 0 rfl rfl dX4_count_163 ?_
                            refine v_getMi C 56 (by decide) (by decide) q1671 rfl dX4_count_164 ?_
                            exact v_iretM C dX4_count_167
                          · skip
                            refine v_if (fun h18 => ?_) (fun h18 => ?_)
                            · refine v_tableIn C (145) 168 (by rw [h18]; decide) (by rw [h18]; decide) (by rw [h18]; rfl) (by decide) dX4_count_23 ?_
                              refine v_aload_n C 0 rfl rfl dX4_count_168 ?_
                              refine v_getMi C 76 (by decide) (by decide) q1691 rfl dX4_count_169 ?_
                              exact v_iretM C dX4_count_172
                            · skip
                              refine v_if (fun h19 => ?_) (fun h19 => ?_)
                              · refine v_tableIn C (150) 173 (by rw [h19]; decide) (by rw [h19]; decide) (by rw [h19]; rfl) (by decide) dX4_count_23 ?_
                                refine v_aload_n C 0 rfl rfl dX4_count_173 ?_
                                refine v_getMi C 19 (by decide) (by decide) q1634 rfl dX4_count_174 ?_
                                exact v_iretM C dX4_count_177
                              · skip
                                refine v_tableOut C 178 (by have := lv_neT (a := 0) h6 (by decide); have := lv_neT (a := 1) h7 (by decide); have := lv_neT (a := 2) h8 (by decide); have := lv_neT (a := 3) h9 (by decide); have := lv_neT (a := 4) h10 (by decide); have := lv_neT (a := 5) h11 (by decide); have := lv_neT (a := 6) h12 (by decide); have := lv_neT (a := 7) h13 (by decide); have := lv_neT (a := 8) h14 (by decide); have := lv_neT (a := 9) h15 (by decide); have := lv_neT (a := 10) h16 (by decide); have := lv_neT (a := 11) h17 (by decide); have := lv_neT (a := 12) h18 (by decide); have := lv_neT (a := 13) h19 (by decide); omega) (by decide) dX4_count_23 ?_
                                refine v_aload_n C 0 rfl rfl dX4_count_178 ?_
                                refine v_getMa C 22 (by decide) (by decide) q1637 rfl dX4_count_179 ?_
                                refine v_iload_n C 1 rfl rfl dX4_count_182 ?_
                                refine v_bipush C 14 (by decide) dX4_count_183 ?_
                                refine v_isub C dX4_count_185 ?_
                                refine v_chk (fun h20 => ?_)
                                refine v_ialdM C h20 dX4_count_186 ?_
                                exact v_iretM C dX4_count_187
theorem cw4_count {t : TT} {p : Program} {s : State} {m : MethodId} {args : Array Value} {meth : Method} {c : Code} {y0 : MethodName} {cc0 : ByteArray} {nL0 : Nat} {ret0 : Option FieldType} (C : Cx t p s m args meth c y0 cc0 nL0 ret0) {index lv : Nat} (hq : Cond.methodLink y0.cls index yX4_count ∈ lw_all) (hR : LV_count + 1 ≤ lv) : CallW (rmM lv) s args y0.cls RX4 index yX4_count cX4_count 2 (some .int) (ws_ yX4_count cX4_count 2 (some .int)) (rmM LV_count) 0 0 1 :=
  cwV 1 C.2.2.2.2.1 (lw_V hq q2034 q2035 q127 q2036) rfl rfl rfl (by decide +kernel) ⟨hR, by show 8 + (2 + 11) + 100 * LV_count ≤ 100 * lv; omega⟩
abbrev LV_isMaster : Nat := 1
def f4_isMaster_18 (p1 : Int32) (s1 : Int32) (u : MS) : Option (Int32 × MS) :=
  mb (f4_right s1 1 u) fun r2 u1 =>
  rz r2 u1
theorem w4_isMaster_18 {p : Program} {e : Env} {s : State} {m : MethodId} {args : Array Value} {below : List Frame} {meth : Method} {c : Code} (C : Cx t p s m args meth c yX4_isMaster cX4_isMaster 2 (some .boolean)) (p1 : Int32) (s1 : Int32) (u : MS) : VM mkI t g p l e LV_isMaster s m args below meth c 2 18 [] [.int s1, .ref g.1] u (f4_isMaster_18 p1 s1 u) := by
  unfold f4_isMaster_18
  refine v_iconst C 1 (by decide) dX4_isMaster_18 ?_
  refine v_callVM C [.int s1, .int 1] [] (ct4_right t g l s1 1 u) (cw4_right C q1894 (by decide)) rfl rfl (Nat.le_of_ble_eq_true rfl) dX4_isMaster_19 (fun r2 u1 => ?_)
  exact v_zretM C dX4_isMaster_22
def f4_isMaster (p1 : Int32) (u : MS) : Option (Int32 × MS) :=
  if p1 < 0 then
    f4_isMaster_18 p1 0 u
  else
    if (u.1 1) ≤ p1 then
      f4_isMaster_18 p1 0 u
    else
      f4_isMaster_18 p1 1 u
theorem ct4_isMaster (t : TT) (g : GM) (l : Launch) (p1 : Int32) (u : MS) : CtM mkI t g l yX4_isMaster cX4_isMaster 2 (some .boolean) LV_isMaster [.ref g.1, .int p1] u (f4_isMaster p1 u) := by
  refine ctM_of [(0, .ref g.1), (1, .int p1)] rfl (Nat.le_of_ble_eq_true rfl) rfl (fun p e s m args below meth c C => ?_)
  unfold f4_isMaster
  refine v_aload_n C 0 rfl rfl dX4_isMaster_0 ?_
  refine v_iload_n C 1 rfl rfl dX4_isMaster_1 ?_
  refine v_if_lt C 17 (by decide) dX4_isMaster_2 (fun _ => ?_) (fun _ => ?_)
  · refine v_iconst C 0 (by decide) dX4_isMaster_17 ?_
    refine v_sub [] rfl ?_
    exact w4_isMaster_18 C p1 0 u
  · refine v_iload_n C 1 rfl rfl dX4_isMaster_5 ?_
    refine v_aload_n C 0 rfl rfl dX4_isMaster_6 ?_
    refine v_getMi C 1 (by decide) (by decide) q1616 rfl dX4_isMaster_7 ?_
    refine v_icmp_ge C 17 (by decide) dX4_isMaster_10 (fun _ => ?_) (fun _ => ?_)
    · refine v_iconst C 0 (by decide) dX4_isMaster_17 ?_
      refine v_sub [] rfl ?_
      exact w4_isMaster_18 C p1 0 u
    · refine v_iconst C 1 (by decide) dX4_isMaster_13 ?_
      refine v_goto C 18 (by decide) dX4_isMaster_14 ?_
      refine v_sub [] rfl ?_
      exact w4_isMaster_18 C p1 1 u
theorem cw4_isMaster {t : TT} {p : Program} {s : State} {m : MethodId} {args : Array Value} {meth : Method} {c : Code} {y0 : MethodName} {cc0 : ByteArray} {nL0 : Nat} {ret0 : Option FieldType} (C : Cx t p s m args meth c y0 cc0 nL0 ret0) {index lv : Nat} (hq : Cond.methodLink y0.cls index yX4_isMaster ∈ lw_all) (hR : LV_isMaster + 1 ≤ lv) : CallW (rmM lv) s args y0.cls RX4 index yX4_isMaster cX4_isMaster 2 (some .boolean) (ws_ yX4_isMaster cX4_isMaster 2 (some .boolean)) (rmM LV_isMaster) 0 0 1 :=
  cwV 1 C.2.2.2.2.1 (lw_V hq q2062 qs86 q127 q2063) rfl rfl rfl (by decide +kernel) ⟨hR, by show 8 + (2 + 11) + 100 * LV_isMaster ≤ 100 * lv; omega⟩
abbrev LV_isWhat : Nat := 1
def f4_isWhat (p1 : Int32) (p2 : Int32) (u : MS) : Option (Int32 × MS) :=
  mb (f4_within p1 0 p2 u) fun r2 u1 =>
  mb (f4_right r2 1 u1) fun r4 u3 =>
  rz r4 u3
theorem ct4_isWhat (t : TT) (g : GM) (l : Launch) (p1 : Int32) (p2 : Int32) (u : MS) : CtM mkI t g l yX4_isWhat cX4_isWhat 3 (some .boolean) LV_isWhat [.ref g.1, .int p1, .int p2] u (f4_isWhat p1 p2 u) := by
  refine ctM_of [(0, .ref g.1), (1, .int p1), (2, .int p2)] rfl (Nat.le_of_ble_eq_true rfl) rfl (fun p e s m args below meth c C => ?_)
  unfold f4_isWhat
  refine v_aload_n C 0 rfl rfl dX4_isWhat_0 ?_
  refine v_iload_n C 1 rfl rfl dX4_isWhat_1 ?_
  refine v_iconst C 0 (by decide) dX4_isWhat_2 ?_
  refine v_iload_n C 2 rfl rfl dX4_isWhat_3 ?_
  refine v_callSM C [.int p1, .int 0, .int p2] [.ref g.1] (ct4_within t g l p1 0 p2 u) (cw4_within C q2037 (by decide)) rfl rfl (Nat.le_of_ble_eq_true rfl) dX4_isWhat_4 (fun r2 u1 => ?_)
  refine v_iconst C 1 (by decide) dX4_isWhat_7 ?_
  refine v_callVM C [.int r2, .int 1] [] (ct4_right t g l r2 1 u1) (cw4_right C q1894 (by decide)) rfl rfl (Nat.le_of_ble_eq_true rfl) dX4_isWhat_8 (fun r4 u3 => ?_)
  exact v_zretM C dX4_isWhat_11
theorem cw4_isWhat {t : TT} {p : Program} {s : State} {m : MethodId} {args : Array Value} {meth : Method} {c : Code} {y0 : MethodName} {cc0 : ByteArray} {nL0 : Nat} {ret0 : Option FieldType} (C : Cx t p s m args meth c y0 cc0 nL0 ret0) {index lv : Nat} (hq : Cond.methodLink y0.cls index yX4_isWhat ∈ lw_all) (hR : LV_isWhat + 1 ≤ lv) : CallW (rmM lv) s args y0.cls RX4 index yX4_isWhat cX4_isWhat 3 (some .boolean) (ws_ yX4_isWhat cX4_isWhat 3 (some .boolean)) (rmM LV_isWhat) 0 0 2 :=
  cwV 2 C.2.2.2.2.1 (lw_V hq q2066 qs87 q127 q2067) rfl rfl rfl (by decide +kernel) ⟨hR, by show 8 + (3 + 11) + 100 * LV_isWhat ≤ 100 * lv; omega⟩
abbrev LV_those : Nat := 0
def f4_those_5 (p1 : Int32) (p2 : Int32) (k : Int32 → Int32 → MS → Option (Int32 × MS)) (x3 : Int32) (x4 : Int32) (u : MS) : Option (Int32 × MS) :=
  if (u.1 6) ≤ x4 then
    some (x3, u)
  else
    mchk (inbM x4 14) <|
    if (u.2.1 14 x4.toNatClampNeg) = p1 then
      mchk (inbM x4 16) <|
      if (u.2.1 16 x4.toNatClampNeg) = p2 then
        mchk (inbM x4 15) <|
        mlet (x3 ||| (1 <<< ((u.2.1 15 x4.toNatClampNeg) &&& 31))) fun v4 =>
        k v4 (x4 + 1) u
      else
        mlet (x3 ||| 0) fun v3 =>
        k v3 (x4 + 1) u
    else
      mlet (x3 ||| 0) fun v2 =>
      k v2 (x4 + 1) u
theorem w4_those_5 {p : Program} {e : Env} {s : State} {m : MethodId} {args : Array Value} {below : List Frame} {meth : Method} {c : Code} (C : Cx t p s m args meth c yX4_those cX4_those 5 (some .int)) (p1 : Int32) (p2 : Int32) (n : Nat) (x3 : Int32) (x4 : Int32) (u : MS) : VM mkI t g p l e LV_those s m args below meth c 5 5 [(0, .ref g.1), (1, .int p1), (2, .int p2), (3, .int x3), (4, .int x4)] [] u (ml2 (f4_those_5 p1 p2) n x3 x4 u) := by
  refine vl2 (L := fun x3 x4 => [(0, .ref g.1), (1, .int p1), (2, .int p2), (3, .int x3), (4, .int x4)]) (fun k hk x3 x4 u => ?_) n x3 x4 u
  unfold f4_those_5
  refine v_iload C 4 rfl dX4_those_5 ?_
  refine v_aload_n C 0 rfl rfl dX4_those_7 ?_
  refine v_getMi C 6 (by decide) (by decide) q1621 rfl dX4_those_8 ?_
  refine v_icmp_ge C 58 (by decide) dX4_those_11 (fun _ => ?_) (fun _ => ?_)
  · refine v_iload_n C 3 rfl rfl dX4_those_58 ?_
    exact v_iretM C dX4_those_59
  · refine v_iload_n C 3 rfl rfl dX4_those_14 ?_
    refine v_aload_n C 0 rfl rfl dX4_those_15 ?_
    refine v_getMa C 14 (by decide) (by decide) q1629 rfl dX4_those_16 ?_
    refine v_iload C 4 rfl dX4_those_19 ?_
    refine v_chk (fun h1 => ?_)
    refine v_ialdM C h1 dX4_those_21 ?_
    refine v_iload_n C 1 rfl rfl dX4_those_22 ?_
    refine v_icmp_ne C 49 (by decide) dX4_those_23 (fun _ => ?_) (fun _ => ?_)
    · refine v_aload_n C 0 rfl rfl dX4_those_26 ?_
      refine v_getMa C 16 (by decide) (by decide) q1631 rfl dX4_those_27 ?_
      refine v_iload C 4 rfl dX4_those_30 ?_
      refine v_chk (fun h2 => ?_)
      refine v_ialdM C h2 dX4_those_32 ?_
      refine v_iload_n C 2 rfl rfl dX4_those_33 ?_
      refine v_icmp_ne C 49 (by decide) dX4_those_34 (fun _ => ?_) (fun _ => ?_)
      · refine v_iconst C 1 (by decide) dX4_those_37 ?_
        refine v_aload_n C 0 rfl rfl dX4_those_38 ?_
        refine v_getMa C 15 (by decide) (by decide) q1630 rfl dX4_those_39 ?_
        refine v_iload C 4 rfl dX4_those_42 ?_
        refine v_chk (fun h3 => ?_)
        refine v_ialdM C h3 dX4_those_44 ?_
        refine v_ishl C dX4_those_45 ?_
        refine v_goto C 50 (by decide) dX4_those_46 ?_
        refine v_ior C dX4_those_50 ?_
        refine v_topi (fun v4 => ?_)
        refine v_istore_n C [(3, .int v4), (0, .ref g.1), (1, .int p1), (2, .int p2), (4, .int x4)] rfl (by decide) rfl dX4_those_51 ?_
        refine v_iinc C 1 [(4, .int (x4 + 1)), (3, .int v4), (0, .ref g.1), (1, .int p1), (2, .int p2)] 4 rfl (by decide) (by decide) rfl dX4_those_52 ?_
        refine v_goto C 5 (by decide) dX4_those_55 ?_
        refine v_sub [2, 3, 4, 1, 0] rfl ?_
        exact hk v4 (x4 + 1) u
      · refine v_iconst C 0 (by decide) dX4_those_49 ?_
        refine v_ior C dX4_those_50 ?_
        refine v_topi (fun v3 => ?_)
        refine v_istore_n C [(3, .int v3), (0, .ref g.1), (1, .int p1), (2, .int p2), (4, .int x4)] rfl (by decide) rfl dX4_those_51 ?_
        refine v_iinc C 1 [(4, .int (x4 + 1)), (3, .int v3), (0, .ref g.1), (1, .int p1), (2, .int p2)] 4 rfl (by decide) (by decide) rfl dX4_those_52 ?_
        refine v_goto C 5 (by decide) dX4_those_55 ?_
        refine v_sub [2, 3, 4, 1, 0] rfl ?_
        exact hk v3 (x4 + 1) u
    · refine v_iconst C 0 (by decide) dX4_those_49 ?_
      refine v_ior C dX4_those_50 ?_
      refine v_topi (fun v2 => ?_)
      refine v_istore_n C [(3, .int v2), (0, .ref g.1), (1, .int p1), (2, .int p2), (4, .int x4)] rfl (by decide) rfl dX4_those_51 ?_
      refine v_iinc C 1 [(4, .int (x4 + 1)), (3, .int v2), (0, .ref g.1), (1, .int p1), (2, .int p2)] 4 rfl (by decide) (by decide) rfl dX4_those_52 ?_
      refine v_goto C 5 (by decide) dX4_those_55 ?_
      refine v_sub [2, 3, 4, 1, 0] rfl ?_
      exact hk v2 (x4 + 1) u
def f4_those (p1 : Int32) (p2 : Int32) (u : MS) : Option (Int32 × MS) :=
  ml2 (f4_those_5 p1 p2) FUEL 0 0 u
theorem ct4_those (t : TT) (g : GM) (l : Launch) (p1 : Int32) (p2 : Int32) (u : MS) : CtM mkI t g l yX4_those cX4_those 5 (some .int) LV_those [.ref g.1, .int p1, .int p2] u (f4_those p1 p2 u) := by
  refine ctM_of [(0, .ref g.1), (1, .int p1), (2, .int p2)] rfl (Nat.le_of_ble_eq_true rfl) rfl (fun p e s m args below meth c C => ?_)
  unfold f4_those
  refine v_iconst C 0 (by decide) dX4_those_0 ?_
  refine v_istore_n C [(3, .int 0), (0, .ref g.1), (1, .int p1), (2, .int p2)] rfl (by decide) rfl dX4_those_1 ?_
  refine v_iconst C 0 (by decide) dX4_those_2 ?_
  refine v_istore C [(4, .int 0), (3, .int 0), (0, .ref g.1), (1, .int p1), (2, .int p2)] (by decide) rfl dX4_those_3 ?_
  refine v_sub [2, 3, 4, 1, 0] rfl ?_
  exact w4_those_5 C p1 p2 FUEL 0 0 u
theorem cw4_those {t : TT} {p : Program} {s : State} {m : MethodId} {args : Array Value} {meth : Method} {c : Code} {y0 : MethodName} {cc0 : ByteArray} {nL0 : Nat} {ret0 : Option FieldType} (C : Cx t p s m args meth c y0 cc0 nL0 ret0) {index lv : Nat} (hq : Cond.methodLink y0.cls index yX4_those ∈ lw_all) (hR : LV_those + 1 ≤ lv) : CallW (rmM lv) s args y0.cls RX4 index yX4_those cX4_those 5 (some .int) (ws_ yX4_those cX4_those 5 (some .int)) (rmM LV_those) 0 0 2 :=
  cwV 2 C.2.2.2.2.1 (lw_V hq q2070 qs88 q127 q2071) rfl rfl rfl (by decide +kernel) ⟨hR, by show 8 + (5 + 11) + 100 * LV_those ≤ 100 * lv; omega⟩
abbrev LV_master : Nat := 2
def f4_master_66 (p1 : Int32) (p2 : Int32) (k : Int32 → Int32 → MS → Option (Int32 × MS)) (x3 : Int32) (x4 : Int32) (u : MS) : Option (Int32 × MS) :=
  if (u.1 4) ≤ x4 then
    some (x3, u)
  else
    mchk (inbM (13 + x4) 54) <|
    if (u.2.1 54 (13 + x4).toNatClampNeg) = p1 then
      mlet (x3 ||| (1 <<< (x4 &&& 31))) fun v2 =>
      k v2 (x4 + 1) u
    else
      mlet (x3 ||| 0) fun v2 =>
      k v2 (x4 + 1) u
theorem w4_master_66 {p : Program} {e : Env} {s : State} {m : MethodId} {args : Array Value} {below : List Frame} {meth : Method} {c : Code} (C : Cx t p s m args meth c yX4_master cX4_master 5 (some .int)) (p1 : Int32) (p2 : Int32) (n : Nat) (x3 : Int32) (x4 : Int32) (u : MS) : VM mkI t g p l e LV_master s m args below meth c 5 66 [(0, .ref g.1), (1, .int p1), (3, .int x3), (4, .int x4)] [] u (ml2 (f4_master_66 p1 p2) n x3 x4 u) := by
  refine vl2 (L := fun x3 x4 => [(0, .ref g.1), (1, .int p1), (3, .int x3), (4, .int x4)]) (fun k hk x3 x4 u => ?_) n x3 x4 u
  unfold f4_master_66
  refine v_iload C 3 rfl dX4_master_66 ?_
  refine v_aload_n C 0 rfl rfl dX4_master_68 ?_
  refine v_getMi C 4 (by decide) (by decide) q1619 rfl dX4_master_69 ?_
  refine v_icmp_ge C 106 (by decide) dX4_master_72 (fun _ => ?_) (fun _ => ?_)
  · refine v_iload_n C 2 rfl rfl dX4_master_106 ?_
    exact v_iretM C dX4_master_107
  · refine v_iload_n C 2 rfl rfl dX4_master_75 ?_
    refine v_aload_n C 0 rfl rfl dX4_master_76 ?_
    refine v_getMa C 54 (by decide) (by decide) q1669 rfl dX4_master_77 ?_
    refine v_bipush C 13 (by decide) dX4_master_80 ?_
    refine v_iload C 3 rfl dX4_master_82 ?_
    refine v_iadd C dX4_master_84 ?_
    refine v_chk (fun h1 => ?_)
    refine v_ialdM C h1 dX4_master_85 ?_
    refine v_iload_n C 1 rfl rfl dX4_master_86 ?_
    refine v_icmp_ne C 97 (by decide) dX4_master_87 (fun _ => ?_) (fun _ => ?_)
    · refine v_iconst C 1 (by decide) dX4_master_90 ?_
      refine v_iload C 3 rfl dX4_master_91 ?_
      refine v_ishl C dX4_master_93 ?_
      refine v_goto C 98 (by decide) dX4_master_94 ?_
      refine v_ior C dX4_master_98 ?_
      refine v_topi (fun v2 => ?_)
      refine v_istore_n C [(3, .int v2), (0, .ref g.1), (1, .int p1), (4, .int x4)] rfl (by decide) rfl dX4_master_99 ?_
      refine v_iinc C 1 [(4, .int (x4 + 1)), (3, .int v2), (0, .ref g.1), (1, .int p1)] 3 rfl (by decide) (by decide) rfl dX4_master_100 ?_
      refine v_goto C 66 (by decide) dX4_master_103 ?_
      refine v_sub [2, 3, 1, 0] rfl ?_
      exact hk v2 (x4 + 1) u
    · refine v_iconst C 0 (by decide) dX4_master_97 ?_
      refine v_ior C dX4_master_98 ?_
      refine v_topi (fun v2 => ?_)
      refine v_istore_n C [(3, .int v2), (0, .ref g.1), (1, .int p1), (4, .int x4)] rfl (by decide) rfl dX4_master_99 ?_
      refine v_iinc C 1 [(4, .int (x4 + 1)), (3, .int v2), (0, .ref g.1), (1, .int p1)] 3 rfl (by decide) (by decide) rfl dX4_master_100 ?_
      refine v_goto C 66 (by decide) dX4_master_103 ?_
      refine v_sub [2, 3, 1, 0] rfl ?_
      exact hk v2 (x4 + 1) u
def f4_master_57 (p1 : Int32) (p2 : Int32) (s1 : Int32) (s2 : Int32) (u : MS) : Option (Int32 × MS) :=
  mb (f4_those s1 s2 u) fun r2 u1 =>
  some (r2, u1)
theorem w4_master_57 {p : Program} {e : Env} {s : State} {m : MethodId} {args : Array Value} {below : List Frame} {meth : Method} {c : Code} (C : Cx t p s m args meth c yX4_master cX4_master 5 (some .int)) (p1 : Int32) (p2 : Int32) (s1 : Int32) (s2 : Int32) (u : MS) : VM mkI t g p l e LV_master s m args below meth c 5 57 [] [.int s2, .int s1, .ref g.1] u (f4_master_57 p1 p2 s1 s2 u) := by
  unfold f4_master_57
  refine v_callVM C [.int s1, .int s2] [] (ct4_those t g l s1 s2 u) (cw4_those C q2068 (by decide)) rfl rfl (Nat.le_of_ble_eq_true rfl) dX4_master_57 (fun r2 u1 => ?_)
  exact v_iretM C dX4_master_60
def f4_master (p1 : Int32) (p2 : Int32) (u : MS) : Option (Int32 × MS) :=
  mlet (mS u 0 0) fun u1 =>
  mb (f4_isMaster p1 u1) fun r3 u2 =>
  if r3 = 0 then
    some (0, u2)
  else
    mb (f4_isWhat p2 3 u2) fun r5 u4 =>
    if r5 = 0 then
      some (0, u4)
    else
      if 3 ≤ p2 then
        ml2 (f4_master_66 p1 p2) FUEL 0 0 u4
      else
        if p2 = 0 then
          mchk (inbM (31 + p1) 54) <|
          some ((u4.2.1 54 (31 + p1).toNatClampNeg), u4)
        else
          if p2 = 1 then
            f4_master_57 p1 p2 p1 1 u4
          else
            f4_master_57 p1 p2 p1 0 u4
theorem ct4_master (t : TT) (g : GM) (l : Launch) (p1 : Int32) (p2 : Int32) (u : MS) : CtM mkI t g l yX4_master cX4_master 5 (some .int) LV_master [.ref g.1, .int p1, .int p2] u (f4_master p1 p2 u) := by
  refine ctM_of [(0, .ref g.1), (1, .int p1), (2, .int p2)] rfl (Nat.le_of_ble_eq_true rfl) rfl (fun p e s m args below meth c C => ?_)
  unfold f4_master
  refine v_aload_n C 0 rfl rfl dX4_master_0 ?_
  refine v_iconst C 0 (by decide) dX4_master_1 ?_
  refine v_putMi C 0 (by decide) (by decide) q1615 rfl rfl (by decide +kernel) dX4_master_2 (fun u1 => ?_)
  refine v_aload_n C 0 rfl rfl dX4_master_5 ?_
  refine v_iload_n C 1 rfl rfl dX4_master_6 ?_
  refine v_callVM C [.int p1] [] (ct4_isMaster t g l p1 u1) (cw4_isMaster C q2060 (by decide)) rfl rfl (Nat.le_of_ble_eq_true rfl) dX4_master_7 (fun r3 u2 => ?_)
  refine v_if_eq C 22 (by decide) dX4_master_10 (fun _ => ?_) (fun _ => ?_)
  · refine v_iconst C 0 (by decide) dX4_master_22 ?_
    exact v_iretM C dX4_master_23
  · refine v_aload_n C 0 rfl rfl dX4_master_13 ?_
    refine v_iload_n C 2 rfl rfl dX4_master_14 ?_
    refine v_iconst C 3 (by decide) dX4_master_15 ?_
    refine v_callVM C [.int p2, .int 3] [] (ct4_isWhat t g l p2 3 u2) (cw4_isWhat C q2064 (by decide)) rfl rfl (Nat.le_of_ble_eq_true rfl) dX4_master_16 (fun r5 u4 => ?_)
    refine v_if_ne C 24 (by decide) dX4_master_19 (fun _ => ?_) (fun _ => ?_)
    · refine v_iconst C 0 (by decide) dX4_master_22 ?_
      exact v_iretM C dX4_master_23
    · refine v_iload_n C 2 rfl rfl dX4_master_24 ?_
      refine v_iconst C 3 (by decide) dX4_master_25 ?_
      refine v_icmp_ge C 61 (by decide) dX4_master_26 (fun _ => ?_) (fun _ => ?_)
      · refine v_iconst C 0 (by decide) dX4_master_61 ?_
        refine v_istore_n C [(3, .int 0), (0, .ref g.1), (1, .int p1), (2, .int p2)] rfl (by decide) rfl dX4_master_62 ?_
        refine v_iconst C 0 (by decide) dX4_master_63 ?_
        refine v_istore C [(4, .int 0), (3, .int 0), (0, .ref g.1), (1, .int p1), (2, .int p2)] (by decide) rfl dX4_master_64 ?_
        refine v_sub [2, 3, 1, 0] rfl ?_
        exact w4_master_66 C p1 p2 FUEL 0 0 u4
      · refine v_iload_n C 2 rfl rfl dX4_master_29 ?_
        refine v_if_ne C 45 (by decide) dX4_master_30 (fun _ => ?_) (fun _ => ?_)
        · refine v_aload_n C 0 rfl rfl dX4_master_33 ?_
          refine v_getMa C 54 (by decide) (by decide) q1669 rfl dX4_master_34 ?_
          refine v_bipush C 31 (by decide) dX4_master_37 ?_
          refine v_iload_n C 1 rfl rfl dX4_master_39 ?_
          refine v_iadd C dX4_master_40 ?_
          refine v_chk (fun h6 => ?_)
          refine v_ialdM C h6 dX4_master_41 ?_
          refine v_goto C 60 (by decide) dX4_master_42 ?_
          exact v_iretM C dX4_master_60
        · refine v_aload_n C 0 rfl rfl dX4_master_45 ?_
          refine v_iload_n C 1 rfl rfl dX4_master_46 ?_
          refine v_iload_n C 2 rfl rfl dX4_master_47 ?_
          refine v_iconst C 1 (by decide) dX4_master_48 ?_
          refine v_icmp_ne C 56 (by decide) dX4_master_49 (fun _ => ?_) (fun _ => ?_)
          · refine v_iconst C 1 (by decide) dX4_master_52 ?_
            refine v_goto C 57 (by decide) dX4_master_53 ?_
            refine v_sub [] rfl ?_
            exact w4_master_57 C p1 p2 p1 1 u4
          · refine v_iconst C 0 (by decide) dX4_master_56 ?_
            refine v_sub [] rfl ?_
            exact w4_master_57 C p1 p2 p1 0 u4
theorem cw4_master {t : TT} {p : Program} {s : State} {m : MethodId} {args : Array Value} {meth : Method} {c : Code} {y0 : MethodName} {cc0 : ByteArray} {nL0 : Nat} {ret0 : Option FieldType} (C : Cx t p s m args meth c y0 cc0 nL0 ret0) {index lv : Nat} (hq : Cond.methodLink y0.cls index yX4_master ∈ lw_all) (hR : LV_master + 1 ≤ lv) : CallW (rmM lv) s args y0.cls RX4 index yX4_master cX4_master 5 (some .int) (ws_ yX4_master cX4_master 5 (some .int)) (rmM LV_master) 0 0 2 :=
  cwV 2 C.2.2.2.2.1 (lw_V hq q2057 q2058 q127 q2059) rfl rfl rfl (by decide +kernel) ⟨hR, by show 8 + (5 + 11) + 100 * LV_master ≤ 100 * lv; omega⟩
abbrev LV_isPlace : Nat := 1
def f4_isPlace_18 (p1 : Int32) (s1 : Int32) (u : MS) : Option (Int32 × MS) :=
  mb (f4_right s1 1 u) fun r2 u1 =>
  rz r2 u1
theorem w4_isPlace_18 {p : Program} {e : Env} {s : State} {m : MethodId} {args : Array Value} {below : List Frame} {meth : Method} {c : Code} (C : Cx t p s m args meth c yX4_isPlace cX4_isPlace 2 (some .boolean)) (p1 : Int32) (s1 : Int32) (u : MS) : VM mkI t g p l e LV_isPlace s m args below meth c 2 18 [] [.int s1, .ref g.1] u (f4_isPlace_18 p1 s1 u) := by
  unfold f4_isPlace_18
  refine v_iconst C 1 (by decide) dX4_isPlace_18 ?_
  refine v_callVM C [.int s1, .int 1] [] (ct4_right t g l s1 1 u) (cw4_right C q1894 (by decide)) rfl rfl (Nat.le_of_ble_eq_true rfl) dX4_isPlace_19 (fun r2 u1 => ?_)
  exact v_zretM C dX4_isPlace_22
def f4_isPlace (p1 : Int32) (u : MS) : Option (Int32 × MS) :=
  if p1 < 0 then
    f4_isPlace_18 p1 0 u
  else
    if (u.1 2) ≤ p1 then
      f4_isPlace_18 p1 0 u
    else
      f4_isPlace_18 p1 1 u
theorem ct4_isPlace (t : TT) (g : GM) (l : Launch) (p1 : Int32) (u : MS) : CtM mkI t g l yX4_isPlace cX4_isPlace 2 (some .boolean) LV_isPlace [.ref g.1, .int p1] u (f4_isPlace p1 u) := by
  refine ctM_of [(0, .ref g.1), (1, .int p1)] rfl (Nat.le_of_ble_eq_true rfl) rfl (fun p e s m args below meth c C => ?_)
  unfold f4_isPlace
  refine v_aload_n C 0 rfl rfl dX4_isPlace_0 ?_
  refine v_iload_n C 1 rfl rfl dX4_isPlace_1 ?_
  refine v_if_lt C 17 (by decide) dX4_isPlace_2 (fun _ => ?_) (fun _ => ?_)
  · refine v_iconst C 0 (by decide) dX4_isPlace_17 ?_
    refine v_sub [] rfl ?_
    exact w4_isPlace_18 C p1 0 u
  · refine v_iload_n C 1 rfl rfl dX4_isPlace_5 ?_
    refine v_aload_n C 0 rfl rfl dX4_isPlace_6 ?_
    refine v_getMi C 2 (by decide) (by decide) q1617 rfl dX4_isPlace_7 ?_
    refine v_icmp_ge C 17 (by decide) dX4_isPlace_10 (fun _ => ?_) (fun _ => ?_)
    · refine v_iconst C 0 (by decide) dX4_isPlace_17 ?_
      refine v_sub [] rfl ?_
      exact w4_isPlace_18 C p1 0 u
    · refine v_iconst C 1 (by decide) dX4_isPlace_13 ?_
      refine v_goto C 18 (by decide) dX4_isPlace_14 ?_
      refine v_sub [] rfl ?_
      exact w4_isPlace_18 C p1 1 u
theorem cw4_isPlace {t : TT} {p : Program} {s : State} {m : MethodId} {args : Array Value} {meth : Method} {c : Code} {y0 : MethodName} {cc0 : ByteArray} {nL0 : Nat} {ret0 : Option FieldType} (C : Cx t p s m args meth c y0 cc0 nL0 ret0) {index lv : Nat} (hq : Cond.methodLink y0.cls index yX4_isPlace ∈ lw_all) (hR : LV_isPlace + 1 ≤ lv) : CallW (rmM lv) s args y0.cls RX4 index yX4_isPlace cX4_isPlace 2 (some .boolean) (ws_ yX4_isPlace cX4_isPlace 2 (some .boolean)) (rmM LV_isPlace) 0 0 1 :=
  cwV 1 C.2.2.2.2.1 (lw_V hq q2078 qs89 q127 q2079) rfl rfl rfl (by decide +kernel) ⟨hR, by show 8 + (2 + 11) + 100 * LV_isPlace ≤ 100 * lv; omega⟩
abbrev LV_place : Nat := 2
def f4_place_88 (p1 : Int32) (p2 : Int32) (k : Int32 → Int32 → MS → Option (Int32 × MS)) (x3 : Int32) (x4 : Int32) (u : MS) : Option (Int32 × MS) :=
  if (u.1 3) ≤ x4 then
    some (x3, u)
  else
    if p2 = 2 then
      mchk (inbM x4 9) <|
      if (u.2.1 9 x4.toNatClampNeg) = p1 then
        mlet (x3 + 1) fun v2 =>
        k v2 (x4 + 1) u
      else
        mchk (inbM x4 10) <|
        if (u.2.1 10 x4.toNatClampNeg) = p1 then
          mlet (x3 + 1) fun v3 =>
          k v3 (x4 + 1) u
        else
          mlet (x3 + 0) fun v3 =>
          k v3 (x4 + 1) u
    else
      some (x3, u)
theorem w4_place_88 {p : Program} {e : Env} {s : State} {m : MethodId} {args : Array Value} {below : List Frame} {meth : Method} {c : Code} (C : Cx t p s m args meth c yX4_place cX4_place 5 (some .int)) (p1 : Int32) (p2 : Int32) (n : Nat) (x3 : Int32) (x4 : Int32) (u : MS) : VM mkI t g p l e LV_place s m args below meth c 5 88 [(0, .ref g.1), (1, .int p1), (2, .int p2), (3, .int x3), (4, .int x4)] [] u (ml2 (f4_place_88 p1 p2) n x3 x4 u) := by
  refine vl2 (L := fun x3 x4 => [(0, .ref g.1), (1, .int p1), (2, .int p2), (3, .int x3), (4, .int x4)]) (fun k hk x3 x4 u => ?_) n x3 x4 u
  unfold f4_place_88
  refine v_iload C 4 rfl dX4_place_88 ?_
  refine v_aload_n C 0 rfl rfl dX4_place_90 ?_
  refine v_getMi C 3 (by decide) (by decide) q1618 rfl dX4_place_91 ?_
  refine v_icmp_ge C 138 (by decide) dX4_place_94 (fun _ => ?_) (fun _ => ?_)
  · refine v_iload_n C 3 rfl rfl dX4_place_138 ?_
    exact v_iretM C dX4_place_139
  · refine v_iload_n C 2 rfl rfl dX4_place_97 ?_
    refine v_iconst C 2 (by decide) dX4_place_98 ?_
    refine v_icmp_ne C 138 (by decide) dX4_place_99 (fun _ => ?_) (fun _ => ?_)
    · refine v_iload_n C 3 rfl rfl dX4_place_102 ?_
      refine v_aload_n C 0 rfl rfl dX4_place_103 ?_
      refine v_getMa C 9 (by decide) (by decide) q1624 rfl dX4_place_104 ?_
      refine v_iload C 4 rfl dX4_place_107 ?_
      refine v_chk (fun h1 => ?_)
      refine v_ialdM C h1 dX4_place_109 ?_
      refine v_iload_n C 1 rfl rfl dX4_place_110 ?_
      refine v_icmp_eq C 125 (by decide) dX4_place_111 (fun _ => ?_) (fun _ => ?_)
      · refine v_iconst C 1 (by decide) dX4_place_125 ?_
        refine v_goto C 130 (by decide) dX4_place_126 ?_
        refine v_iadd C dX4_place_130 ?_
        refine v_topi (fun v2 => ?_)
        refine v_istore_n C [(3, .int v2), (0, .ref g.1), (1, .int p1), (2, .int p2), (4, .int x4)] rfl (by decide) rfl dX4_place_131 ?_
        refine v_iinc C 1 [(4, .int (x4 + 1)), (3, .int v2), (0, .ref g.1), (1, .int p1), (2, .int p2)] 4 rfl (by decide) (by decide) rfl dX4_place_132 ?_
        refine v_goto C 88 (by decide) dX4_place_135 ?_
        refine v_sub [2, 3, 4, 1, 0] rfl ?_
        exact hk v2 (x4 + 1) u
      · refine v_aload_n C 0 rfl rfl dX4_place_114 ?_
        refine v_getMa C 10 (by decide) (by decide) q1625 rfl dX4_place_115 ?_
        refine v_iload C 4 rfl dX4_place_118 ?_
        refine v_chk (fun h2 => ?_)
        refine v_ialdM C h2 dX4_place_120 ?_
        refine v_iload_n C 1 rfl rfl dX4_place_121 ?_
        refine v_icmp_ne C 129 (by decide) dX4_place_122 (fun _ => ?_) (fun _ => ?_)
        · refine v_iconst C 1 (by decide) dX4_place_125 ?_
          refine v_goto C 130 (by decide) dX4_place_126 ?_
          refine v_iadd C dX4_place_130 ?_
          refine v_topi (fun v3 => ?_)
          refine v_istore_n C [(3, .int v3), (0, .ref g.1), (1, .int p1), (2, .int p2), (4, .int x4)] rfl (by decide) rfl dX4_place_131 ?_
          refine v_iinc C 1 [(4, .int (x4 + 1)), (3, .int v3), (0, .ref g.1), (1, .int p1), (2, .int p2)] 4 rfl (by decide) (by decide) rfl dX4_place_132 ?_
          refine v_goto C 88 (by decide) dX4_place_135 ?_
          refine v_sub [2, 3, 4, 1, 0] rfl ?_
          exact hk v3 (x4 + 1) u
        · refine v_iconst C 0 (by decide) dX4_place_129 ?_
          refine v_iadd C dX4_place_130 ?_
          refine v_topi (fun v3 => ?_)
          refine v_istore_n C [(3, .int v3), (0, .ref g.1), (1, .int p1), (2, .int p2), (4, .int x4)] rfl (by decide) rfl dX4_place_131 ?_
          refine v_iinc C 1 [(4, .int (x4 + 1)), (3, .int v3), (0, .ref g.1), (1, .int p1), (2, .int p2)] 4 rfl (by decide) (by decide) rfl dX4_place_132 ?_
          refine v_goto C 88 (by decide) dX4_place_135 ?_
          refine v_sub [2, 3, 4, 1, 0] rfl ?_
          exact hk v3 (x4 + 1) u
    · refine v_iload_n C 3 rfl rfl dX4_place_138 ?_
      exact v_iretM C dX4_place_139
def f4_place_40 (p1 : Int32) (p2 : Int32) (k : Int32 → Int32 → MS → Option (Int32 × MS)) (x3 : Int32) (x4 : Int32) (u : MS) : Option (Int32 × MS) :=
  if (u.1 4) ≤ x4 then
    ml2 (f4_place_88 p1 p2) FUEL x3 0 u
  else
    if p2 = 1 then
      mchk (inbM (22 + x4) 54) <|
      if (u.2.1 54 (22 + x4).toNatClampNeg) = p1 then
        mlet (x3 ||| (1 <<< (x4 &&& 31))) fun v2 =>
        k v2 (x4 + 1) u
      else
        mlet (x3 ||| 0) fun v2 =>
        k v2 (x4 + 1) u
    else
      ml2 (f4_place_88 p1 p2) FUEL x3 0 u
theorem w4_place_40 {p : Program} {e : Env} {s : State} {m : MethodId} {args : Array Value} {below : List Frame} {meth : Method} {c : Code} (C : Cx t p s m args meth c yX4_place cX4_place 5 (some .int)) (p1 : Int32) (p2 : Int32) (n : Nat) (x3 : Int32) (x4 : Int32) (u : MS) : VM mkI t g p l e LV_place s m args below meth c 5 40 [(0, .ref g.1), (1, .int p1), (2, .int p2), (3, .int x3), (4, .int x4)] [] u (ml2 (f4_place_40 p1 p2) n x3 x4 u) := by
  refine vl2 (L := fun x3 x4 => [(0, .ref g.1), (1, .int p1), (2, .int p2), (3, .int x3), (4, .int x4)]) (fun k hk x3 x4 u => ?_) n x3 x4 u
  unfold f4_place_40
  refine v_iload C 4 rfl dX4_place_40 ?_
  refine v_aload_n C 0 rfl rfl dX4_place_42 ?_
  refine v_getMi C 4 (by decide) (by decide) q1619 rfl dX4_place_43 ?_
  refine v_icmp_ge C 85 (by decide) dX4_place_46 (fun _ => ?_) (fun _ => ?_)
  · refine v_iconst C 0 (by decide) dX4_place_85 ?_
    refine v_istore C [(4, .int 0), (0, .ref g.1), (1, .int p1), (2, .int p2), (3, .int x3)] (by decide) rfl dX4_place_86 ?_
    refine v_sub [1, 2, 3, 4, 0] rfl ?_
    exact w4_place_88 C p1 p2 FUEL x3 0 u
  · refine v_iload_n C 2 rfl rfl dX4_place_49 ?_
    refine v_iconst C 1 (by decide) dX4_place_50 ?_
    refine v_icmp_ne C 85 (by decide) dX4_place_51 (fun _ => ?_) (fun _ => ?_)
    · refine v_iload_n C 3 rfl rfl dX4_place_54 ?_
      refine v_aload_n C 0 rfl rfl dX4_place_55 ?_
      refine v_getMa C 54 (by decide) (by decide) q1669 rfl dX4_place_56 ?_
      refine v_bipush C 22 (by decide) dX4_place_59 ?_
      refine v_iload C 4 rfl dX4_place_61 ?_
      refine v_iadd C dX4_place_63 ?_
      refine v_chk (fun h1 => ?_)
      refine v_ialdM C h1 dX4_place_64 ?_
      refine v_iload_n C 1 rfl rfl dX4_place_65 ?_
      refine v_icmp_ne C 76 (by decide) dX4_place_66 (fun _ => ?_) (fun _ => ?_)
      · refine v_iconst C 1 (by decide) dX4_place_69 ?_
        refine v_iload C 4 rfl dX4_place_70 ?_
        refine v_ishl C dX4_place_72 ?_
        refine v_goto C 77 (by decide) dX4_place_73 ?_
        refine v_ior C dX4_place_77 ?_
        refine v_topi (fun v2 => ?_)
        refine v_istore_n C [(3, .int v2), (0, .ref g.1), (1, .int p1), (2, .int p2), (4, .int x4)] rfl (by decide) rfl dX4_place_78 ?_
        refine v_iinc C 1 [(4, .int (x4 + 1)), (3, .int v2), (0, .ref g.1), (1, .int p1), (2, .int p2)] 4 rfl (by decide) (by decide) rfl dX4_place_79 ?_
        refine v_goto C 40 (by decide) dX4_place_82 ?_
        refine v_sub [2, 3, 4, 1, 0] rfl ?_
        exact hk v2 (x4 + 1) u
      · refine v_iconst C 0 (by decide) dX4_place_76 ?_
        refine v_ior C dX4_place_77 ?_
        refine v_topi (fun v2 => ?_)
        refine v_istore_n C [(3, .int v2), (0, .ref g.1), (1, .int p1), (2, .int p2), (4, .int x4)] rfl (by decide) rfl dX4_place_78 ?_
        refine v_iinc C 1 [(4, .int (x4 + 1)), (3, .int v2), (0, .ref g.1), (1, .int p1), (2, .int p2)] 4 rfl (by decide) (by decide) rfl dX4_place_79 ?_
        refine v_goto C 40 (by decide) dX4_place_82 ?_
        refine v_sub [2, 3, 4, 1, 0] rfl ?_
        exact hk v2 (x4 + 1) u
    · refine v_iconst C 0 (by decide) dX4_place_85 ?_
      refine v_istore C [(4, .int 0), (0, .ref g.1), (1, .int p1), (2, .int p2), (3, .int x3)] (by decide) rfl dX4_place_86 ?_
      refine v_sub [1, 2, 3, 4, 0] rfl ?_
      exact w4_place_88 C p1 p2 FUEL x3 0 u
def f4_place (p1 : Int32) (p2 : Int32) (u : MS) : Option (Int32 × MS) :=
  mlet (mS u 0 0) fun u1 =>
  mb (f4_isPlace p1 u1) fun r3 u2 =>
  if r3 = 0 then
    some (0, u2)
  else
    mb (f4_isWhat p2 2 u2) fun r5 u4 =>
    if r5 = 0 then
      some (0, u4)
    else
      if p2 = 0 then
        mchk (inbM p1 8) <|
        some ((u4.2.1 8 p1.toNatClampNeg), u4)
      else
        ml2 (f4_place_40 p1 p2) FUEL 0 0 u4
theorem ct4_place (t : TT) (g : GM) (l : Launch) (p1 : Int32) (p2 : Int32) (u : MS) : CtM mkI t g l yX4_place cX4_place 5 (some .int) LV_place [.ref g.1, .int p1, .int p2] u (f4_place p1 p2 u) := by
  refine ctM_of [(0, .ref g.1), (1, .int p1), (2, .int p2)] rfl (Nat.le_of_ble_eq_true rfl) rfl (fun p e s m args below meth c C => ?_)
  unfold f4_place
  refine v_aload_n C 0 rfl rfl dX4_place_0 ?_
  refine v_iconst C 0 (by decide) dX4_place_1 ?_
  refine v_putMi C 0 (by decide) (by decide) q1615 rfl rfl (by decide +kernel) dX4_place_2 (fun u1 => ?_)
  refine v_aload_n C 0 rfl rfl dX4_place_5 ?_
  refine v_iload_n C 1 rfl rfl dX4_place_6 ?_
  refine v_callVM C [.int p1] [] (ct4_isPlace t g l p1 u1) (cw4_isPlace C q2076 (by decide)) rfl rfl (Nat.le_of_ble_eq_true rfl) dX4_place_7 (fun r3 u2 => ?_)
  refine v_if_eq C 22 (by decide) dX4_place_10 (fun _ => ?_) (fun _ => ?_)
  · refine v_iconst C 0 (by decide) dX4_place_22 ?_
    exact v_iretM C dX4_place_23
  · refine v_aload_n C 0 rfl rfl dX4_place_13 ?_
    refine v_iload_n C 2 rfl rfl dX4_place_14 ?_
    refine v_iconst C 2 (by decide) dX4_place_15 ?_
    refine v_callVM C [.int p2, .int 2] [] (ct4_isWhat t g l p2 2 u2) (cw4_isWhat C q2064 (by decide)) rfl rfl (Nat.le_of_ble_eq_true rfl) dX4_place_16 (fun r5 u4 => ?_)
    refine v_if_ne C 24 (by decide) dX4_place_19 (fun _ => ?_) (fun _ => ?_)
    · refine v_iconst C 0 (by decide) dX4_place_22 ?_
      exact v_iretM C dX4_place_23
    · refine v_iload_n C 2 rfl rfl dX4_place_24 ?_
      refine v_if_ne C 35 (by decide) dX4_place_25 (fun _ => ?_) (fun _ => ?_)
      · refine v_aload_n C 0 rfl rfl dX4_place_28 ?_
        refine v_getMa C 8 (by decide) (by decide) q1623 rfl dX4_place_29 ?_
        refine v_iload_n C 1 rfl rfl dX4_place_32 ?_
        refine v_chk (fun h6 => ?_)
        refine v_ialdM C h6 dX4_place_33 ?_
        exact v_iretM C dX4_place_34
      · refine v_iconst C 0 (by decide) dX4_place_35 ?_
        refine v_istore_n C [(3, .int 0), (0, .ref g.1), (1, .int p1), (2, .int p2)] rfl (by decide) rfl dX4_place_36 ?_
        refine v_iconst C 0 (by decide) dX4_place_37 ?_
        refine v_istore C [(4, .int 0), (3, .int 0), (0, .ref g.1), (1, .int p1), (2, .int p2)] (by decide) rfl dX4_place_38 ?_
        refine v_sub [2, 3, 4, 1, 0] rfl ?_
        exact w4_place_40 C p1 p2 FUEL 0 0 u4
theorem cw4_place {t : TT} {p : Program} {s : State} {m : MethodId} {args : Array Value} {meth : Method} {c : Code} {y0 : MethodName} {cc0 : ByteArray} {nL0 : Nat} {ret0 : Option FieldType} (C : Cx t p s m args meth c y0 cc0 nL0 ret0) {index lv : Nat} (hq : Cond.methodLink y0.cls index yX4_place ∈ lw_all) (hR : LV_place + 1 ≤ lv) : CallW (rmM lv) s args y0.cls RX4 index yX4_place cX4_place 5 (some .int) (ws_ yX4_place cX4_place 5 (some .int)) (rmM LV_place) 0 0 2 :=
  cwV 2 C.2.2.2.2.1 (lw_V hq q2073 q2074 q127 q2075) rfl rfl rfl (by decide +kernel) ⟨hR, by show 8 + (5 + 11) + 100 * LV_place ≤ 100 * lv; omega⟩
abbrev LV_isPerson : Nat := 1
def f4_isPerson_18 (p1 : Int32) (s1 : Int32) (u : MS) : Option (Int32 × MS) :=
  mb (f4_right s1 1 u) fun r2 u1 =>
  rz r2 u1
theorem w4_isPerson_18 {p : Program} {e : Env} {s : State} {m : MethodId} {args : Array Value} {below : List Frame} {meth : Method} {c : Code} (C : Cx t p s m args meth c yX4_isPerson cX4_isPerson 2 (some .boolean)) (p1 : Int32) (s1 : Int32) (u : MS) : VM mkI t g p l e LV_isPerson s m args below meth c 2 18 [] [.int s1, .ref g.1] u (f4_isPerson_18 p1 s1 u) := by
  unfold f4_isPerson_18
  refine v_iconst C 1 (by decide) dX4_isPerson_18 ?_
  refine v_callVM C [.int s1, .int 1] [] (ct4_right t g l s1 1 u) (cw4_right C q1894 (by decide)) rfl rfl (Nat.le_of_ble_eq_true rfl) dX4_isPerson_19 (fun r2 u1 => ?_)
  exact v_zretM C dX4_isPerson_22
def f4_isPerson (p1 : Int32) (u : MS) : Option (Int32 × MS) :=
  if p1 < 0 then
    f4_isPerson_18 p1 0 u
  else
    if (u.1 4) ≤ p1 then
      f4_isPerson_18 p1 0 u
    else
      f4_isPerson_18 p1 1 u
theorem ct4_isPerson (t : TT) (g : GM) (l : Launch) (p1 : Int32) (u : MS) : CtM mkI t g l yX4_isPerson cX4_isPerson 2 (some .boolean) LV_isPerson [.ref g.1, .int p1] u (f4_isPerson p1 u) := by
  refine ctM_of [(0, .ref g.1), (1, .int p1)] rfl (Nat.le_of_ble_eq_true rfl) rfl (fun p e s m args below meth c C => ?_)
  unfold f4_isPerson
  refine v_aload_n C 0 rfl rfl dX4_isPerson_0 ?_
  refine v_iload_n C 1 rfl rfl dX4_isPerson_1 ?_
  refine v_if_lt C 17 (by decide) dX4_isPerson_2 (fun _ => ?_) (fun _ => ?_)
  · refine v_iconst C 0 (by decide) dX4_isPerson_17 ?_
    refine v_sub [] rfl ?_
    exact w4_isPerson_18 C p1 0 u
  · refine v_iload_n C 1 rfl rfl dX4_isPerson_5 ?_
    refine v_aload_n C 0 rfl rfl dX4_isPerson_6 ?_
    refine v_getMi C 4 (by decide) (by decide) q1619 rfl dX4_isPerson_7 ?_
    refine v_icmp_ge C 17 (by decide) dX4_isPerson_10 (fun _ => ?_) (fun _ => ?_)
    · refine v_iconst C 0 (by decide) dX4_isPerson_17 ?_
      refine v_sub [] rfl ?_
      exact w4_isPerson_18 C p1 0 u
    · refine v_iconst C 1 (by decide) dX4_isPerson_13 ?_
      refine v_goto C 18 (by decide) dX4_isPerson_14 ?_
      refine v_sub [] rfl ?_
      exact w4_isPerson_18 C p1 1 u
theorem cw4_isPerson {t : TT} {p : Program} {s : State} {m : MethodId} {args : Array Value} {meth : Method} {c : Code} {y0 : MethodName} {cc0 : ByteArray} {nL0 : Nat} {ret0 : Option FieldType} (C : Cx t p s m args meth c y0 cc0 nL0 ret0) {index lv : Nat} (hq : Cond.methodLink y0.cls index yX4_isPerson ∈ lw_all) (hR : LV_isPerson + 1 ≤ lv) : CallW (rmM lv) s args y0.cls RX4 index yX4_isPerson cX4_isPerson 2 (some .boolean) (ws_ yX4_isPerson cX4_isPerson 2 (some .boolean)) (rmM LV_isPerson) 0 0 1 :=
  cwV 1 C.2.2.2.2.1 (lw_V hq q2086 qs90 q127 q2087) rfl rfl rfl (by decide +kernel) ⟨hR, by show 8 + (2 + 11) + 100 * LV_isPerson ≤ 100 * lv; omega⟩
abbrev LV_lesser : Nat := 0
def f4_lesser (p0 : Int32) (p1 : Int32) (u : MS) : Option (Int32 × MS) :=
  if p1 ≤ p0 then
    some (p1, u)
  else
    some (p0, u)
theorem ct4_lesser (t : TT) (g : GM) (l : Launch) (p0 : Int32) (p1 : Int32) (u : MS) : CtM mkI t g l yX4_lesser cX4_lesser 2 (some .int) LV_lesser [.int p0, .int p1] u (f4_lesser p0 p1 u) := by
  refine ctM_of [(0, .int p0), (1, .int p1)] rfl (Nat.le_of_ble_eq_true rfl) rfl (fun p e s m args below meth c C => ?_)
  unfold f4_lesser
  refine v_iload_n C 0 rfl rfl dX4_lesser_0 ?_
  refine v_iload_n C 1 rfl rfl dX4_lesser_1 ?_
  refine v_icmp_ge C 9 (by decide) dX4_lesser_2 (fun _ => ?_) (fun _ => ?_)
  · refine v_iload_n C 1 rfl rfl dX4_lesser_9 ?_
    exact v_iretM C dX4_lesser_10
  · refine v_iload_n C 0 rfl rfl dX4_lesser_5 ?_
    refine v_goto C 10 (by decide) dX4_lesser_6 ?_
    exact v_iretM C dX4_lesser_10
theorem cw4_lesser {t : TT} {p : Program} {s : State} {m : MethodId} {args : Array Value} {meth : Method} {c : Code} {y0 : MethodName} {cc0 : ByteArray} {nL0 : Nat} {ret0 : Option FieldType} (C : Cx t p s m args meth c y0 cc0 nL0 ret0) {index lv : Nat} (hq : Cond.methodLink y0.cls index yX4_lesser ∈ lw_all) (hR : LV_lesser + 1 ≤ lv) : CallB (rmM lv) s args y0.cls index yX4_lesser cX4_lesser 2 (some .int) (ws_ yX4_lesser cX4_lesser 2 (some .int)) (rmM LV_lesser) 0 0 2 ∧ (Cond.static yX4_lesser).before args s = true :=
  ⟨callB_of 2 C.2.2.2.2.1 (lw_meth q2094) rfl rfl rfl (C.2.2.2.2.1 _ q127) (C.2.2.2.2.1 _ hq) (by decide +kernel) ⟨hR, by show 8 + (2 + 11) + 100 * LV_lesser ≤ 100 * lv; omega⟩, C.2.2.2.2.1 _ q2093⟩
abbrev LV_saleOf : Nat := 1
def f4_saleOf (p1 : Nat) (p2 : Int32) (u : MS) : Option (Int32 × MS) :=
  mchk (inbM p2 12) <|
  mchk (inbM 2 p1) <|
  mb (f4_lesser 9 (u.2.1 p1 (2 : Int32).toNatClampNeg) u) fun r4 u3 =>
  some ((((u.2.1 12 p2.toNatClampNeg) * (10 - r4)) / 10), u3)
theorem ct4_saleOf (t : TT) (g : GM) (l : Launch) (p1 : Nat) (p2 : Int32) (u : MS) : CtM mkI t g l yX4_saleOf cX4_saleOf 3 (some .int) LV_saleOf [.ref g.1, .ref (g.2 p1), .int p2] u (f4_saleOf p1 p2 u) := by
  refine ctM_of [(0, .ref g.1), (1, .ref (g.2 p1)), (2, .int p2)] rfl (Nat.le_of_ble_eq_true rfl) rfl (fun p e s m args below meth c C => ?_)
  unfold f4_saleOf
  refine v_aload_n C 0 rfl rfl dX4_saleOf_0 ?_
  refine v_getMa C 12 (by decide) (by decide) q1627 rfl dX4_saleOf_1 ?_
  refine v_iload_n C 2 rfl rfl dX4_saleOf_4 ?_
  refine v_chk (fun h1 => ?_)
  refine v_ialdM C h1 dX4_saleOf_5 ?_
  refine v_bipush C 10 (by decide) dX4_saleOf_6 ?_
  refine v_bipush C 9 (by decide) dX4_saleOf_8 ?_
  refine v_aload_n C 1 rfl rfl dX4_saleOf_10 ?_
  refine v_iconst C 2 (by decide) dX4_saleOf_11 ?_
  refine v_chk (fun h2 => ?_)
  refine v_ialdM C h2 dX4_saleOf_12 ?_
  refine v_callSM C [.int 9, .int (u.2.1 p1 (2 : Int32).toNatClampNeg)] [.int 10, .int (u.2.1 12 p2.toNatClampNeg)] (ct4_lesser t g l 9 (u.2.1 p1 (2 : Int32).toNatClampNeg) u) (cw4_lesser C q2092 (by decide)) rfl rfl (Nat.le_of_ble_eq_true rfl) dX4_saleOf_13 (fun r4 u3 => ?_)
  refine v_isub C dX4_saleOf_16 ?_
  refine v_imul C dX4_saleOf_17 ?_
  refine v_bipush C 10 (by decide) dX4_saleOf_18 ?_
  refine v_idiv C (by decide) dX4_saleOf_20 ?_
  exact v_iretM C dX4_saleOf_21
theorem cw4_saleOf {t : TT} {p : Program} {s : State} {m : MethodId} {args : Array Value} {meth : Method} {c : Code} {y0 : MethodName} {cc0 : ByteArray} {nL0 : Nat} {ret0 : Option FieldType} (C : Cx t p s m args meth c y0 cc0 nL0 ret0) {index lv : Nat} (hq : Cond.methodLink y0.cls index yX4_saleOf ∈ lw_all) (hR : LV_saleOf + 1 ≤ lv) : CallW (rmM lv) s args y0.cls RX4 index yX4_saleOf cX4_saleOf 3 (some .int) (ws_ yX4_saleOf cX4_saleOf 3 (some .int)) (rmM LV_saleOf) 0 0 2 :=
  cwV 2 C.2.2.2.2.1 (lw_V hq q2090 qs91 q127 q2091) rfl rfl rfl (by decide +kernel) ⟨hR, by show 8 + (3 + 11) + 100 * LV_saleOf ≤ 100 * lv; omega⟩
abbrev LV_person : Nat := 2
def f4_person (p1 : Int32) (p2 : Int32) (u : MS) : Option (Int32 × MS) :=
  mlet (mS u 0 0) fun u1 =>
  mb (f4_isPerson p1 u1) fun r3 u2 =>
  if r3 = 0 then
    some (0, u2)
  else
    mb (f4_isWhat p2 5 u2) fun r5 u4 =>
    if r5 = 0 then
      some (0, u4)
    else
      if p2 = 0 then
        mchk (inbM p1 12) <|
        some ((u4.2.1 12 p1.toNatClampNeg), u4)
      else
        if p2 = 1 then
          mchk (inbM (22 + p1) 54) <|
          some ((u4.2.1 54 (22 + p1).toNatClampNeg), u4)
        else
          if p2 = 2 then
            mchk (inbM p1 13) <|
            some ((u4.2.1 13 p1.toNatClampNeg), u4)
          else
            if p2 = 3 then
              mchk (inbM (4 + p1) 54) <|
              some ((u4.2.1 54 (4 + p1).toNatClampNeg), u4)
            else
              if p2 = 4 then
                mchk (inbM (13 + p1) 54) <|
                some ((u4.2.1 54 (13 + p1).toNatClampNeg), u4)
              else
                mb (f4_saleOf 54 p1 u4) fun r12 u11 =>
                some (r12, u11)
theorem ct4_person (t : TT) (g : GM) (l : Launch) (p1 : Int32) (p2 : Int32) (u : MS) : CtM mkI t g l yX4_person cX4_person 3 (some .int) LV_person [.ref g.1, .int p1, .int p2] u (f4_person p1 p2 u) := by
  refine ctM_of [(0, .ref g.1), (1, .int p1), (2, .int p2)] rfl (Nat.le_of_ble_eq_true rfl) rfl (fun p e s m args below meth c C => ?_)
  unfold f4_person
  refine v_aload_n C 0 rfl rfl dX4_person_0 ?_
  refine v_iconst C 0 (by decide) dX4_person_1 ?_
  refine v_putMi C 0 (by decide) (by decide) q1615 rfl rfl (by decide +kernel) dX4_person_2 (fun u1 => ?_)
  refine v_aload_n C 0 rfl rfl dX4_person_5 ?_
  refine v_iload_n C 1 rfl rfl dX4_person_6 ?_
  refine v_callVM C [.int p1] [] (ct4_isPerson t g l p1 u1) (cw4_isPerson C q2084 (by decide)) rfl rfl (Nat.le_of_ble_eq_true rfl) dX4_person_7 (fun r3 u2 => ?_)
  refine v_if_eq C 22 (by decide) dX4_person_10 (fun _ => ?_) (fun _ => ?_)
  · refine v_iconst C 0 (by decide) dX4_person_22 ?_
    exact v_iretM C dX4_person_23
  · refine v_aload_n C 0 rfl rfl dX4_person_13 ?_
    refine v_iload_n C 2 rfl rfl dX4_person_14 ?_
    refine v_iconst C 5 (by decide) dX4_person_15 ?_
    refine v_callVM C [.int p2, .int 5] [] (ct4_isWhat t g l p2 5 u2) (cw4_isWhat C q2064 (by decide)) rfl rfl (Nat.le_of_ble_eq_true rfl) dX4_person_16 (fun r5 u4 => ?_)
    refine v_if_ne C 24 (by decide) dX4_person_19 (fun _ => ?_) (fun _ => ?_)
    · refine v_iconst C 0 (by decide) dX4_person_22 ?_
      exact v_iretM C dX4_person_23
    · refine v_iload_n C 2 rfl rfl dX4_person_24 ?_
      refine v_if (fun h6 => ?_) (fun h6 => ?_)
      · refine v_tableIn C (35) 60 (by rw [h6]; decide) (by rw [h6]; decide) (by rw [h6]; rfl) (by decide) dX4_person_25 ?_
        refine v_aload_n C 0 rfl rfl dX4_person_60 ?_
        refine v_getMa C 12 (by decide) (by decide) q1627 rfl dX4_person_61 ?_
        refine v_iload_n C 1 rfl rfl dX4_person_64 ?_
        refine v_chk (fun h7 => ?_)
        refine v_ialdM C h7 dX4_person_65 ?_
        exact v_iretM C dX4_person_66
      · skip
        refine v_if (fun h7 => ?_) (fun h7 => ?_)
        · refine v_tableIn C (42) 67 (by rw [h7]; decide) (by rw [h7]; decide) (by rw [h7]; rfl) (by decide) dX4_person_25 ?_
          refine v_aload_n C 0 rfl rfl dX4_person_67 ?_
          refine v_getMa C 54 (by decide) (by decide) q1669 rfl dX4_person_68 ?_
          refine v_bipush C 22 (by decide) dX4_person_71 ?_
          refine v_iload_n C 1 rfl rfl dX4_person_73 ?_
          refine v_iadd C dX4_person_74 ?_
          refine v_chk (fun h8 => ?_)
          refine v_ialdM C h8 dX4_person_75 ?_
          exact v_iretM C dX4_person_76
        · skip
          refine v_if (fun h8 => ?_) (fun h8 => ?_)
          · refine v_tableIn C (52) 77 (by rw [h8]; decide) (by rw [h8]; decide) (by rw [h8]; rfl) (by decide) dX4_person_25 ?_
            refine v_aload_n C 0 rfl rfl dX4_person_77 ?_
            refine v_getMa C 13 (by decide) (by decide) q1628 rfl dX4_person_78 ?_
            refine v_iload_n C 1 rfl rfl dX4_person_81 ?_
            refine v_chk (fun h9 => ?_)
            refine v_ialdM C h9 dX4_person_82 ?_
            exact v_iretM C dX4_person_83
          · skip
            refine v_if (fun h9 => ?_) (fun h9 => ?_)
            · refine v_tableIn C (59) 84 (by rw [h9]; decide) (by rw [h9]; decide) (by rw [h9]; rfl) (by decide) dX4_person_25 ?_
              refine v_aload_n C 0 rfl rfl dX4_person_84 ?_
              refine v_getMa C 54 (by decide) (by decide) q1669 rfl dX4_person_85 ?_
              refine v_iconst C 4 (by decide) dX4_person_88 ?_
              refine v_iload_n C 1 rfl rfl dX4_person_89 ?_
              refine v_iadd C dX4_person_90 ?_
              refine v_chk (fun h10 => ?_)
              refine v_ialdM C h10 dX4_person_91 ?_
              exact v_iretM C dX4_person_92
            · skip
              refine v_if (fun h10 => ?_) (fun h10 => ?_)
              · refine v_tableIn C (68) 93 (by rw [h10]; decide) (by rw [h10]; decide) (by rw [h10]; rfl) (by decide) dX4_person_25 ?_
                refine v_aload_n C 0 rfl rfl dX4_person_93 ?_
                refine v_getMa C 54 (by decide) (by decide) q1669 rfl dX4_person_94 ?_
                refine v_bipush C 13 (by decide) dX4_person_97 ?_
                refine v_iload_n C 1 rfl rfl dX4_person_99 ?_
                refine v_iadd C dX4_person_100 ?_
                refine v_chk (fun h11 => ?_)
                refine v_ialdM C h11 dX4_person_101 ?_
                exact v_iretM C dX4_person_102
              · skip
                refine v_tableOut C 103 (by have := lv_neT (a := 0) h6 (by decide); have := lv_neT (a := 1) h7 (by decide); have := lv_neT (a := 2) h8 (by decide); have := lv_neT (a := 3) h9 (by decide); have := lv_neT (a := 4) h10 (by decide); omega) (by decide) dX4_person_25 ?_
                refine v_aload_n C 0 rfl rfl dX4_person_103 ?_
                refine v_aload_n C 0 rfl rfl dX4_person_104 ?_
                refine v_getMa C 54 (by decide) (by decide) q1669 rfl dX4_person_105 ?_
                refine v_iload_n C 1 rfl rfl dX4_person_108 ?_
                refine v_callVM C [.ref (g.2 54), .int p1] [] (ct4_saleOf t g l 54 p1 u4) (cw4_saleOf C q2088 (by decide)) rfl rfl (Nat.le_of_ble_eq_true rfl) dX4_person_109 (fun r12 u11 => ?_)
                exact v_iretM C dX4_person_112
theorem cw4_person {t : TT} {p : Program} {s : State} {m : MethodId} {args : Array Value} {meth : Method} {c : Code} {y0 : MethodName} {cc0 : ByteArray} {nL0 : Nat} {ret0 : Option FieldType} (C : Cx t p s m args meth c y0 cc0 nL0 ret0) {index lv : Nat} (hq : Cond.methodLink y0.cls index yX4_person ∈ lw_all) (hR : LV_person + 1 ≤ lv) : CallW (rmM lv) s args y0.cls RX4 index yX4_person cX4_person 3 (some .int) (ws_ yX4_person cX4_person 3 (some .int)) (rmM LV_person) 0 0 2 :=
  cwV 2 C.2.2.2.2.1 (lw_V hq q2081 q2082 q127 q2083) rfl rfl rfl (by decide +kernel) ⟨hR, by show 8 + (3 + 11) + 100 * LV_person ≤ 100 * lv; omega⟩
abbrev LV_bits : Nat := 0
def f4_bits_4 (p0 : Int32) (k : Int32 → Int32 → MS → Option (Int32 × MS)) (x1 : Int32) (x2 : Int32) (u : MS) : Option (Int32 × MS) :=
  if 9 ≤ x2 then
    some (x1, u)
  else
    mlet (x1 + ((p0 >>> (x2 &&& 31)) &&& 1)) fun v1 =>
    k v1 (x2 + 1) u
theorem w4_bits_4 {p : Program} {e : Env} {s : State} {m : MethodId} {args : Array Value} {below : List Frame} {meth : Method} {c : Code} (C : Cx t p s m args meth c yX4_bits cX4_bits 3 (some .int)) (p0 : Int32) (n : Nat) (x1 : Int32) (x2 : Int32) (u : MS) : VM mkI t g p l e LV_bits s m args below meth c 3 4 [(0, .int p0), (1, .int x1), (2, .int x2)] [] u (ml2 (f4_bits_4 p0) n x1 x2 u) := by
  refine vl2 (L := fun x1 x2 => [(0, .int p0), (1, .int x1), (2, .int x2)]) (fun k hk x1 x2 u => ?_) n x1 x2 u
  unfold f4_bits_4
  refine v_iload_n C 2 rfl rfl dX4_bits_4 ?_
  refine v_bipush C 9 (by decide) dX4_bits_5 ?_
  refine v_icmp_ge C 24 (by decide) dX4_bits_7 (fun _ => ?_) (fun _ => ?_)
  · refine v_iload_n C 1 rfl rfl dX4_bits_24 ?_
    exact v_iretM C dX4_bits_25
  · refine v_iload_n C 1 rfl rfl dX4_bits_10 ?_
    refine v_iload_n C 0 rfl rfl dX4_bits_11 ?_
    refine v_iload_n C 2 rfl rfl dX4_bits_12 ?_
    refine v_ishr C dX4_bits_13 ?_
    refine v_iconst C 1 (by decide) dX4_bits_14 ?_
    refine v_iand C dX4_bits_15 ?_
    refine v_iadd C dX4_bits_16 ?_
    refine v_topi (fun v1 => ?_)
    refine v_istore_n C [(1, .int v1), (0, .int p0), (2, .int x2)] rfl (by decide) rfl dX4_bits_17 ?_
    refine v_iinc C 1 [(2, .int (x2 + 1)), (1, .int v1), (0, .int p0)] 2 rfl (by decide) (by decide) rfl dX4_bits_18 ?_
    refine v_goto C 4 (by decide) dX4_bits_21 ?_
    refine v_sub [2, 1, 0] rfl ?_
    exact hk v1 (x2 + 1) u
def f4_bits (p0 : Int32) (u : MS) : Option (Int32 × MS) :=
  ml2 (f4_bits_4 p0) FUEL 0 0 u
theorem ct4_bits (t : TT) (g : GM) (l : Launch) (p0 : Int32) (u : MS) : CtM mkI t g l yX4_bits cX4_bits 3 (some .int) LV_bits [.int p0] u (f4_bits p0 u) := by
  refine ctM_of [(0, .int p0)] rfl (Nat.le_of_ble_eq_true rfl) rfl (fun p e s m args below meth c C => ?_)
  unfold f4_bits
  refine v_iconst C 0 (by decide) dX4_bits_0 ?_
  refine v_istore_n C [(1, .int 0), (0, .int p0)] rfl (by decide) rfl dX4_bits_1 ?_
  refine v_iconst C 0 (by decide) dX4_bits_2 ?_
  refine v_istore_n C [(2, .int 0), (1, .int 0), (0, .int p0)] rfl (by decide) rfl dX4_bits_3 ?_
  refine v_sub [2, 1, 0] rfl ?_
  exact w4_bits_4 C p0 FUEL 0 0 u
theorem cw4_bits {t : TT} {p : Program} {s : State} {m : MethodId} {args : Array Value} {meth : Method} {c : Code} {y0 : MethodName} {cc0 : ByteArray} {nL0 : Nat} {ret0 : Option FieldType} (C : Cx t p s m args meth c y0 cc0 nL0 ret0) {index lv : Nat} (hq : Cond.methodLink y0.cls index yX4_bits ∈ lw_all) (hR : LV_bits + 1 ≤ lv) : CallB (rmM lv) s args y0.cls index yX4_bits cX4_bits 3 (some .int) (ws_ yX4_bits cX4_bits 3 (some .int)) (rmM LV_bits) 0 0 1 ∧ (Cond.static yX4_bits).before args s = true :=
  ⟨callB_of 1 C.2.2.2.2.1 (lw_meth q2105) rfl rfl rfl (C.2.2.2.2.1 _ q127) (C.2.2.2.2.1 _ hq) (by decide +kernel) ⟨hR, by show 8 + (3 + 11) + 100 * LV_bits ≤ 100 * lv; omega⟩, C.2.2.2.2.1 _ q2104⟩
end
