/-! walks of WhiteBoardModel, printed by tools/gen.py -/
set_option maxRecDepth 100000
section
variable {t : TT} {g : GM} {l : Launch}
abbrev LV_stepsOn : Nat := 1
def f4_stepsOn_146 (p1 : Int32) (k : Int32 → MS → Option (Unit × MS)) (x2 : Int32) (u : MS) : Option (Unit × MS) :=
  if (u.1 2) ≤ x2 then
    some ((), u)
  else
    mchk (inbZ x2 72) <|
    mchk (inbZ x2 71) <|
    mchk (isB (u.2.1 72 x2.toNatClampNeg)) <|
    mlet (mA u 71 x2.toNatClampNeg (u.2.1 72 x2.toNatClampNeg)) fun u4 =>
    k (x2 + 1) u4
theorem w4_stepsOn_146 {p : Program} {e : Env} {s : State} {m : MethodId} {args : Array Value} {below : List Frame} {meth : Method} {c : Code} (C : Cx t p s m args meth c yX4_stepsOn cX4_stepsOn 3 none) (p1 : Int32) (n : Nat) (x2 : Int32) (u : MS) : VM mkU t g p l e LV_stepsOn s m args below meth c 3 146 [(0, .ref g.1), (2, .int x2)] [] u (ml1 (f4_stepsOn_146 p1) n x2 u) := by
  refine vl1 (L := fun x2 => [(0, .ref g.1), (2, .int x2)]) (fun k hk x2 u => ?_) n x2 u
  unfold f4_stepsOn_146
  refine v_iload_n C 1 rfl rfl dX4_stepsOn_146 ?_
  refine v_aload_n C 0 rfl rfl dX4_stepsOn_147 ?_
  refine v_getMi C 2 (by decide) (by decide) q1617 rfl dX4_stepsOn_148 ?_
  refine v_icmp_ge C 172 (by decide) dX4_stepsOn_151 (fun _ => ?_) (fun _ => ?_)
  · exact v_vretM C dX4_stepsOn_172
  · refine v_aload_n C 0 rfl rfl dX4_stepsOn_154 ?_
    refine v_getMa C 71 (by decide) (by decide) q1686 rfl dX4_stepsOn_155 ?_
    refine v_iload_n C 1 rfl rfl dX4_stepsOn_158 ?_
    refine v_aload_n C 0 rfl rfl dX4_stepsOn_159 ?_
    refine v_getMa C 72 (by decide) (by decide) q1687 rfl dX4_stepsOn_160 ?_
    refine v_iload_n C 1 rfl rfl dX4_stepsOn_163 ?_
    refine v_chk (fun h1 => ?_)
    refine v_baldM C h1 dX4_stepsOn_164 ?_
    refine v_chk (fun h2 => ?_)
    refine v_chk (fun h3 => ?_)
    refine v_bastM C h2 h3 dX4_stepsOn_165 (fun u4 => ?_)
    refine v_iinc C 1 [(2, .int (x2 + 1)), (0, .ref g.1)] 1 rfl (by decide) (by decide) rfl dX4_stepsOn_166 ?_
    refine v_goto C 146 (by decide) dX4_stepsOn_169 ?_
    refine v_sub [1, 0] rfl ?_
    exact hk (x2 + 1) u4
def f4_stepsOn_93 (p1 : Int32) (k30 : Int32 → MS → Option (Unit × MS)) (x2 : Int32) (s1 : Int32) (s2 : Int32) (u : MS) : Option (Unit × MS) :=
  mchk (inbZ s1 72) <|
  mchk (isB s2) <|
  mlet (mA u 72 s1.toNatClampNeg s2) fun u3 =>
  mchk (inbM x2 10) <|
  mchk (inbM x2 10) <|
  mchk (inbZ (u3.2.1 10 x2.toNatClampNeg) 72) <|
  if (u3.2.1 72 (u3.2.1 10 x2.toNatClampNeg).toNatClampNeg) = 0 then
    mchk (inbM x2 9) <|
    mchk (inbZ (u3.2.1 9 x2.toNatClampNeg) 71) <|
    if (u3.2.1 71 (u3.2.1 9 x2.toNatClampNeg).toNatClampNeg) = 0 then
      mchk (inbZ (u3.2.1 10 x2.toNatClampNeg) 72) <|
      mlet (mA u3 72 (u3.2.1 10 x2.toNatClampNeg).toNatClampNeg 0) fun u10 =>
      k30 (x2 + 1) u10
    else
      mchk (inbZ (u3.2.1 10 x2.toNatClampNeg) 72) <|
      mlet (mA u3 72 (u3.2.1 10 x2.toNatClampNeg).toNatClampNeg 1) fun u10 =>
      k30 (x2 + 1) u10
  else
    mchk (inbZ (u3.2.1 10 x2.toNatClampNeg) 72) <|
    mlet (mA u3 72 (u3.2.1 10 x2.toNatClampNeg).toNatClampNeg 1) fun u8 =>
    k30 (x2 + 1) u8
theorem w4_stepsOn_93 {p : Program} {e : Env} {s : State} {m : MethodId} {args : Array Value} {below : List Frame} {meth : Method} {c : Code} (C : Cx t p s m args meth c yX4_stepsOn cX4_stepsOn 3 none) (p1 : Int32) (k30 : Int32 → MS → Option (Unit × MS)) (hk30 : ∀ (x2 : Int32) (u : MS), VM mkU t g p l e LV_stepsOn s m args below meth c 3 30 [(0, .ref g.1), (1, .int p1), (2, .int x2)] [] u (k30 x2 u)) (x2 : Int32) (s1 : Int32) (s2 : Int32) (u : MS) : VM mkU t g p l e LV_stepsOn s m args below meth c 3 93 [(0, .ref g.1), (1, .int p1), (2, .int x2)] [.int s2, .int s1, .ref (g.2 72)] u (f4_stepsOn_93 p1 k30 x2 s1 s2 u) := by
  unfold f4_stepsOn_93
  refine v_chk (fun h1 => ?_)
  refine v_chk (fun h2 => ?_)
  refine v_bastM C h1 h2 dX4_stepsOn_93 (fun u3 => ?_)
  refine v_aload_n C 0 rfl rfl dX4_stepsOn_94 ?_
  refine v_getMa C 72 (by decide) (by decide) q1687 rfl dX4_stepsOn_95 ?_
  refine v_aload_n C 0 rfl rfl dX4_stepsOn_98 ?_
  refine v_getMa C 10 (by decide) (by decide) q1625 rfl dX4_stepsOn_99 ?_
  refine v_iload_n C 2 rfl rfl dX4_stepsOn_102 ?_
  refine v_chk (fun h4 => ?_)
  refine v_ialdM C h4 dX4_stepsOn_103 ?_
  refine v_aload_n C 0 rfl rfl dX4_stepsOn_104 ?_
  refine v_getMa C 72 (by decide) (by decide) q1687 rfl dX4_stepsOn_105 ?_
  refine v_aload_n C 0 rfl rfl dX4_stepsOn_108 ?_
  refine v_getMa C 10 (by decide) (by decide) q1625 rfl dX4_stepsOn_109 ?_
  refine v_iload_n C 2 rfl rfl dX4_stepsOn_112 ?_
  refine v_chk (fun h5 => ?_)
  refine v_ialdM C h5 dX4_stepsOn_113 ?_
  refine v_chk (fun h6 => ?_)
  refine v_baldM C h6 dX4_stepsOn_114 ?_
  refine v_if_ne C 132 (by decide) dX4_stepsOn_115 (fun _ => ?_) (fun _ => ?_)
  · refine v_aload_n C 0 rfl rfl dX4_stepsOn_118 ?_
    refine v_getMa C 71 (by decide) (by decide) q1686 rfl dX4_stepsOn_119 ?_
    refine v_aload_n C 0 rfl rfl dX4_stepsOn_122 ?_
    refine v_getMa C 9 (by decide) (by decide) q1624 rfl dX4_stepsOn_123 ?_
    refine v_iload_n C 2 rfl rfl dX4_stepsOn_126 ?_
    refine v_chk (fun h7 => ?_)
    refine v_ialdM C h7 dX4_stepsOn_127 ?_
    refine v_chk (fun h8 => ?_)
    refine v_baldM C h8 dX4_stepsOn_128 ?_
    refine v_if_eq C 136 (by decide) dX4_stepsOn_129 (fun _ => ?_) (fun _ => ?_)
    · refine v_iconst C 0 (by decide) dX4_stepsOn_136 ?_
      refine v_chk (fun h9 => ?_)
      refine v_bastM C h9 rfl dX4_stepsOn_137 (fun u10 => ?_)
      refine v_iinc C 1 [(2, .int (x2 + 1)), (0, .ref g.1), (1, .int p1)] 2 rfl (by decide) (by decide) rfl dX4_stepsOn_138 ?_
      refine v_goto C 30 (by decide) dX4_stepsOn_141 ?_
      refine v_sub [1, 2, 0] rfl ?_
      exact hk30 (x2 + 1) u10
    · refine v_iconst C 1 (by decide) dX4_stepsOn_132 ?_
      refine v_goto C 137 (by decide) dX4_stepsOn_133 ?_
      refine v_chk (fun h9 => ?_)
      refine v_bastM C h9 rfl dX4_stepsOn_137 (fun u10 => ?_)
      refine v_iinc C 1 [(2, .int (x2 + 1)), (0, .ref g.1), (1, .int p1)] 2 rfl (by decide) (by decide) rfl dX4_stepsOn_138 ?_
      refine v_goto C 30 (by decide) dX4_stepsOn_141 ?_
      refine v_sub [1, 2, 0] rfl ?_
      exact hk30 (x2 + 1) u10
  · refine v_iconst C 1 (by decide) dX4_stepsOn_132 ?_
    refine v_goto C 137 (by decide) dX4_stepsOn_133 ?_
    refine v_chk (fun h7 => ?_)
    refine v_bastM C h7 rfl dX4_stepsOn_137 (fun u8 => ?_)
    refine v_iinc C 1 [(2, .int (x2 + 1)), (0, .ref g.1), (1, .int p1)] 2 rfl (by decide) (by decide) rfl dX4_stepsOn_138 ?_
    refine v_goto C 30 (by decide) dX4_stepsOn_141 ?_
    refine v_sub [1, 2, 0] rfl ?_
    exact hk30 (x2 + 1) u8
def f4_stepsOn_30 (p1 : Int32) (k : Int32 → MS → Option (Unit × MS)) (x2 : Int32) (u : MS) : Option (Unit × MS) :=
  if (u.1 3) ≤ x2 then
    ml1 (f4_stepsOn_146 p1) FUEL 0 u
  else
    mb (f4_isPassable x2 p1 u) fun r2 u1 =>
    if r2 = 0 then
      k (x2 + 1) u1
    else
      mchk (inbM x2 9) <|
      mchk (inbM x2 9) <|
      mchk (inbZ (u1.2.1 9 x2.toNatClampNeg) 72) <|
      if (u1.2.1 72 (u1.2.1 9 x2.toNatClampNeg).toNatClampNeg) = 0 then
        mchk (inbM x2 10) <|
        mchk (inbZ (u1.2.1 10 x2.toNatClampNeg) 71) <|
        if (u1.2.1 71 (u1.2.1 10 x2.toNatClampNeg).toNatClampNeg) = 0 then
          f4_stepsOn_93 p1 k x2 (u1.2.1 9 x2.toNatClampNeg) 0 u1
        else
          f4_stepsOn_93 p1 k x2 (u1.2.1 9 x2.toNatClampNeg) 1 u1
      else
        f4_stepsOn_93 p1 k x2 (u1.2.1 9 x2.toNatClampNeg) 1 u1
theorem w4_stepsOn_30 {p : Program} {e : Env} {s : State} {m : MethodId} {args : Array Value} {below : List Frame} {meth : Method} {c : Code} (C : Cx t p s m args meth c yX4_stepsOn cX4_stepsOn 3 none) (p1 : Int32) (n : Nat) (x2 : Int32) (u : MS) : VM mkU t g p l e LV_stepsOn s m args below meth c 3 30 [(0, .ref g.1), (1, .int p1), (2, .int x2)] [] u (ml1 (f4_stepsOn_30 p1) n x2 u) := by
  refine vl1 (L := fun x2 => [(0, .ref g.1), (1, .int p1), (2, .int x2)]) (fun k hk x2 u => ?_) n x2 u
  unfold f4_stepsOn_30
  refine v_iload_n C 2 rfl rfl dX4_stepsOn_30 ?_
  refine v_aload_n C 0 rfl rfl dX4_stepsOn_31 ?_
  refine v_getMi C 3 (by decide) (by decide) q1618 rfl dX4_stepsOn_32 ?_
  refine v_icmp_ge C 144 (by decide) dX4_stepsOn_35 (fun _ => ?_) (fun _ => ?_)
  · refine v_iconst C 0 (by decide) dX4_stepsOn_144 ?_
    refine v_istore_n C [(2, .int 0), (0, .ref g.1), (1, .int p1)] rfl (by decide) rfl dX4_stepsOn_145 ?_
    refine v_sub [1, 0] rfl ?_
    exact w4_stepsOn_146 C p1 FUEL 0 u
  · refine v_aload_n C 0 rfl rfl dX4_stepsOn_38 ?_
    refine v_iload_n C 2 rfl rfl dX4_stepsOn_39 ?_
    refine v_iload_n C 1 rfl rfl dX4_stepsOn_40 ?_
    refine v_callVM C [.int x2, .int p1] [] (ct4_isPassable t g l x2 p1 u) (cw4_isPassable C q2164 (by decide)) rfl rfl (Nat.le_of_ble_eq_true rfl) dX4_stepsOn_41 (fun r2 u1 => ?_)
    refine v_if_ne C 50 (by decide) dX4_stepsOn_44 (fun _ => ?_) (fun _ => ?_)
    · refine v_goto C 138 (by decide) dX4_stepsOn_47 ?_
      refine v_iinc C 1 [(2, .int (x2 + 1)), (0, .ref g.1), (1, .int p1)] 2 rfl (by decide) (by decide) rfl dX4_stepsOn_138 ?_
      refine v_goto C 30 (by decide) dX4_stepsOn_141 ?_
      refine v_sub [1, 2, 0] rfl ?_
      exact hk (x2 + 1) u1
    · refine v_aload_n C 0 rfl rfl dX4_stepsOn_50 ?_
      refine v_getMa C 72 (by decide) (by decide) q1687 rfl dX4_stepsOn_51 ?_
      refine v_aload_n C 0 rfl rfl dX4_stepsOn_54 ?_
      refine v_getMa C 9 (by decide) (by decide) q1624 rfl dX4_stepsOn_55 ?_
      refine v_iload_n C 2 rfl rfl dX4_stepsOn_58 ?_
      refine v_chk (fun h3 => ?_)
      refine v_ialdM C h3 dX4_stepsOn_59 ?_
      refine v_aload_n C 0 rfl rfl dX4_stepsOn_60 ?_
      refine v_getMa C 72 (by decide) (by decide) q1687 rfl dX4_stepsOn_61 ?_
      refine v_aload_n C 0 rfl rfl dX4_stepsOn_64 ?_
      refine v_getMa C 9 (by decide) (by decide) q1624 rfl dX4_stepsOn_65 ?_
      refine v_iload_n C 2 rfl rfl dX4_stepsOn_68 ?_
      refine v_chk (fun h4 => ?_)
      refine v_ialdM C h4 dX4_stepsOn_69 ?_
      refine v_chk (fun h5 => ?_)
      refine v_baldM C h5 dX4_stepsOn_70 ?_
      refine v_if_ne C 88 (by decide) dX4_stepsOn_71 (fun _ => ?_) (fun _ => ?_)
      · refine v_aload_n C 0 rfl rfl dX4_stepsOn_74 ?_
        refine v_getMa C 71 (by decide) (by decide) q1686 rfl dX4_stepsOn_75 ?_
        refine v_aload_n C 0 rfl rfl dX4_stepsOn_78 ?_
        refine v_getMa C 10 (by decide) (by decide) q1625 rfl dX4_stepsOn_79 ?_
        refine v_iload_n C 2 rfl rfl dX4_stepsOn_82 ?_
        refine v_chk (fun h6 => ?_)
        refine v_ialdM C h6 dX4_stepsOn_83 ?_
        refine v_chk (fun h7 => ?_)
        refine v_baldM C h7 dX4_stepsOn_84 ?_
        refine v_if_eq C 92 (by decide) dX4_stepsOn_85 (fun _ => ?_) (fun _ => ?_)
        · refine v_iconst C 0 (by decide) dX4_stepsOn_92 ?_
          exact w4_stepsOn_93 C p1 k hk x2 (u1.2.1 9 x2.toNatClampNeg) 0 u1
        · refine v_iconst C 1 (by decide) dX4_stepsOn_88 ?_
          refine v_goto C 93 (by decide) dX4_stepsOn_89 ?_
          exact w4_stepsOn_93 C p1 k hk x2 (u1.2.1 9 x2.toNatClampNeg) 1 u1
      · refine v_iconst C 1 (by decide) dX4_stepsOn_88 ?_
        refine v_goto C 93 (by decide) dX4_stepsOn_89 ?_
        exact w4_stepsOn_93 C p1 k hk x2 (u1.2.1 9 x2.toNatClampNeg) 1 u1
def f4_stepsOn_2 (p1 : Int32) (k : Int32 → MS → Option (Unit × MS)) (x2 : Int32) (u : MS) : Option (Unit × MS) :=
  if (u.1 2) ≤ x2 then
    ml1 (f4_stepsOn_30 p1) FUEL 0 u
  else
    mchk (inbZ x2 71) <|
    mchk (inbZ x2 72) <|
    mchk (isB (u.2.1 71 x2.toNatClampNeg)) <|
    mlet (mA u 72 x2.toNatClampNeg (u.2.1 71 x2.toNatClampNeg)) fun u4 =>
    k (x2 + 1) u4
theorem w4_stepsOn_2 {p : Program} {e : Env} {s : State} {m : MethodId} {args : Array Value} {below : List Frame} {meth : Method} {c : Code} (C : Cx t p s m args meth c yX4_stepsOn cX4_stepsOn 3 none) (p1 : Int32) (n : Nat) (x2 : Int32) (u : MS) : VM mkU t g p l e LV_stepsOn s m args below meth c 3 2 [(0, .ref g.1), (1, .int p1), (2, .int x2)] [] u (ml1 (f4_stepsOn_2 p1) n x2 u) := by
  refine vl1 (L := fun x2 => [(0, .ref g.1), (1, .int p1), (2, .int x2)]) (fun k hk x2 u => ?_) n x2 u
  unfold f4_stepsOn_2
  refine v_iload_n C 2 rfl rfl dX4_stepsOn_2 ?_
  refine v_aload_n C 0 rfl rfl dX4_stepsOn_3 ?_
  refine v_getMi C 2 (by decide) (by decide) q1617 rfl dX4_stepsOn_4 ?_
  refine v_icmp_ge C 28 (by decide) dX4_stepsOn_7 (fun _ => ?_) (fun _ => ?_)
  · refine v_iconst C 0 (by decide) dX4_stepsOn_28 ?_
    refine v_istore_n C [(2, .int 0), (0, .ref g.1), (1, .int p1)] rfl (by decide) rfl dX4_stepsOn_29 ?_
    refine v_sub [1, 2, 0] rfl ?_
    exact w4_stepsOn_30 C p1 FUEL 0 u
  · refine v_aload_n C 0 rfl rfl dX4_stepsOn_10 ?_
    refine v_getMa C 72 (by decide) (by decide) q1687 rfl dX4_stepsOn_11 ?_
    refine v_iload_n C 2 rfl rfl dX4_stepsOn_14 ?_
    refine v_aload_n C 0 rfl rfl dX4_stepsOn_15 ?_
    refine v_getMa C 71 (by decide) (by decide) q1686 rfl dX4_stepsOn_16 ?_
    refine v_iload_n C 2 rfl rfl dX4_stepsOn_19 ?_
    refine v_chk (fun h1 => ?_)
    refine v_baldM C h1 dX4_stepsOn_20 ?_
    refine v_chk (fun h2 => ?_)
    refine v_chk (fun h3 => ?_)
    refine v_bastM C h2 h3 dX4_stepsOn_21 (fun u4 => ?_)
    refine v_iinc C 1 [(2, .int (x2 + 1)), (0, .ref g.1), (1, .int p1)] 2 rfl (by decide) (by decide) rfl dX4_stepsOn_22 ?_
    refine v_goto C 2 (by decide) dX4_stepsOn_25 ?_
    refine v_sub [1, 2, 0] rfl ?_
    exact hk (x2 + 1) u4
def f4_stepsOn (p1 : Int32) (u : MS) : Option (Unit × MS) :=
  ml1 (f4_stepsOn_2 p1) FUEL 0 u
theorem ct4_stepsOn (t : TT) (g : GM) (l : Launch) (p1 : Int32) (u : MS) : CtM mkU t g l yX4_stepsOn cX4_stepsOn 3 none LV_stepsOn [.ref g.1, .int p1] u (f4_stepsOn p1 u) := by
  refine ctM_of [(0, .ref g.1), (1, .int p1)] rfl (Nat.le_of_ble_eq_true rfl) rfl (fun p e s m args below meth c C => ?_)
  unfold f4_stepsOn
  refine v_iconst C 0 (by decide) dX4_stepsOn_0 ?_
  refine v_istore_n C [(2, .int 0), (0, .ref g.1), (1, .int p1)] rfl (by decide) rfl dX4_stepsOn_1 ?_
  refine v_sub [1, 2, 0] rfl ?_
  exact w4_stepsOn_2 C p1 FUEL 0 u
theorem cw4_stepsOn {t : TT} {p : Program} {s : State} {m : MethodId} {args : Array Value} {meth : Method} {c : Code} {y0 : MethodName} {cc0 : ByteArray} {nL0 : Nat} {ret0 : Option FieldType} (C : Cx t p s m args meth c y0 cc0 nL0 ret0) {index lv : Nat} (hq : Cond.methodLink y0.cls index yX4_stepsOn ∈ lw_all) (hR : LV_stepsOn + 1 ≤ lv) : CallW (rmM lv) s args y0.cls RX4 index yX4_stepsOn cX4_stepsOn 3 none (ws_ yX4_stepsOn cX4_stepsOn 3 none) (rmM LV_stepsOn) 0 0 1 :=
  cwV 1 C.2.2.2.2.1 (lw_V hq q2242 qs110 q127 q2243) rfl rfl rfl (by decide +kernel) ⟨hR, by show 8 + (3 + 11) + 100 * LV_stepsOn ≤ 100 * lv; omega⟩
abbrev LV_outOf : Nat := 2
def f4_outOf_151 (p1 : Int32) (p2 : Int32) (k65 : Int32 → Int32 → MS → Option (Int32 × MS)) (k : Int32 → Int32 → Int32 → MS → Option (Int32 × MS)) (x3 : Int32) (x4 : Int32) (x5 : Int32) (u : MS) : Option (Int32 × MS) :=
  if (u.1 2) ≤ x5 then
    k65 x3 (x4 + 1) u
  else
    mchk (inbZ x5 71) <|
    if (u.2.1 71 x5.toNatClampNeg) = 0 then
      mchk (inbZ x5 71) <|
      mlet (mA u 71 x5.toNatClampNeg 0) fun u3 =>
      k x3 x4 (x5 + 1) u3
    else
      if p2 = (-1) then
        mchk (inbZ x5 71) <|
        mlet (mA u 71 x5.toNatClampNeg 1) fun u3 =>
        k x3 x4 (x5 + 1) u3
      else
        if x4 < p2 then
          mchk (inbZ x5 71) <|
          mlet (mA u 71 x5.toNatClampNeg 1) fun u3 =>
          k x3 x4 (x5 + 1) u3
        else
          mchk (inbM x5 8) <|
          if 10 ≤ (((u.2.1 8 x5.toNatClampNeg) + x4) - p2) then
            mchk (inbZ x5 71) <|
            mlet (mA u 71 x5.toNatClampNeg 0) fun u4 =>
            k x3 x4 (x5 + 1) u4
          else
            mchk (inbZ x5 71) <|
            mlet (mA u 71 x5.toNatClampNeg 1) fun u4 =>
            k x3 x4 (x5 + 1) u4
theorem w4_outOf_151 {p : Program} {e : Env} {s : State} {m : MethodId} {args : Array Value} {below : List Frame} {meth : Method} {c : Code} (C : Cx t p s m args meth c yX4_outOf cX4_outOf 6 (some .int)) (p1 : Int32) (p2 : Int32) (k65 : Int32 → Int32 → MS → Option (Int32 × MS)) (hk65 : ∀ (x3 : Int32) (x4 : Int32) (u : MS), VM mkI t g p l e LV_outOf s m args below meth c 6 65 [(0, .ref g.1), (1, .int p1), (2, .int p2), (3, .int x3), (4, .int x4)] [] u (k65 x3 x4 u)) (n : Nat) (x3 : Int32) (x4 : Int32) (x5 : Int32) (u : MS) : VM mkI t g p l e LV_outOf s m args below meth c 6 151 [(0, .ref g.1), (1, .int p1), (2, .int p2), (3, .int x3), (4, .int x4), (5, .int x5)] [] u (ml3 (f4_outOf_151 p1 p2 k65) n x3 x4 x5 u) := by
  refine vl3 (L := fun x3 x4 x5 => [(0, .ref g.1), (1, .int p1), (2, .int p2), (3, .int x3), (4, .int x4), (5, .int x5)]) (fun k hk x3 x4 x5 u => ?_) n x3 x4 x5 u
  unfold f4_outOf_151
  refine v_iload C 5 rfl dX4_outOf_151 ?_
  refine v_aload_n C 0 rfl rfl dX4_outOf_153 ?_
  refine v_getMi C 2 (by decide) (by decide) q1617 rfl dX4_outOf_154 ?_
  refine v_icmp_ge C 216 (by decide) dX4_outOf_157 (fun _ => ?_) (fun _ => ?_)
  · refine v_iinc C 1 [(4, .int (x4 + 1)), (0, .ref g.1), (1, .int p1), (2, .int p2), (3, .int x3), (5, .int x5)] 4 rfl (by decide) (by decide) rfl dX4_outOf_216 ?_
    refine v_goto C 65 (by decide) dX4_outOf_219 ?_
    refine v_sub [1, 2, 3, 4, 0] rfl ?_
    exact hk65 x3 (x4 + 1) u
  · refine v_aload_n C 0 rfl rfl dX4_outOf_160 ?_
    refine v_getMa C 71 (by decide) (by decide) q1686 rfl dX4_outOf_161 ?_
    refine v_iload C 5 rfl dX4_outOf_164 ?_
    refine v_aload_n C 0 rfl rfl dX4_outOf_166 ?_
    refine v_getMa C 71 (by decide) (by decide) q1686 rfl dX4_outOf_167 ?_
    refine v_iload C 5 rfl dX4_outOf_170 ?_
    refine v_chk (fun h1 => ?_)
    refine v_baldM C h1 dX4_outOf_172 ?_
    refine v_if_eq C 208 (by decide) dX4_outOf_173 (fun _ => ?_) (fun _ => ?_)
    · refine v_iconst C 0 (by decide) dX4_outOf_208 ?_
      refine v_chk (fun h2 => ?_)
      refine v_bastM C h2 rfl dX4_outOf_209 (fun u3 => ?_)
      refine v_iinc C 1 [(5, .int (x5 + 1)), (0, .ref g.1), (1, .int p1), (2, .int p2), (3, .int x3), (4, .int x4)] 5 rfl (by decide) (by decide) rfl dX4_outOf_210 ?_
      refine v_goto C 151 (by decide) dX4_outOf_213 ?_
      refine v_sub [1, 2, 3, 4, 5, 0] rfl ?_
      exact hk x3 x4 (x5 + 1) u3
    · refine v_iload_n C 2 rfl rfl dX4_outOf_176 ?_
      refine v_iconst C (-1) (by decide) dX4_outOf_177 ?_
      refine v_icmp_eq C 204 (by decide) dX4_outOf_178 (fun _ => ?_) (fun _ => ?_)
      · refine v_iconst C 1 (by decide) dX4_outOf_204 ?_
        refine v_goto C 209 (by decide) dX4_outOf_205 ?_
        refine v_chk (fun h2 => ?_)
        refine v_bastM C h2 rfl dX4_outOf_209 (fun u3 => ?_)
        refine v_iinc C 1 [(5, .int (x5 + 1)), (0, .ref g.1), (1, .int p1), (2, .int p2), (3, .int x3), (4, .int x4)] 5 rfl (by decide) (by decide) rfl dX4_outOf_210 ?_
        refine v_goto C 151 (by decide) dX4_outOf_213 ?_
        refine v_sub [1, 2, 3, 4, 5, 0] rfl ?_
        exact hk x3 x4 (x5 + 1) u3
      · refine v_iload C 4 rfl dX4_outOf_181 ?_
        refine v_iload_n C 2 rfl rfl dX4_outOf_183 ?_
        refine v_icmp_lt C 204 (by decide) dX4_outOf_184 (fun _ => ?_) (fun _ => ?_)
        · refine v_iconst C 1 (by decide) dX4_outOf_204 ?_
          refine v_goto C 209 (by decide) dX4_outOf_205 ?_
          refine v_chk (fun h2 => ?_)
          refine v_bastM C h2 rfl dX4_outOf_209 (fun u3 => ?_)
          refine v_iinc C 1 [(5, .int (x5 + 1)), (0, .ref g.1), (1, .int p1), (2, .int p2), (3, .int x3), (4, .int x4)] 5 rfl (by decide) (by decide) rfl dX4_outOf_210 ?_
          refine v_goto C 151 (by decide) dX4_outOf_213 ?_
          refine v_sub [1, 2, 3, 4, 5, 0] rfl ?_
          exact hk x3 x4 (x5 + 1) u3
        · refine v_aload_n C 0 rfl rfl dX4_outOf_187 ?_
          refine v_getMa C 8 (by decide) (by decide) q1623 rfl dX4_outOf_188 ?_
          refine v_iload C 5 rfl dX4_outOf_191 ?_
          refine v_chk (fun h2 => ?_)
          refine v_ialdM C h2 dX4_outOf_193 ?_
          refine v_iload C 4 rfl dX4_outOf_194 ?_
          refine v_iadd C dX4_outOf_196 ?_
          refine v_iload_n C 2 rfl rfl dX4_outOf_197 ?_
          refine v_isub C dX4_outOf_198 ?_
          refine v_bipush C 10 (by decide) dX4_outOf_199 ?_
          refine v_icmp_ge C 208 (by decide) dX4_outOf_201 (fun _ => ?_) (fun _ => ?_)
          · refine v_iconst C 0 (by decide) dX4_outOf_208 ?_
            refine v_chk (fun h3 => ?_)
            refine v_bastM C h3 rfl dX4_outOf_209 (fun u4 => ?_)
            refine v_iinc C 1 [(5, .int (x5 + 1)), (0, .ref g.1), (1, .int p1), (2, .int p2), (3, .int x3), (4, .int x4)] 5 rfl (by decide) (by decide) rfl dX4_outOf_210 ?_
            refine v_goto C 151 (by decide) dX4_outOf_213 ?_
            refine v_sub [1, 2, 3, 4, 5, 0] rfl ?_
            exact hk x3 x4 (x5 + 1) u4
          · refine v_iconst C 1 (by decide) dX4_outOf_204 ?_
            refine v_goto C 209 (by decide) dX4_outOf_205 ?_
            refine v_chk (fun h3 => ?_)
            refine v_bastM C h3 rfl dX4_outOf_209 (fun u4 => ?_)
            refine v_iinc C 1 [(5, .int (x5 + 1)), (0, .ref g.1), (1, .int p1), (2, .int p2), (3, .int x3), (4, .int x4)] 5 rfl (by decide) (by decide) rfl dX4_outOf_210 ?_
            refine v_goto C 151 (by decide) dX4_outOf_213 ?_
            refine v_sub [1, 2, 3, 4, 5, 0] rfl ?_
            exact hk x3 x4 (x5 + 1) u4
def f4_outOf_109 (p1 : Int32) (p2 : Int32) (k65 : Int32 → Int32 → MS → Option (Int32 × MS)) (k : Int32 → Int32 → Int32 → MS → Option (Int32 × MS)) (x3 : Int32) (x4 : Int32) (x5 : Int32) (u : MS) : Option (Int32 × MS) :=
  if (u.1 2) ≤ x5 then
    ml3 (f4_outOf_151 p1 p2 k65) FUEL x3 x4 0 u
  else
    mchk (inbZ x5 71) <|
    if (u.2.1 71 x5.toNatClampNeg) = 0 then
      k x3 x4 (x5 + 1) u
    else
      mchk (inbM x5 8) <|
      if (u.2.1 8 x5.toNatClampNeg) = (-1) then
        some (x4, u)
      else
        k x3 x4 (x5 + 1) u
theorem w4_outOf_109 {p : Program} {e : Env} {s : State} {m : MethodId} {args : Array Value} {below : List Frame} {meth : Method} {c : Code} (C : Cx t p s m args meth c yX4_outOf cX4_outOf 6 (some .int)) (p1 : Int32) (p2 : Int32) (k65 : Int32 → Int32 → MS → Option (Int32 × MS)) (hk65 : ∀ (x3 : Int32) (x4 : Int32) (u : MS), VM mkI t g p l e LV_outOf s m args below meth c 6 65 [(0, .ref g.1), (1, .int p1), (2, .int p2), (3, .int x3), (4, .int x4)] [] u (k65 x3 x4 u)) (n : Nat) (x3 : Int32) (x4 : Int32) (x5 : Int32) (u : MS) : VM mkI t g p l e LV_outOf s m args below meth c 6 109 [(0, .ref g.1), (1, .int p1), (2, .int p2), (3, .int x3), (4, .int x4), (5, .int x5)] [] u (ml3 (f4_outOf_109 p1 p2 k65) n x3 x4 x5 u) := by
  refine vl3 (L := fun x3 x4 x5 => [(0, .ref g.1), (1, .int p1), (2, .int p2), (3, .int x3), (4, .int x4), (5, .int x5)]) (fun k hk x3 x4 x5 u => ?_) n x3 x4 x5 u
  unfold f4_outOf_109
  refine v_iload C 5 rfl dX4_outOf_109 ?_
  refine v_aload_n C 0 rfl rfl dX4_outOf_111 ?_
  refine v_getMi C 2 (by decide) (by decide) q1617 rfl dX4_outOf_112 ?_
  refine v_icmp_ge C 148 (by decide) dX4_outOf_115 (fun _ => ?_) (fun _ => ?_)
  · refine v_iconst C 0 (by decide) dX4_outOf_148 ?_
    refine v_istore C [(5, .int 0), (0, .ref g.1), (1, .int p1), (2, .int p2), (3, .int x3), (4, .int x4)] (by decide) rfl dX4_outOf_149 ?_
    refine v_sub [1, 2, 3, 4, 5, 0] rfl ?_
    exact w4_outOf_151 C p1 p2 k65 hk65 FUEL x3 x4 0 u
  · refine v_aload_n C 0 rfl rfl dX4_outOf_118 ?_
    refine v_getMa C 71 (by decide) (by decide) q1686 rfl dX4_outOf_119 ?_
    refine v_iload C 5 rfl dX4_outOf_122 ?_
    refine v_chk (fun h1 => ?_)
    refine v_baldM C h1 dX4_outOf_124 ?_
    refine v_if_eq C 142 (by decide) dX4_outOf_125 (fun _ => ?_) (fun _ => ?_)
    · refine v_iinc C 1 [(5, .int (x5 + 1)), (0, .ref g.1), (1, .int p1), (2, .int p2), (3, .int x3), (4, .int x4)] 5 rfl (by decide) (by decide) rfl dX4_outOf_142 ?_
      refine v_goto C 109 (by decide) dX4_outOf_145 ?_
      refine v_sub [1, 2, 3, 4, 5, 0] rfl ?_
      exact hk x3 x4 (x5 + 1) u
    · refine v_aload_n C 0 rfl rfl dX4_outOf_128 ?_
      refine v_getMa C 8 (by decide) (by decide) q1623 rfl dX4_outOf_129 ?_
      refine v_iload C 5 rfl dX4_outOf_132 ?_
      refine v_chk (fun h2 => ?_)
      refine v_ialdM C h2 dX4_outOf_134 ?_
      refine v_iconst C (-1) (by decide) dX4_outOf_135 ?_
      refine v_icmp_ne C 142 (by decide) dX4_outOf_136 (fun _ => ?_) (fun _ => ?_)
      · refine v_iload C 4 rfl dX4_outOf_139 ?_
        exact v_iretM C dX4_outOf_141
      · refine v_iinc C 1 [(5, .int (x5 + 1)), (0, .ref g.1), (1, .int p1), (2, .int p2), (3, .int x3), (4, .int x4)] 5 rfl (by decide) (by decide) rfl dX4_outOf_142 ?_
        refine v_goto C 109 (by decide) dX4_outOf_145 ?_
        refine v_sub [1, 2, 3, 4, 5, 0] rfl ?_
        exact hk x3 x4 (x5 + 1) u
def f4_outOf_100 (p1 : Int32) (p2 : Int32) (k65 : Int32 → Int32 → MS → Option (Int32 × MS)) (x3 : Int32) (x4 : Int32) (u : MS) : Option (Int32 × MS) :=
  mb (f4_stepsOn x4 u) fun _ u1 =>
  ml3 (f4_outOf_109 p1 p2 k65) FUEL x3 x4 0 u1
theorem w4_outOf_100 {p : Program} {e : Env} {s : State} {m : MethodId} {args : Array Value} {below : List Frame} {meth : Method} {c : Code} (C : Cx t p s m args meth c yX4_outOf cX4_outOf 6 (some .int)) (p1 : Int32) (p2 : Int32) (k65 : Int32 → Int32 → MS → Option (Int32 × MS)) (hk65 : ∀ (x3 : Int32) (x4 : Int32) (u : MS), VM mkI t g p l e LV_outOf s m args below meth c 6 65 [(0, .ref g.1), (1, .int p1), (2, .int p2), (3, .int x3), (4, .int x4)] [] u (k65 x3 x4 u)) (x3 : Int32) (x4 : Int32) (u : MS) : VM mkI t g p l e LV_outOf s m args below meth c 6 100 [(0, .ref g.1), (1, .int p1), (2, .int p2), (3, .int x3), (4, .int x4)] [] u (f4_outOf_100 p1 p2 k65 x3 x4 u) := by
  unfold f4_outOf_100
  refine v_aload_n C 0 rfl rfl dX4_outOf_100 ?_
  refine v_iload C 4 rfl dX4_outOf_101 ?_
  refine v_callVM C [.int x4] [] (ct4_stepsOn t g l x4 u) (cw4_stepsOn C q2240 (by decide)) rfl rfl (Nat.le_of_ble_eq_true rfl) dX4_outOf_103 (fun _ u1 => ?_)
  refine v_iconst C 0 (by decide) dX4_outOf_106 ?_
  refine v_istore C [(5, .int 0), (0, .ref g.1), (1, .int p1), (2, .int p2), (3, .int x3), (4, .int x4)] (by decide) rfl dX4_outOf_107 ?_
  refine v_sub [1, 2, 3, 4, 5, 0] rfl ?_
  exact w4_outOf_109 C p1 p2 k65 hk65 FUEL x3 x4 0 u1
def f4_outOf_65 (p1 : Int32) (p2 : Int32) (k : Int32 → Int32 → MS → Option (Int32 × MS)) (x3 : Int32) (x4 : Int32) (u : MS) : Option (Int32 × MS) :=
  if x3 < x4 then
    some (-1, u)
  else
    if (u.2.1 54 (0 : Int32).toNatClampNeg) < x4 then
      f4_outOf_100 p1 p2 k x3 x4 u
    else
      mchk (inbM (22 + p1) 54) <|
      mchk (inbM (u.2.1 54 (22 + p1).toNatClampNeg) 8) <|
      if (u.2.1 8 (u.2.1 54 (22 + p1).toNatClampNeg).toNatClampNeg) = (-1) then
        ml3 (f4_outOf_109 p1 p2 k) FUEL x3 x4 0 u
      else
        f4_outOf_100 p1 p2 k x3 x4 u
theorem w4_outOf_65 {p : Program} {e : Env} {s : State} {m : MethodId} {args : Array Value} {below : List Frame} {meth : Method} {c : Code} (C : Cx t p s m args meth c yX4_outOf cX4_outOf 6 (some .int)) (p1 : Int32) (p2 : Int32) (n : Nat) (x3 : Int32) (x4 : Int32) (u : MS) : VM mkI t g p l e LV_outOf s m args below meth c 6 65 [(0, .ref g.1), (1, .int p1), (2, .int p2), (3, .int x3), (4, .int x4)] [] u (ml2 (f4_outOf_65 p1 p2) n x3 x4 u) := by
  refine vl2 (L := fun x3 x4 => [(0, .ref g.1), (1, .int p1), (2, .int p2), (3, .int x3), (4, .int x4)]) (fun k hk x3 x4 u => ?_) n x3 x4 u
  unfold f4_outOf_65
  refine v_iload C 4 rfl dX4_outOf_65 ?_
  refine v_iload_n C 3 rfl rfl dX4_outOf_67 ?_
  refine v_icmp_gt C 222 (by decide) dX4_outOf_68 (fun _ => ?_) (fun _ => ?_)
  · refine v_iconst C (-1) (by decide) dX4_outOf_222 ?_
    exact v_iretM C dX4_outOf_223
  · refine v_iload C 4 rfl dX4_outOf_71 ?_
    refine v_aload_n C 0 rfl rfl dX4_outOf_73 ?_
    refine v_getMa C 54 (by decide) (by decide) q1669 rfl dX4_outOf_74 ?_
    refine v_iconst C 0 (by decide) dX4_outOf_77 ?_
    refine v_ialdM C (by decide) dX4_outOf_78 ?_
    refine v_icmp_gt C 100 (by decide) dX4_outOf_79 (fun _ => ?_) (fun _ => ?_)
    · exact w4_outOf_100 C p1 p2 k hk x3 x4 u
    · refine v_aload_n C 0 rfl rfl dX4_outOf_82 ?_
      refine v_getMa C 8 (by decide) (by decide) q1623 rfl dX4_outOf_83 ?_
      refine v_aload_n C 0 rfl rfl dX4_outOf_86 ?_
      refine v_getMa C 54 (by decide) (by decide) q1669 rfl dX4_outOf_87 ?_
      refine v_bipush C 22 (by decide) dX4_outOf_90 ?_
      refine v_iload_n C 1 rfl rfl dX4_outOf_92 ?_
      refine v_iadd C dX4_outOf_93 ?_
      refine v_chk (fun h1 => ?_)
      refine v_ialdM C h1 dX4_outOf_94 ?_
      refine v_chk (fun h2 => ?_)
      refine v_ialdM C h2 dX4_outOf_95 ?_
      refine v_iconst C (-1) (by decide) dX4_outOf_96 ?_
      refine v_icmp_eq C 106 (by decide) dX4_outOf_97 (fun _ => ?_) (fun _ => ?_)
      · refine v_iconst C 0 (by decide) dX4_outOf_106 ?_
        refine v_istore C [(5, .int 0), (0, .ref g.1), (1, .int p1), (2, .int p2), (3, .int x3), (4, .int x4)] (by decide) rfl dX4_outOf_107 ?_
        refine v_sub [1, 2, 3, 4, 5, 0] rfl ?_
        exact w4_outOf_109 C p1 p2 k hk FUEL x3 x4 0 u
      · exact w4_outOf_100 C p1 p2 k hk x3 x4 u
def f4_outOf_18 (p1 : Int32) (p2 : Int32) (k : Int32 → Int32 → MS → Option (Int32 × MS)) (x3 : Int32) (x4 : Int32) (u : MS) : Option (Int32 × MS) :=
  if 8 ≤ x4 then
    mlet (u.2.1 54 (0 : Int32).toNatClampNeg) fun v1 =>
    ml2 (f4_outOf_65 p1 p2) FUEL x3 v1 u
  else
    mchk (inbM (22 + p1) 54) <|
    if x4 = (u.2.1 54 (22 + p1).toNatClampNeg) then
      mchk (inbZ x4 71) <|
      mlet (mA u 71 x4.toNatClampNeg 1) fun u3 =>
      k x3 (x4 + 1) u3
    else
      mchk (inbZ x4 71) <|
      mlet (mA u 71 x4.toNatClampNeg 0) fun u3 =>
      k x3 (x4 + 1) u3
theorem w4_outOf_18 {p : Program} {e : Env} {s : State} {m : MethodId} {args : Array Value} {below : List Frame} {meth : Method} {c : Code} (C : Cx t p s m args meth c yX4_outOf cX4_outOf 6 (some .int)) (p1 : Int32) (p2 : Int32) (n : Nat) (x3 : Int32) (x4 : Int32) (u : MS) : VM mkI t g p l e LV_outOf s m args below meth c 6 18 [(0, .ref g.1), (1, .int p1), (2, .int p2), (3, .int x3), (4, .int x4)] [] u (ml2 (f4_outOf_18 p1 p2) n x3 x4 u) := by
  refine vl2 (L := fun x3 x4 => [(0, .ref g.1), (1, .int p1), (2, .int p2), (3, .int x3), (4, .int x4)]) (fun k hk x3 x4 u => ?_) n x3 x4 u
  unfold f4_outOf_18
  refine v_iload C 4 rfl dX4_outOf_18 ?_
  refine v_bipush C 8 (by decide) dX4_outOf_20 ?_
  refine v_icmp_ge C 57 (by decide) dX4_outOf_22 (fun _ => ?_) (fun _ => ?_)
  · refine v_aload_n C 0 rfl rfl dX4_outOf_57 ?_
    refine v_getMa C 54 (by decide) (by decide) q1669 rfl dX4_outOf_58 ?_
    refine v_iconst C 0 (by decide) dX4_outOf_61 ?_
    refine v_ialdM C (by decide) dX4_outOf_62 ?_
    refine v_topi (fun v1 => ?_)
    refine v_istore C [(4, .int v1), (0, .ref g.1), (1, .int p1), (2, .int p2), (3, .int x3)] (by decide) rfl dX4_outOf_63 ?_
    refine v_sub [1, 2, 3, 4, 0] rfl ?_
    exact w4_outOf_65 C p1 p2 FUEL x3 v1 u
  · refine v_aload_n C 0 rfl rfl dX4_outOf_25 ?_
    refine v_getMa C 71 (by decide) (by decide) q1686 rfl dX4_outOf_26 ?_
    refine v_iload C 4 rfl dX4_outOf_29 ?_
    refine v_iload C 4 rfl dX4_outOf_31 ?_
    refine v_aload_n C 0 rfl rfl dX4_outOf_33 ?_
    refine v_getMa C 54 (by decide) (by decide) q1669 rfl dX4_outOf_34 ?_
    refine v_bipush C 22 (by decide) dX4_outOf_37 ?_
    refine v_iload_n C 1 rfl rfl dX4_outOf_39 ?_
    refine v_iadd C dX4_outOf_40 ?_
    refine v_chk (fun h1 => ?_)
    refine v_ialdM C h1 dX4_outOf_41 ?_
    refine v_icmp_ne C 49 (by decide) dX4_outOf_42 (fun _ => ?_) (fun _ => ?_)
    · refine v_iconst C 1 (by decide) dX4_outOf_45 ?_
      refine v_goto C 50 (by decide) dX4_outOf_46 ?_
      refine v_chk (fun h2 => ?_)
      refine v_bastM C h2 rfl dX4_outOf_50 (fun u3 => ?_)
      refine v_iinc C 1 [(4, .int (x4 + 1)), (0, .ref g.1), (1, .int p1), (2, .int p2), (3, .int x3)] 4 rfl (by decide) (by decide) rfl dX4_outOf_51 ?_
      refine v_goto C 18 (by decide) dX4_outOf_54 ?_
      refine v_sub [1, 2, 3, 4, 0] rfl ?_
      exact hk x3 (x4 + 1) u3
    · refine v_iconst C 0 (by decide) dX4_outOf_49 ?_
      refine v_chk (fun h2 => ?_)
      refine v_bastM C h2 rfl dX4_outOf_50 (fun u3 => ?_)
      refine v_iinc C 1 [(4, .int (x4 + 1)), (0, .ref g.1), (1, .int p1), (2, .int p2), (3, .int x3)] 4 rfl (by decide) (by decide) rfl dX4_outOf_51 ?_
      refine v_goto C 18 (by decide) dX4_outOf_54 ?_
      refine v_sub [1, 2, 3, 4, 0] rfl ?_
      exact hk x3 (x4 + 1) u3
def f4_outOf (p1 : Int32) (p2 : Int32) (u : MS) : Option (Int32 × MS) :=
  mb (f4_lesser ((u.2.1 54 (0 : Int32).toNatClampNeg) + 30) 60 u) fun r2 u1 =>
  ml2 (f4_outOf_18 p1 p2) FUEL r2 0 u1
theorem ct4_outOf (t : TT) (g : GM) (l : Launch) (p1 : Int32) (p2 : Int32) (u : MS) : CtM mkI t g l yX4_outOf cX4_outOf 6 (some .int) LV_outOf [.ref g.1, .int p1, .int p2] u (f4_outOf p1 p2 u) := by
  refine ctM_of [(0, .ref g.1), (1, .int p1), (2, .int p2)] rfl (Nat.le_of_ble_eq_true rfl) rfl (fun p e s m args below meth c C => ?_)
  unfold f4_outOf
  refine v_aload_n C 0 rfl rfl dX4_outOf_0 ?_
  refine v_getMa C 54 (by decide) (by decide) q1669 rfl dX4_outOf_1 ?_
  refine v_iconst C 0 (by decide) dX4_outOf_4 ?_
  refine v_ialdM C (by decide) dX4_outOf_5 ?_
  refine v_bipush C 30 (by decide) dX4_outOf_6 ?_
  refine v_iadd C dX4_outOf_8 ?_
  refine v_bipush C 60 (by decide) dX4_outOf_9 ?_
  refine v_callSM C [.int ((u.2.1 54 (0 : Int32).toNatClampNeg) + 30), .int 60] [] (ct4_lesser t g l ((u.2.1 54 (0 : Int32).toNatClampNeg) + 30) 60 u) (cw4_lesser C q2092 (by decide)) rfl rfl (Nat.le_of_ble_eq_true rfl) dX4_outOf_11 (fun r2 u1 => ?_)
  refine v_istore_n C [(3, .int r2), (0, .ref g.1), (1, .int p1), (2, .int p2)] rfl (by decide) rfl dX4_outOf_14 ?_
  refine v_iconst C 0 (by decide) dX4_outOf_15 ?_
  refine v_istore C [(4, .int 0), (3, .int r2), (0, .ref g.1), (1, .int p1), (2, .int p2)] (by decide) rfl dX4_outOf_16 ?_
  refine v_sub [2, 3, 4, 1, 0] rfl ?_
  exact w4_outOf_18 C p1 p2 FUEL r2 0 u1
theorem cw4_outOf {t : TT} {p : Program} {s : State} {m : MethodId} {args : Array Value} {meth : Method} {c : Code} {y0 : MethodName} {cc0 : ByteArray} {nL0 : Nat} {ret0 : Option FieldType} (C : Cx t p s m args meth c y0 cc0 nL0 ret0) {index lv : Nat} (hq : Cond.methodLink y0.cls index yX4_outOf ∈ lw_all) (hR : LV_outOf + 1 ≤ lv) : CallW (rmM lv) s args y0.cls RX4 index yX4_outOf cX4_outOf 6 (some .int) (ws_ yX4_outOf cX4_outOf 6 (some .int)) (rmM LV_outOf) 0 0 2 :=
  cwV 2 C.2.2.2.2.1 (lw_V hq q2238 qs109 q127 q2239) rfl rfl rfl (by decide +kernel) ⟨hR, by show 8 + (6 + 11) + 100 * LV_outOf ≤ 100 * lv; omega⟩
abbrev LV_out : Nat := 7
def f4_out_24 (p1 : Int32) (u : MS) : Option (Int32 × MS) :=
  mb (f4_orThrown u) fun r2 u1 =>
  some (r2, u1)
theorem w4_out_24 {p : Program} {e : Env} {s : State} {m : MethodId} {args : Array Value} {below : List Frame} {meth : Method} {c : Code} (C : Cx t p s m args meth c yX4_out cX4_out 2 (some .int)) (p1 : Int32) (u : MS) : VM mkI t g p l e LV_out s m args below meth c 2 24 [(0, .ref g.1)] [] u (f4_out_24 p1 u) := by
  unfold f4_out_24
  refine v_aload_n C 0 rfl rfl dX4_out_24 ?_
  refine v_callVM C [] [] (ct4_orThrown t g l u) (cw4_orThrown C q2212 (by decide)) rfl rfl (Nat.le_of_ble_eq_true rfl) dX4_out_25 (fun r2 u1 => ?_)
  exact v_iretM C dX4_out_28
def f4_out (p1 : Int32) (u : MS) : Option (Int32 × MS) :=
  mlet (mS u 0 0) fun u1 =>
  mb (f4_isPerson p1 u1) fun r3 u2 =>
  if r3 = 0 then
    f4_out_24 p1 u2
  else
    mb (f4_isDead 54 p1 u2) fun r5 u4 =>
    if r5 = 0 then
      mb (f4_playsAll u4) fun _ u6 =>
      mchk (inbM (4 + p1) 68) <|
      mb (f4_outOf p1 (u6.2.1 68 (4 + p1).toNatClampNeg) u6) fun r9 u8 =>
      some (r9, u8)
    else
      f4_out_24 p1 u4
theorem ct4_out (t : TT) (g : GM) (l : Launch) (p1 : Int32) (u : MS) : CtM mkI t g l yX4_out cX4_out 2 (some .int) LV_out [.ref g.1, .int p1] u (f4_out p1 u) := by
  refine ctM_of [(0, .ref g.1), (1, .int p1)] rfl (Nat.le_of_ble_eq_true rfl) rfl (fun p e s m args below meth c C => ?_)
  unfold f4_out
  refine v_aload_n C 0 rfl rfl dX4_out_0 ?_
  refine v_iconst C 0 (by decide) dX4_out_1 ?_
  refine v_putMi C 0 (by decide) (by decide) q1615 rfl rfl (by decide +kernel) dX4_out_2 (fun u1 => ?_)
  refine v_aload_n C 0 rfl rfl dX4_out_5 ?_
  refine v_iload_n C 1 rfl rfl dX4_out_6 ?_
  refine v_callVM C [.int p1] [] (ct4_isPerson t g l p1 u1) (cw4_isPerson C q2084 (by decide)) rfl rfl (Nat.le_of_ble_eq_true rfl) dX4_out_7 (fun r3 u2 => ?_)
  refine v_if_eq C 24 (by decide) dX4_out_10 (fun _ => ?_) (fun _ => ?_)
  · refine v_sub [0] rfl ?_
    exact w4_out_24 C p1 u2
  · refine v_aload_n C 0 rfl rfl dX4_out_13 ?_
    refine v_getMa C 54 (by decide) (by decide) q1669 rfl dX4_out_14 ?_
    refine v_iload_n C 1 rfl rfl dX4_out_17 ?_
    refine v_callSM C [.ref (g.2 54), .int p1] [] (ct4_isDead t g l 54 p1 u2) (cw4_isDead C q2149 (by decide)) rfl rfl (Nat.le_of_ble_eq_true rfl) dX4_out_18 (fun r5 u4 => ?_)
    refine v_if_eq C 29 (by decide) dX4_out_21 (fun _ => ?_) (fun _ => ?_)
    · refine v_aload_n C 0 rfl rfl dX4_out_29 ?_
      refine v_callVM C [] [] (ct4_playsAll t g l u4) (cw4_playsAll C q2184 (by decide)) rfl rfl (Nat.le_of_ble_eq_true rfl) dX4_out_30 (fun _ u6 => ?_)
      refine v_aload_n C 0 rfl rfl dX4_out_33 ?_
      refine v_iload_n C 1 rfl rfl dX4_out_34 ?_
      refine v_aload_n C 0 rfl rfl dX4_out_35 ?_
      refine v_getMa C 68 (by decide) (by decide) q1683 rfl dX4_out_36 ?_
      refine v_iconst C 4 (by decide) dX4_out_39 ?_
      refine v_iload_n C 1 rfl rfl dX4_out_40 ?_
      refine v_iadd C dX4_out_41 ?_
      refine v_chk (fun h7 => ?_)
      refine v_ialdM C h7 dX4_out_42 ?_
      refine v_callVM C [.int p1, .int (u6.2.1 68 (4 + p1).toNatClampNeg)] [] (ct4_outOf t g l p1 (u6.2.1 68 (4 + p1).toNatClampNeg) u6) (cw4_outOf C q2236 (by decide)) rfl rfl (Nat.le_of_ble_eq_true rfl) dX4_out_43 (fun r9 u8 => ?_)
      exact v_iretM C dX4_out_46
    · refine v_sub [0] rfl ?_
      exact w4_out_24 C p1 u4
theorem cw4_out {t : TT} {p : Program} {s : State} {m : MethodId} {args : Array Value} {meth : Method} {c : Code} {y0 : MethodName} {cc0 : ByteArray} {nL0 : Nat} {ret0 : Option FieldType} (C : Cx t p s m args meth c y0 cc0 nL0 ret0) {index lv : Nat} (hq : Cond.methodLink y0.cls index yX4_out ∈ lw_all) (hR : LV_out + 1 ≤ lv) : CallW (rmM lv) s args y0.cls RX4 index yX4_out cX4_out 2 (some .int) (ws_ yX4_out cX4_out 2 (some .int)) (rmM LV_out) 0 0 1 :=
  cwV 1 C.2.2.2.2.1 (lw_V hq q2233 q2234 q127 q2235) rfl rfl rfl (by decide +kernel) ⟨hR, by show 8 + (2 + 11) + 100 * LV_out ≤ 100 * lv; omega⟩
abbrev LV_gate : Nat := 7
def f4_gate_59 (p1 : Int32) (k : Int32 → Int32 → Int32 → MS → Option (Int32 × MS)) (x2 : Int32) (x3 : Int32) (x4 : Int32) (u : MS) : Option (Int32 × MS) :=
  if (u.1 3) ≤ x4 then
    mlet (mS u 69 (-1)) fun u1 =>
    some (x3, u1)
  else
    if x3 = (-1) then
      mlet (mS u 69 x4) fun u1 =>
      mb (f4_outOf p1 x2 u1) fun r3 u2 =>
      if r3 = (-1) then
        k x2 (-1) (x4 + 1) u2
      else
        k x2 x4 (x4 + 1) u2
    else
      mlet (mS u 69 (-1)) fun u1 =>
      some (x3, u1)
theorem w4_gate_59 {p : Program} {e : Env} {s : State} {m : MethodId} {args : Array Value} {below : List Frame} {meth : Method} {c : Code} (C : Cx t p s m args meth c yX4_gate cX4_gate 5 (some .int)) (p1 : Int32) (n : Nat) (x2 : Int32) (x3 : Int32) (x4 : Int32) (u : MS) : VM mkI t g p l e LV_gate s m args below meth c 5 59 [(0, .ref g.1), (1, .int p1), (2, .int x2), (3, .int x3), (4, .int x4)] [] u (ml3 (f4_gate_59 p1) n x2 x3 x4 u) := by
  refine vl3 (L := fun x2 x3 x4 => [(0, .ref g.1), (1, .int p1), (2, .int x2), (3, .int x3), (4, .int x4)]) (fun k hk x2 x3 x4 u => ?_) n x2 x3 x4 u
  unfold f4_gate_59
  refine v_iload C 4 rfl dX4_gate_59 ?_
  refine v_aload_n C 0 rfl rfl dX4_gate_61 ?_
  refine v_getMi C 3 (by decide) (by decide) q1618 rfl dX4_gate_62 ?_
  refine v_icmp_ge C 102 (by decide) dX4_gate_65 (fun _ => ?_) (fun _ => ?_)
  · refine v_aload_n C 0 rfl rfl dX4_gate_102 ?_
    refine v_iconst C (-1) (by decide) dX4_gate_103 ?_
    refine v_putMi C 69 (by decide) (by decide) q1684 rfl rfl (by decide +kernel) dX4_gate_104 (fun u1 => ?_)
    refine v_iload_n C 3 rfl rfl dX4_gate_107 ?_
    exact v_iretM C dX4_gate_108
  · refine v_iload_n C 3 rfl rfl dX4_gate_68 ?_
    refine v_iconst C (-1) (by decide) dX4_gate_69 ?_
    refine v_icmp_ne C 102 (by decide) dX4_gate_70 (fun _ => ?_) (fun _ => ?_)
    · refine v_aload_n C 0 rfl rfl dX4_gate_73 ?_
      refine v_iload C 4 rfl dX4_gate_74 ?_
      refine v_putMi C 69 (by decide) (by decide) q1684 rfl rfl (by decide +kernel) dX4_gate_76 (fun u1 => ?_)
      refine v_aload_n C 0 rfl rfl dX4_gate_79 ?_
      refine v_iload_n C 1 rfl rfl dX4_gate_80 ?_
      refine v_iload_n C 2 rfl rfl dX4_gate_81 ?_
      refine v_callVM C [.int p1, .int x2] [] (ct4_outOf t g l p1 x2 u1) (cw4_outOf C q2236 (by decide)) rfl rfl (Nat.le_of_ble_eq_true rfl) dX4_gate_82 (fun r3 u2 => ?_)
      refine v_iconst C (-1) (by decide) dX4_gate_85 ?_
      refine v_icmp_ne C 93 (by decide) dX4_gate_86 (fun _ => ?_) (fun _ => ?_)
      · refine v_iconst C (-1) (by decide) dX4_gate_89 ?_
        refine v_goto C 95 (by decide) dX4_gate_90 ?_
        refine v_istore_n C [(3, .int (-1)), (0, .ref g.1), (1, .int p1), (2, .int x2), (4, .int x4)] rfl (by decide) rfl dX4_gate_95 ?_
        refine v_iinc C 1 [(4, .int (x4 + 1)), (3, .int (-1)), (0, .ref g.1), (1, .int p1), (2, .int x2)] 4 rfl (by decide) (by decide) rfl dX4_gate_96 ?_
        refine v_goto C 59 (by decide) dX4_gate_99 ?_
        refine v_sub [2, 3, 4, 1, 0] rfl ?_
        exact hk x2 (-1) (x4 + 1) u2
      · refine v_iload C 4 rfl dX4_gate_93 ?_
        refine v_istore_n C [(3, .int x4), (0, .ref g.1), (1, .int p1), (2, .int x2), (4, .int x4)] rfl (by decide) rfl dX4_gate_95 ?_
        refine v_iinc C 1 [(4, .int (x4 + 1)), (3, .int x4), (0, .ref g.1), (1, .int p1), (2, .int x2)] 4 rfl (by decide) (by decide) rfl dX4_gate_96 ?_
        refine v_goto C 59 (by decide) dX4_gate_99 ?_
        refine v_sub [2, 3, 4, 1, 0] rfl ?_
        exact hk x2 x4 (x4 + 1) u2
    · refine v_aload_n C 0 rfl rfl dX4_gate_102 ?_
      refine v_iconst C (-1) (by decide) dX4_gate_103 ?_
      refine v_putMi C 69 (by decide) (by decide) q1684 rfl rfl (by decide +kernel) dX4_gate_104 (fun u1 => ?_)
      refine v_iload_n C 3 rfl rfl dX4_gate_107 ?_
      exact v_iretM C dX4_gate_108
def f4_gate_24 (p1 : Int32) (u : MS) : Option (Int32 × MS) :=
  mb (f4_orThrown u) fun r2 u1 =>
  some (r2, u1)
theorem w4_gate_24 {p : Program} {e : Env} {s : State} {m : MethodId} {args : Array Value} {below : List Frame} {meth : Method} {c : Code} (C : Cx t p s m args meth c yX4_gate cX4_gate 5 (some .int)) (p1 : Int32) (u : MS) : VM mkI t g p l e LV_gate s m args below meth c 5 24 [(0, .ref g.1)] [] u (f4_gate_24 p1 u) := by
  unfold f4_gate_24
  refine v_aload_n C 0 rfl rfl dX4_gate_24 ?_
  refine v_callVM C [] [] (ct4_orThrown t g l u) (cw4_orThrown C q2212 (by decide)) rfl rfl (Nat.le_of_ble_eq_true rfl) dX4_gate_25 (fun r2 u1 => ?_)
  exact v_iretM C dX4_gate_28
def f4_gate (p1 : Int32) (u : MS) : Option (Int32 × MS) :=
  mlet (mS u 0 0) fun u1 =>
  mb (f4_isPerson p1 u1) fun r3 u2 =>
  if r3 = 0 then
    f4_gate_24 p1 u2
  else
    mb (f4_isDead 54 p1 u2) fun r5 u4 =>
    if r5 = 0 then
      mb (f4_playsAll u4) fun _ u6 =>
      mchk (inbM (4 + p1) 68) <|
      mlet (u6.2.1 68 (4 + p1).toNatClampNeg) fun v8 =>
      mb (f4_outOf p1 v8 u6) fun r10 u9 =>
      if r10 = (-1) then
        ml3 (f4_gate_59 p1) FUEL v8 (-1) 0 u9
      else
        some (-1, u9)
    else
      f4_gate_24 p1 u4
theorem ct4_gate (t : TT) (g : GM) (l : Launch) (p1 : Int32) (u : MS) : CtM mkI t g l yX4_gate cX4_gate 5 (some .int) LV_gate [.ref g.1, .int p1] u (f4_gate p1 u) := by
  refine ctM_of [(0, .ref g.1), (1, .int p1)] rfl (Nat.le_of_ble_eq_true rfl) rfl (fun p e s m args below meth c C => ?_)
  unfold f4_gate
  refine v_aload_n C 0 rfl rfl dX4_gate_0 ?_
  refine v_iconst C 0 (by decide) dX4_gate_1 ?_
  refine v_putMi C 0 (by decide) (by decide) q1615 rfl rfl (by decide +kernel) dX4_gate_2 (fun u1 => ?_)
  refine v_aload_n C 0 rfl rfl dX4_gate_5 ?_
  refine v_iload_n C 1 rfl rfl dX4_gate_6 ?_
  refine v_callVM C [.int p1] [] (ct4_isPerson t g l p1 u1) (cw4_isPerson C q2084 (by decide)) rfl rfl (Nat.le_of_ble_eq_true rfl) dX4_gate_7 (fun r3 u2 => ?_)
  refine v_if_eq C 24 (by decide) dX4_gate_10 (fun _ => ?_) (fun _ => ?_)
  · refine v_sub [0] rfl ?_
    exact w4_gate_24 C p1 u2
  · refine v_aload_n C 0 rfl rfl dX4_gate_13 ?_
    refine v_getMa C 54 (by decide) (by decide) q1669 rfl dX4_gate_14 ?_
    refine v_iload_n C 1 rfl rfl dX4_gate_17 ?_
    refine v_callSM C [.ref (g.2 54), .int p1] [] (ct4_isDead t g l 54 p1 u2) (cw4_isDead C q2149 (by decide)) rfl rfl (Nat.le_of_ble_eq_true rfl) dX4_gate_18 (fun r5 u4 => ?_)
    refine v_if_eq C 29 (by decide) dX4_gate_21 (fun _ => ?_) (fun _ => ?_)
    · refine v_aload_n C 0 rfl rfl dX4_gate_29 ?_
      refine v_callVM C [] [] (ct4_playsAll t g l u4) (cw4_playsAll C q2184 (by decide)) rfl rfl (Nat.le_of_ble_eq_true rfl) dX4_gate_30 (fun _ u6 => ?_)
      refine v_aload_n C 0 rfl rfl dX4_gate_33 ?_
      refine v_getMa C 68 (by decide) (by decide) q1683 rfl dX4_gate_34 ?_
      refine v_iconst C 4 (by decide) dX4_gate_37 ?_
      refine v_iload_n C 1 rfl rfl dX4_gate_38 ?_
      refine v_iadd C dX4_gate_39 ?_
      refine v_chk (fun h7 => ?_)
      refine v_ialdM C h7 dX4_gate_40 ?_
      refine v_topi (fun v8 => ?_)
      refine v_istore_n C [(2, .int v8), (0, .ref g.1), (1, .int p1)] rfl (by decide) rfl dX4_gate_41 ?_
      refine v_iconst C (-1) (by decide) dX4_gate_42 ?_
      refine v_istore_n C [(3, .int (-1)), (2, .int v8), (0, .ref g.1), (1, .int p1)] rfl (by decide) rfl dX4_gate_43 ?_
      refine v_aload_n C 2 rfl rfl dX4_gate_44 ?_
      refine v_iload_n C 3 rfl rfl dX4_gate_45 ?_
      refine v_iload_n C 1 rfl rfl dX4_gate_46 ?_
      refine v_callVM C [.int p1, .int v8] [] (ct4_outOf t g l p1 v8 u6) (cw4_outOf C q2236 (by decide)) rfl rfl (Nat.le_of_ble_eq_true rfl) dX4_gate_47 (fun r10 u9 => ?_)
      refine v_iconst C (-1) (by decide) dX4_gate_50 ?_
      refine v_icmp_eq C 56 (by decide) dX4_gate_51 (fun _ => ?_) (fun _ => ?_)
      · refine v_iconst C 0 (by decide) dX4_gate_56 ?_
        refine v_istore C [(4, .int 0), (3, .int (-1)), (2, .int v8), (0, .ref g.1), (1, .int p1)] (by decide) rfl dX4_gate_57 ?_
        refine v_sub [3, 4, 2, 1, 0] rfl ?_
        exact w4_gate_59 C p1 FUEL v8 (-1) 0 u9
      · refine v_iconst C (-1) (by decide) dX4_gate_54 ?_
        exact v_iretM C dX4_gate_55
    · refine v_sub [0] rfl ?_
      exact w4_gate_24 C p1 u4
theorem cw4_gate {t : TT} {p : Program} {s : State} {m : MethodId} {args : Array Value} {meth : Method} {c : Code} {y0 : MethodName} {cc0 : ByteArray} {nL0 : Nat} {ret0 : Option FieldType} (C : Cx t p s m args meth c y0 cc0 nL0 ret0) {index lv : Nat} (hq : Cond.methodLink y0.cls index yX4_gate ∈ lw_all) (hR : LV_gate + 1 ≤ lv) : CallW (rmM lv) s args y0.cls RX4 index yX4_gate cX4_gate 5 (some .int) (ws_ yX4_gate cX4_gate 5 (some .int)) (rmM LV_gate) 0 0 1 :=
  cwV 1 C.2.2.2.2.1 (lw_V hq q2245 q2246 q127 q2247) rfl rfl rfl (by decide +kernel) ⟨hR, by show 8 + (5 + 11) + 100 * LV_gate ≤ 100 * lv; omega⟩
abbrev LV_surer : Nat := 0
def f4_surer (p1 : Int32) (p2 : Int32) (u : MS) : Option (Unit × MS) :=
  mchk (inbM p1 8) <|
  if (u.2.1 8 p1.toNatClampNeg) = (-1) then
    some ((), u)
  else
    mchk (inbM p1 73) <|
    mchk (inbM p2 74) <|
    if (u.2.1 74 p2.toNatClampNeg) < (u.2.1 73 p1.toNatClampNeg) then
      mchk (inbM p1 73) <|
      mchk (inbM p2 74) <|
      mlet (mA u 74 p2.toNatClampNeg (u.2.1 73 p1.toNatClampNeg)) fun u6 =>
      some ((), u6)
    else
      some ((), u)
theorem ct4_surer (t : TT) (g : GM) (l : Launch) (p1 : Int32) (p2 : Int32) (u : MS) : CtM mkU t g l yX4_surer cX4_surer 3 none LV_surer [.ref g.1, .int p1, .int p2] u (f4_surer p1 p2 u) := by
  refine ctM_of [(0, .ref g.1), (1, .int p1), (2, .int p2)] rfl (Nat.le_of_ble_eq_true rfl) rfl (fun p e s m args below meth c C => ?_)
  unfold f4_surer
  refine v_aload_n C 0 rfl rfl dX4_surer_0 ?_
  refine v_getMa C 8 (by decide) (by decide) q1623 rfl dX4_surer_1 ?_
  refine v_iload_n C 1 rfl rfl dX4_surer_4 ?_
  refine v_chk (fun h1 => ?_)
  refine v_ialdM C h1 dX4_surer_5 ?_
  refine v_iconst C (-1) (by decide) dX4_surer_6 ?_
  refine v_icmp_eq C 25 (by decide) dX4_surer_7 (fun _ => ?_) (fun _ => ?_)
  · exact v_vretM C dX4_surer_25
  · refine v_aload_n C 0 rfl rfl dX4_surer_10 ?_
    refine v_getMa C 73 (by decide) (by decide) q1688 rfl dX4_surer_11 ?_
    refine v_iload_n C 1 rfl rfl dX4_surer_14 ?_
    refine v_chk (fun h2 => ?_)
    refine v_ialdM C h2 dX4_surer_15 ?_
    refine v_aload_n C 0 rfl rfl dX4_surer_16 ?_
    refine v_getMa C 74 (by decide) (by decide) q1689 rfl dX4_surer_17 ?_
    refine v_iload_n C 2 rfl rfl dX4_surer_20 ?_
    refine v_chk (fun h3 => ?_)
    refine v_ialdM C h3 dX4_surer_21 ?_
    refine v_icmp_gt C 26 (by decide) dX4_surer_22 (fun _ => ?_) (fun _ => ?_)
    · refine v_aload_n C 0 rfl rfl dX4_surer_26 ?_
      refine v_getMa C 74 (by decide) (by decide) q1689 rfl dX4_surer_27 ?_
      refine v_iload_n C 2 rfl rfl dX4_surer_30 ?_
      refine v_aload_n C 0 rfl rfl dX4_surer_31 ?_
      refine v_getMa C 73 (by decide) (by decide) q1688 rfl dX4_surer_32 ?_
      refine v_iload_n C 1 rfl rfl dX4_surer_35 ?_
      refine v_chk (fun h4 => ?_)
      refine v_ialdM C h4 dX4_surer_36 ?_
      refine v_chk (fun h5 => ?_)
      refine v_iastM C h5 dX4_surer_37 (fun u6 => ?_)
      exact v_vretM C dX4_surer_38
    · exact v_vretM C dX4_surer_25
theorem cw4_surer {t : TT} {p : Program} {s : State} {m : MethodId} {args : Array Value} {meth : Method} {c : Code} {y0 : MethodName} {cc0 : ByteArray} {nL0 : Nat} {ret0 : Option FieldType} (C : Cx t p s m args meth c y0 cc0 nL0 ret0) {index lv : Nat} (hq : Cond.methodLink y0.cls index yX4_surer ∈ lw_all) (hR : LV_surer + 1 ≤ lv) : CallW (rmM lv) s args y0.cls RX4 index yX4_surer cX4_surer 3 none (ws_ yX4_surer cX4_surer 3 none) (rmM LV_surer) 0 0 2 :=
  cwV 2 C.2.2.2.2.1 (lw_V hq q2254 qs111 q127 q2255) rfl rfl rfl (by decide +kernel) ⟨hR, by show 8 + (3 + 11) + 100 * LV_surer ≤ 100 * lv; omega⟩
abbrev LV_surest : Nat := 7
def f4_surest_313 (p1 : Int32) (p2 : Int32) (k : Int32 → Int32 → MS → Option (Int32 × MS)) (x4 : Int32) (x5 : Int32) (u : MS) : Option (Int32 × MS) :=
  if (u.1 2) ≤ x5 then
    some (x4, u)
  else
    mchk (inbM x5 73) <|
    if (u.2.1 73 x5.toNatClampNeg) ≤ x4 then
      k x4 (x5 + 1) u
    else
      mchk (inbM x5 73) <|
      mlet (u.2.1 73 x5.toNatClampNeg) fun v3 =>
      k v3 (x5 + 1) u
theorem w4_surest_313 {p : Program} {e : Env} {s : State} {m : MethodId} {args : Array Value} {below : List Frame} {meth : Method} {c : Code} (C : Cx t p s m args meth c yX4_surest cX4_surest 7 (some .int)) (p1 : Int32) (p2 : Int32) (n : Nat) (x4 : Int32) (x5 : Int32) (u : MS) : VM mkI t g p l e LV_surest s m args below meth c 7 313 [(0, .ref g.1), (4, .int x4), (5, .int x5)] [] u (ml2 (f4_surest_313 p1 p2) n x4 x5 u) := by
  refine vl2 (L := fun x4 x5 => [(0, .ref g.1), (4, .int x4), (5, .int x5)]) (fun k hk x4 x5 u => ?_) n x4 x5 u
  unfold f4_surest_313
  refine v_iload C 2 rfl dX4_surest_313 ?_
  refine v_aload_n C 0 rfl rfl dX4_surest_315 ?_
  refine v_getMi C 2 (by decide) (by decide) q1617 rfl dX4_surest_316 ?_
  refine v_icmp_ge C 354 (by decide) dX4_surest_319 (fun _ => ?_) (fun _ => ?_)
  · refine v_iload C 1 rfl dX4_surest_354 ?_
    exact v_iretM C dX4_surest_356
  · refine v_aload_n C 0 rfl rfl dX4_surest_322 ?_
    refine v_getMa C 73 (by decide) (by decide) q1688 rfl dX4_surest_323 ?_
    refine v_iload C 2 rfl dX4_surest_326 ?_
    refine v_chk (fun h1 => ?_)
    refine v_ialdM C h1 dX4_surest_328 ?_
    refine v_iload C 1 rfl dX4_surest_329 ?_
    refine v_icmp_le C 344 (by decide) dX4_surest_331 (fun _ => ?_) (fun _ => ?_)
    · refine v_iload C 1 rfl dX4_surest_344 ?_
      refine v_istore C [(4, .int x4), (0, .ref g.1), (5, .int x5)] (by decide) rfl dX4_surest_346 ?_
      refine v_iinc C 1 [(5, .int (x5 + 1)), (4, .int x4), (0, .ref g.1)] 2 rfl (by decide) (by decide) rfl dX4_surest_348 ?_
      refine v_goto C 313 (by decide) dX4_surest_351 ?_
      refine v_sub [2, 1, 0] rfl ?_
      exact hk x4 (x5 + 1) u
    · refine v_aload_n C 0 rfl rfl dX4_surest_334 ?_
      refine v_getMa C 73 (by decide) (by decide) q1688 rfl dX4_surest_335 ?_
      refine v_iload C 2 rfl dX4_surest_338 ?_
      refine v_chk (fun h2 => ?_)
      refine v_ialdM C h2 dX4_surest_340 ?_
      refine v_goto C 346 (by decide) dX4_surest_341 ?_
      refine v_topi (fun v3 => ?_)
      refine v_istore C [(4, .int v3), (0, .ref g.1), (5, .int x5)] (by decide) rfl dX4_surest_346 ?_
      refine v_iinc C 1 [(5, .int (x5 + 1)), (4, .int v3), (0, .ref g.1)] 2 rfl (by decide) (by decide) rfl dX4_surest_348 ?_
      refine v_goto C 313 (by decide) dX4_surest_351 ?_
      refine v_sub [2, 1, 0] rfl ?_
      exact hk v3 (x5 + 1) u
def f4_surest_240 (p1 : Int32) (p2 : Int32) (k106 : Int32 → Int32 → MS → Option (Int32 × MS)) (k : Int32 → Int32 → Int32 → Int32 → MS → Option (Int32 × MS)) (x3 : Int32) (x4 : Int32) (x5 : Int32) (x6 : Int32) (u : MS) : Option (Int32 × MS) :=
  if (u.1 2) ≤ x6 then
    k106 x3 (x4 + 1) u
  else
    mchk (inbM x6 74) <|
    if x5 = 0 then
      mchk (inbM x6 73) <|
      mlet (mA u 73 x6.toNatClampNeg ((u.2.1 74 x6.toNatClampNeg) * 10)) fun u3 =>
      k x3 x4 x5 (x6 + 1) u3
    else
      mchk (inbM x6 8) <|
      if (u.2.1 8 x6.toNatClampNeg) = (-1) then
        mchk (inbM x6 73) <|
        mlet (mA u 73 x6.toNatClampNeg ((u.2.1 74 x6.toNatClampNeg) * 10)) fun u4 =>
        k x3 x4 x5 (x6 + 1) u4
      else
        mchk (inbM x6 8) <|
        mchk (inbM x6 73) <|
        mlet (mA u 73 x6.toNatClampNeg ((u.2.1 74 x6.toNatClampNeg) * (10 - (u.2.1 8 x6.toNatClampNeg)))) fun u5 =>
        k x3 x4 x5 (x6 + 1) u5
theorem w4_surest_240 {p : Program} {e : Env} {s : State} {m : MethodId} {args : Array Value} {below : List Frame} {meth : Method} {c : Code} (C : Cx t p s m args meth c yX4_surest cX4_surest 7 (some .int)) (p1 : Int32) (p2 : Int32) (k106 : Int32 → Int32 → MS → Option (Int32 × MS)) (hk106 : ∀ (x3 : Int32) (x4 : Int32) (u : MS), VM mkI t g p l e LV_surest s m args below meth c 7 106 [(0, .ref g.1), (2, .int p2), (3, .int x3), (4, .int x4)] [] u (k106 x3 x4 u)) (n : Nat) (x3 : Int32) (x4 : Int32) (x5 : Int32) (x6 : Int32) (u : MS) : VM mkI t g p l e LV_surest s m args below meth c 7 240 [(0, .ref g.1), (2, .int p2), (3, .int x3), (4, .int x4), (5, .int x5), (6, .int x6)] [] u (ml4 (f4_surest_240 p1 p2 k106) n x3 x4 x5 x6 u) := by
  refine vl4 (L := fun x3 x4 x5 x6 => [(0, .ref g.1), (2, .int p2), (3, .int x3), (4, .int x4), (5, .int x5), (6, .int x6)]) (fun k hk x3 x4 x5 x6 u => ?_) n x3 x4 x5 x6 u
  unfold f4_surest_240
  refine v_iload C 5 rfl dX4_surest_240 ?_
  refine v_aload_n C 0 rfl rfl dX4_surest_242 ?_
  refine v_getMi C 2 (by decide) (by decide) q1617 rfl dX4_surest_243 ?_
  refine v_icmp_ge C 301 (by decide) dX4_surest_246 (fun _ => ?_) (fun _ => ?_)
  · refine v_iinc C 1 [(4, .int (x4 + 1)), (0, .ref g.1), (2, .int p2), (3, .int x3), (5, .int x5), (6, .int x6)] 3 rfl (by decide) (by decide) rfl dX4_surest_301 ?_
    refine v_goto C 106 (by decide) dX4_surest_304 ?_
    refine v_sub [1, 2, 3, 0] rfl ?_
    exact hk106 x3 (x4 + 1) u
  · refine v_aload_n C 0 rfl rfl dX4_surest_249 ?_
    refine v_getMa C 73 (by decide) (by decide) q1688 rfl dX4_surest_250 ?_
    refine v_iload C 5 rfl dX4_surest_253 ?_
    refine v_aload_n C 0 rfl rfl dX4_surest_255 ?_
    refine v_getMa C 74 (by decide) (by decide) q1689 rfl dX4_surest_256 ?_
    refine v_iload C 5 rfl dX4_surest_259 ?_
    refine v_chk (fun h1 => ?_)
    refine v_ialdM C h1 dX4_surest_261 ?_
    refine v_iload C 4 rfl dX4_surest_262 ?_
    refine v_if_eq C 291 (by decide) dX4_surest_264 (fun _ => ?_) (fun _ => ?_)
    · refine v_bipush C 10 (by decide) dX4_surest_291 ?_
      refine v_imul C dX4_surest_293 ?_
      refine v_chk (fun h2 => ?_)
      refine v_iastM C h2 dX4_surest_294 (fun u3 => ?_)
      refine v_iinc C 1 [(6, .int (x6 + 1)), (0, .ref g.1), (2, .int p2), (3, .int x3), (4, .int x4), (5, .int x5)] 5 rfl (by decide) (by decide) rfl dX4_surest_295 ?_
      refine v_goto C 240 (by decide) dX4_surest_298 ?_
      refine v_sub [1, 2, 3, 4, 5, 0] rfl ?_
      exact hk x3 x4 x5 (x6 + 1) u3
    · refine v_aload_n C 0 rfl rfl dX4_surest_267 ?_
      refine v_getMa C 8 (by decide) (by decide) q1623 rfl dX4_surest_268 ?_
      refine v_iload C 5 rfl dX4_surest_271 ?_
      refine v_chk (fun h2 => ?_)
      refine v_ialdM C h2 dX4_surest_273 ?_
      refine v_iconst C (-1) (by decide) dX4_surest_274 ?_
      refine v_icmp_eq C 291 (by decide) dX4_surest_275 (fun _ => ?_) (fun _ => ?_)
      · refine v_bipush C 10 (by decide) dX4_surest_291 ?_
        refine v_imul C dX4_surest_293 ?_
        refine v_chk (fun h3 => ?_)
        refine v_iastM C h3 dX4_surest_294 (fun u4 => ?_)
        refine v_iinc C 1 [(6, .int (x6 + 1)), (0, .ref g.1), (2, .int p2), (3, .int x3), (4, .int x4), (5, .int x5)] 5 rfl (by decide) (by decide) rfl dX4_surest_295 ?_
        refine v_goto C 240 (by decide) dX4_surest_298 ?_
        refine v_sub [1, 2, 3, 4, 5, 0] rfl ?_
        exact hk x3 x4 x5 (x6 + 1) u4
      · refine v_bipush C 10 (by decide) dX4_surest_278 ?_
        refine v_aload_n C 0 rfl rfl dX4_surest_280 ?_
        refine v_getMa C 8 (by decide) (by decide) q1623 rfl dX4_surest_281 ?_
        refine v_iload C 5 rfl dX4_surest_284 ?_
        refine v_chk (fun h3 => ?_)
        refine v_ialdM C h3 dX4_surest_286 ?_
        refine v_isub C dX4_surest_287 ?_
        refine v_goto C 293 (by decide) dX4_surest_288 ?_
        refine v_imul C dX4_surest_293 ?_
        refine v_chk (fun h4 => ?_)
        refine v_iastM C h4 dX4_surest_294 (fun u5 => ?_)
        refine v_iinc C 1 [(6, .int (x6 + 1)), (0, .ref g.1), (2, .int p2), (3, .int x3), (4, .int x4), (5, .int x5)] 5 rfl (by decide) (by decide) rfl dX4_surest_295 ?_
        refine v_goto C 240 (by decide) dX4_surest_298 ?_
        refine v_sub [1, 2, 3, 4, 5, 0] rfl ?_
        exact hk x3 x4 x5 (x6 + 1) u5
def f4_surest_154 (p1 : Int32) (p2 : Int32) (k106 : Int32 → Int32 → MS → Option (Int32 × MS)) (k : Int32 → Int32 → Int32 → MS → Option (Int32 × MS)) (x3 : Int32) (x4 : Int32) (x5 : Int32) (u : MS) : Option (Int32 × MS) :=
  if (u.1 3) ≤ x5 then
    if x3 = (-1) then
      ml4 (f4_surest_240 p1 p2 k106) FUEL x3 x4 0 0 u
    else
      if x4 < x3 then
        ml4 (f4_surest_240 p1 p2 k106) FUEL x3 x4 0 0 u
      else
        ml4 (f4_surest_240 p1 p2 k106) FUEL x3 x4 1 0 u
  else
    mb (f4_isPassable x5 x4 u) fun r2 u1 =>
    if r2 = 0 then
      k x3 x4 (x5 + 1) u1
    else
      mchk (inbM x5 9) <|
      mchk (inbM x5 10) <|
      mb (f4_surer (u1.2.1 9 x5.toNatClampNeg) (u1.2.1 10 x5.toNatClampNeg) u1) fun _ u5 =>
      mchk (inbM x5 10) <|
      mchk (inbM x5 9) <|
      mb (f4_surer (u5.2.1 10 x5.toNatClampNeg) (u5.2.1 9 x5.toNatClampNeg) u5) fun _ u8 =>
      k x3 x4 (x5 + 1) u8
theorem w4_surest_154 {p : Program} {e : Env} {s : State} {m : MethodId} {args : Array Value} {below : List Frame} {meth : Method} {c : Code} (C : Cx t p s m args meth c yX4_surest cX4_surest 7 (some .int)) (p1 : Int32) (p2 : Int32) (k106 : Int32 → Int32 → MS → Option (Int32 × MS)) (hk106 : ∀ (x3 : Int32) (x4 : Int32) (u : MS), VM mkI t g p l e LV_surest s m args below meth c 7 106 [(0, .ref g.1), (2, .int p2), (3, .int x3), (4, .int x4)] [] u (k106 x3 x4 u)) (n : Nat) (x3 : Int32) (x4 : Int32) (x5 : Int32) (u : MS) : VM mkI t g p l e LV_surest s m args below meth c 7 154 [(0, .ref g.1), (2, .int p2), (3, .int x3), (4, .int x4), (5, .int x5)] [] u (ml3 (f4_surest_154 p1 p2 k106) n x3 x4 x5 u) := by
  refine vl3 (L := fun x3 x4 x5 => [(0, .ref g.1), (2, .int p2), (3, .int x3), (4, .int x4), (5, .int x5)]) (fun k hk x3 x4 x5 u => ?_) n x3 x4 x5 u
  unfold f4_surest_154
  refine v_iload C 4 rfl dX4_surest_154 ?_
  refine v_aload_n C 0 rfl rfl dX4_surest_156 ?_
  refine v_getMi C 3 (by decide) (by decide) q1618 rfl dX4_surest_157 ?_
  refine v_icmp_ge C 219 (by decide) dX4_surest_160 (fun _ => ?_) (fun _ => ?_)
  · refine v_iload_n C 2 rfl rfl dX4_surest_219 ?_
    refine v_iconst C (-1) (by decide) dX4_surest_220 ?_
    refine v_icmp_eq C 234 (by decide) dX4_surest_221 (fun _ => ?_) (fun _ => ?_)
    · refine v_iconst C 0 (by decide) dX4_surest_234 ?_
      refine v_istore C [(5, .int 0), (0, .ref g.1), (2, .int p2), (3, .int x3), (4, .int x4)] (by decide) rfl dX4_surest_235 ?_
      refine v_iconst C 0 (by decide) dX4_surest_237 ?_
      refine v_istore C [(6, .int 0), (5, .int 0), (0, .ref g.1), (2, .int p2), (3, .int x3), (4, .int x4)] (by decide) rfl dX4_surest_238 ?_
      refine v_sub [2, 3, 4, 5, 1, 0] rfl ?_
      exact w4_surest_240 C p1 p2 k106 hk106 FUEL x3 x4 0 0 u
    · refine v_iload C 3 rfl dX4_surest_224 ?_
      refine v_iload_n C 2 rfl rfl dX4_surest_226 ?_
      refine v_icmp_lt C 234 (by decide) dX4_surest_227 (fun _ => ?_) (fun _ => ?_)
      · refine v_iconst C 0 (by decide) dX4_surest_234 ?_
        refine v_istore C [(5, .int 0), (0, .ref g.1), (2, .int p2), (3, .int x3), (4, .int x4)] (by decide) rfl dX4_surest_235 ?_
        refine v_iconst C 0 (by decide) dX4_surest_237 ?_
        refine v_istore C [(6, .int 0), (5, .int 0), (0, .ref g.1), (2, .int p2), (3, .int x3), (4, .int x4)] (by decide) rfl dX4_surest_238 ?_
        refine v_sub [2, 3, 4, 5, 1, 0] rfl ?_
        exact w4_surest_240 C p1 p2 k106 hk106 FUEL x3 x4 0 0 u
      · refine v_iconst C 1 (by decide) dX4_surest_230 ?_
        refine v_goto C 235 (by decide) dX4_surest_231 ?_
        refine v_istore C [(5, .int 1), (0, .ref g.1), (2, .int p2), (3, .int x3), (4, .int x4)] (by decide) rfl dX4_surest_235 ?_
        refine v_iconst C 0 (by decide) dX4_surest_237 ?_
        refine v_istore C [(6, .int 0), (5, .int 1), (0, .ref g.1), (2, .int p2), (3, .int x3), (4, .int x4)] (by decide) rfl dX4_surest_238 ?_
        refine v_sub [2, 3, 4, 5, 1, 0] rfl ?_
        exact w4_surest_240 C p1 p2 k106 hk106 FUEL x3 x4 1 0 u
  · refine v_aload_n C 0 rfl rfl dX4_surest_163 ?_
    refine v_iload C 4 rfl dX4_surest_164 ?_
    refine v_iload C 3 rfl dX4_surest_166 ?_
    refine v_callVM C [.int x5, .int x4] [] (ct4_isPassable t g l x5 x4 u) (cw4_isPassable C q2164 (by decide)) rfl rfl (Nat.le_of_ble_eq_true rfl) dX4_surest_168 (fun r2 u1 => ?_)
    refine v_if_ne C 177 (by decide) dX4_surest_171 (fun _ => ?_) (fun _ => ?_)
    · refine v_goto C 213 (by decide) dX4_surest_174 ?_
      refine v_iinc C 1 [(5, .int (x5 + 1)), (0, .ref g.1), (2, .int p2), (3, .int x3), (4, .int x4)] 4 rfl (by decide) (by decide) rfl dX4_surest_213 ?_
      refine v_goto C 154 (by decide) dX4_surest_216 ?_
      refine v_sub [1, 2, 3, 4, 0] rfl ?_
      exact hk x3 x4 (x5 + 1) u1
    · refine v_aload_n C 0 rfl rfl dX4_surest_177 ?_
      refine v_aload_n C 0 rfl rfl dX4_surest_178 ?_
      refine v_getMa C 9 (by decide) (by decide) q1624 rfl dX4_surest_179 ?_
      refine v_iload C 4 rfl dX4_surest_182 ?_
      refine v_chk (fun h3 => ?_)
      refine v_ialdM C h3 dX4_surest_184 ?_
      refine v_aload_n C 0 rfl rfl dX4_surest_185 ?_
      refine v_getMa C 10 (by decide) (by decide) q1625 rfl dX4_surest_186 ?_
      refine v_iload C 4 rfl dX4_surest_189 ?_
      refine v_chk (fun h4 => ?_)
      refine v_ialdM C h4 dX4_surest_191 ?_
      refine v_callVM C [.int (u1.2.1 9 x5.toNatClampNeg), .int (u1.2.1 10 x5.toNatClampNeg)] [] (ct4_surer t g l (u1.2.1 9 x5.toNatClampNeg) (u1.2.1 10 x5.toNatClampNeg) u1) (cw4_surer C q2252 (by decide)) rfl rfl (Nat.le_of_ble_eq_true rfl) dX4_surest_192 (fun _ u5 => ?_)
      refine v_aload_n C 0 rfl rfl dX4_surest_195 ?_
      refine v_aload_n C 0 rfl rfl dX4_surest_196 ?_
      refine v_getMa C 10 (by decide) (by decide) q1625 rfl dX4_surest_197 ?_
      refine v_iload C 4 rfl dX4_surest_200 ?_
      refine v_chk (fun h6 => ?_)
      refine v_ialdM C h6 dX4_surest_202 ?_
      refine v_aload_n C 0 rfl rfl dX4_surest_203 ?_
      refine v_getMa C 9 (by decide) (by decide) q1624 rfl dX4_surest_204 ?_
      refine v_iload C 4 rfl dX4_surest_207 ?_
      refine v_chk (fun h7 => ?_)
      refine v_ialdM C h7 dX4_surest_209 ?_
      refine v_callVM C [.int (u5.2.1 10 x5.toNatClampNeg), .int (u5.2.1 9 x5.toNatClampNeg)] [] (ct4_surer t g l (u5.2.1 10 x5.toNatClampNeg) (u5.2.1 9 x5.toNatClampNeg) u5) (cw4_surer C q2252 (by decide)) rfl rfl (Nat.le_of_ble_eq_true rfl) dX4_surest_210 (fun _ u8 => ?_)
      refine v_iinc C 1 [(5, .int (x5 + 1)), (0, .ref g.1), (2, .int p2), (3, .int x3), (4, .int x4)] 4 rfl (by decide) (by decide) rfl dX4_surest_213 ?_
      refine v_goto C 154 (by decide) dX4_surest_216 ?_
      refine v_sub [1, 2, 3, 4, 0] rfl ?_
      exact hk x3 x4 (x5 + 1) u8
def f4_surest_122 (p1 : Int32) (p2 : Int32) (k106 : Int32 → Int32 → MS → Option (Int32 × MS)) (k : Int32 → Int32 → Int32 → MS → Option (Int32 × MS)) (x3 : Int32) (x4 : Int32) (x5 : Int32) (u : MS) : Option (Int32 × MS) :=
  if (u.1 2) ≤ x5 then
    ml3 (f4_surest_154 p1 p2 k106) FUEL x3 x4 0 u
  else
    mchk (inbM x5 73) <|
    mchk (inbM x5 74) <|
    mlet (mA u 74 x5.toNatClampNeg (u.2.1 73 x5.toNatClampNeg)) fun u3 =>
    k x3 x4 (x5 + 1) u3
theorem w4_surest_122 {p : Program} {e : Env} {s : State} {m : MethodId} {args : Array Value} {below : List Frame} {meth : Method} {c : Code} (C : Cx t p s m args meth c yX4_surest cX4_surest 7 (some .int)) (p1 : Int32) (p2 : Int32) (k106 : Int32 → Int32 → MS → Option (Int32 × MS)) (hk106 : ∀ (x3 : Int32) (x4 : Int32) (u : MS), VM mkI t g p l e LV_surest s m args below meth c 7 106 [(0, .ref g.1), (2, .int p2), (3, .int x3), (4, .int x4)] [] u (k106 x3 x4 u)) (n : Nat) (x3 : Int32) (x4 : Int32) (x5 : Int32) (u : MS) : VM mkI t g p l e LV_surest s m args below meth c 7 122 [(0, .ref g.1), (2, .int p2), (3, .int x3), (4, .int x4), (5, .int x5)] [] u (ml3 (f4_surest_122 p1 p2 k106) n x3 x4 x5 u) := by
  refine vl3 (L := fun x3 x4 x5 => [(0, .ref g.1), (2, .int p2), (3, .int x3), (4, .int x4), (5, .int x5)]) (fun k hk x3 x4 x5 u => ?_) n x3 x4 x5 u
  unfold f4_surest_122
  refine v_iload C 4 rfl dX4_surest_122 ?_
  refine v_aload_n C 0 rfl rfl dX4_surest_124 ?_
  refine v_getMi C 2 (by decide) (by decide) q1617 rfl dX4_surest_125 ?_
  refine v_icmp_ge C 151 (by decide) dX4_surest_128 (fun _ => ?_) (fun _ => ?_)
  · refine v_iconst C 0 (by decide) dX4_surest_151 ?_
    refine v_istore C [(5, .int 0), (0, .ref g.1), (2, .int p2), (3, .int x3), (4, .int x4)] (by decide) rfl dX4_surest_152 ?_
    refine v_sub [1, 2, 3, 4, 0] rfl ?_
    exact w4_surest_154 C p1 p2 k106 hk106 FUEL x3 x4 0 u
  · refine v_aload_n C 0 rfl rfl dX4_surest_131 ?_
    refine v_getMa C 74 (by decide) (by decide) q1689 rfl dX4_surest_132 ?_
    refine v_iload C 4 rfl dX4_surest_135 ?_
    refine v_aload_n C 0 rfl rfl dX4_surest_137 ?_
    refine v_getMa C 73 (by decide) (by decide) q1688 rfl dX4_surest_138 ?_
    refine v_iload C 4 rfl dX4_surest_141 ?_
    refine v_chk (fun h1 => ?_)
    refine v_ialdM C h1 dX4_surest_143 ?_
    refine v_chk (fun h2 => ?_)
    refine v_iastM C h2 dX4_surest_144 (fun u3 => ?_)
    refine v_iinc C 1 [(5, .int (x5 + 1)), (0, .ref g.1), (2, .int p2), (3, .int x3), (4, .int x4)] 4 rfl (by decide) (by decide) rfl dX4_surest_145 ?_
    refine v_goto C 122 (by decide) dX4_surest_148 ?_
    refine v_sub [1, 2, 3, 4, 0] rfl ?_
    exact hk x3 x4 (x5 + 1) u3
def f4_surest_106 (p1 : Int32) (p2 : Int32) (k : Int32 → Int32 → MS → Option (Int32 × MS)) (x3 : Int32) (x4 : Int32) (u : MS) : Option (Int32 × MS) :=
  if ((u.2.1 54 (0 : Int32).toNatClampNeg) + p2) ≤ x4 then
    ml2 (f4_surest_313 p1 p2) FUEL 0 0 u
  else
    ml3 (f4_surest_122 p1 p2 k) FUEL x3 x4 0 u
theorem w4_surest_106 {p : Program} {e : Env} {s : State} {m : MethodId} {args : Array Value} {below : List Frame} {meth : Method} {c : Code} (C : Cx t p s m args meth c yX4_surest cX4_surest 7 (some .int)) (p1 : Int32) (p2 : Int32) (n : Nat) (x3 : Int32) (x4 : Int32) (u : MS) : VM mkI t g p l e LV_surest s m args below meth c 7 106 [(0, .ref g.1), (2, .int p2), (3, .int x3), (4, .int x4)] [] u (ml2 (f4_surest_106 p1 p2) n x3 x4 u) := by
  refine vl2 (L := fun x3 x4 => [(0, .ref g.1), (2, .int p2), (3, .int x3), (4, .int x4)]) (fun k hk x3 x4 u => ?_) n x3 x4 u
  unfold f4_surest_106
  refine v_iload C 3 rfl dX4_surest_106 ?_
  refine v_aload_n C 0 rfl rfl dX4_surest_108 ?_
  refine v_getMa C 54 (by decide) (by decide) q1669 rfl dX4_surest_109 ?_
  refine v_iconst C 0 (by decide) dX4_surest_112 ?_
  refine v_ialdM C (by decide) dX4_surest_113 ?_
  refine v_iload_n C 1 rfl rfl dX4_surest_114 ?_
  refine v_iadd C dX4_surest_115 ?_
  refine v_icmp_ge C 307 (by decide) dX4_surest_116 (fun _ => ?_) (fun _ => ?_)
  · refine v_iconst C 0 (by decide) dX4_surest_307 ?_
    refine v_istore C [(4, .int 0), (0, .ref g.1), (2, .int p2), (3, .int x3)] (by decide) rfl dX4_surest_308 ?_
    refine v_iconst C 0 (by decide) dX4_surest_310 ?_
    refine v_istore C [(5, .int 0), (4, .int 0), (0, .ref g.1), (2, .int p2), (3, .int x3)] (by decide) rfl dX4_surest_311 ?_
    refine v_sub [2, 1, 0] rfl ?_
    exact w4_surest_313 C p1 p2 FUEL 0 0 u
  · refine v_iconst C 0 (by decide) dX4_surest_119 ?_
    refine v_istore C [(5, .int 0), (0, .ref g.1), (2, .int p2), (3, .int x3), (4, .int x4)] (by decide) rfl dX4_surest_120 ?_
    refine v_sub [1, 2, 3, 4, 0] rfl ?_
    exact w4_surest_122 C p1 p2 k hk FUEL x3 x4 0 u
def f4_surest_59 (p1 : Int32) (p2 : Int32) (k : Int32 → Int32 → MS → Option (Int32 × MS)) (x3 : Int32) (x4 : Int32) (u : MS) : Option (Int32 × MS) :=
  if 8 ≤ x4 then
    mlet (u.2.1 54 (0 : Int32).toNatClampNeg) fun v1 =>
    ml2 (f4_surest_106 p1 p2) FUEL x3 v1 u
  else
    mchk (inbM (22 + p1) 54) <|
    if x4 = (u.2.1 54 (22 + p1).toNatClampNeg) then
      mchk (inbM x4 73) <|
      mlet (mA u 73 x4.toNatClampNeg 1) fun u3 =>
      k x3 (x4 + 1) u3
    else
      mchk (inbM x4 73) <|
      mlet (mA u 73 x4.toNatClampNeg 0) fun u3 =>
      k x3 (x4 + 1) u3
theorem w4_surest_59 {p : Program} {e : Env} {s : State} {m : MethodId} {args : Array Value} {below : List Frame} {meth : Method} {c : Code} (C : Cx t p s m args meth c yX4_surest cX4_surest 7 (some .int)) (p1 : Int32) (p2 : Int32) (n : Nat) (x3 : Int32) (x4 : Int32) (u : MS) : VM mkI t g p l e LV_surest s m args below meth c 7 59 [(0, .ref g.1), (1, .int p1), (2, .int p2), (3, .int x3), (4, .int x4)] [] u (ml2 (f4_surest_59 p1 p2) n x3 x4 u) := by
  refine vl2 (L := fun x3 x4 => [(0, .ref g.1), (1, .int p1), (2, .int p2), (3, .int x3), (4, .int x4)]) (fun k hk x3 x4 u => ?_) n x3 x4 u
  unfold f4_surest_59
  refine v_iload C 4 rfl dX4_surest_59 ?_
  refine v_bipush C 8 (by decide) dX4_surest_61 ?_
  refine v_icmp_ge C 98 (by decide) dX4_surest_63 (fun _ => ?_) (fun _ => ?_)
  · refine v_aload_n C 0 rfl rfl dX4_surest_98 ?_
    refine v_getMa C 54 (by decide) (by decide) q1669 rfl dX4_surest_99 ?_
    refine v_iconst C 0 (by decide) dX4_surest_102 ?_
    refine v_ialdM C (by decide) dX4_surest_103 ?_
    refine v_topi (fun v1 => ?_)
    refine v_istore C [(4, .int v1), (0, .ref g.1), (1, .int p1), (2, .int p2), (3, .int x3)] (by decide) rfl dX4_surest_104 ?_
    refine v_sub [1, 3, 4, 0] rfl ?_
    exact w4_surest_106 C p1 p2 FUEL x3 v1 u
  · refine v_aload_n C 0 rfl rfl dX4_surest_66 ?_
    refine v_getMa C 73 (by decide) (by decide) q1688 rfl dX4_surest_67 ?_
    refine v_iload C 4 rfl dX4_surest_70 ?_
    refine v_iload C 4 rfl dX4_surest_72 ?_
    refine v_aload_n C 0 rfl rfl dX4_surest_74 ?_
    refine v_getMa C 54 (by decide) (by decide) q1669 rfl dX4_surest_75 ?_
    refine v_bipush C 22 (by decide) dX4_surest_78 ?_
    refine v_iload_n C 1 rfl rfl dX4_surest_80 ?_
    refine v_iadd C dX4_surest_81 ?_
    refine v_chk (fun h1 => ?_)
    refine v_ialdM C h1 dX4_surest_82 ?_
    refine v_icmp_ne C 90 (by decide) dX4_surest_83 (fun _ => ?_) (fun _ => ?_)
    · refine v_iconst C 1 (by decide) dX4_surest_86 ?_
      refine v_goto C 91 (by decide) dX4_surest_87 ?_
      refine v_chk (fun h2 => ?_)
      refine v_iastM C h2 dX4_surest_91 (fun u3 => ?_)
      refine v_iinc C 1 [(4, .int (x4 + 1)), (0, .ref g.1), (1, .int p1), (2, .int p2), (3, .int x3)] 4 rfl (by decide) (by decide) rfl dX4_surest_92 ?_
      refine v_goto C 59 (by decide) dX4_surest_95 ?_
      refine v_sub [1, 2, 3, 4, 0] rfl ?_
      exact hk x3 (x4 + 1) u3
    · refine v_iconst C 0 (by decide) dX4_surest_90 ?_
      refine v_chk (fun h2 => ?_)
      refine v_iastM C h2 dX4_surest_91 (fun u3 => ?_)
      refine v_iinc C 1 [(4, .int (x4 + 1)), (0, .ref g.1), (1, .int p1), (2, .int p2), (3, .int x3)] 4 rfl (by decide) (by decide) rfl dX4_surest_92 ?_
      refine v_goto C 59 (by decide) dX4_surest_95 ?_
      refine v_sub [1, 2, 3, 4, 0] rfl ?_
      exact hk x3 (x4 + 1) u3
def f4_surest (p1 : Int32) (p2 : Int32) (u : MS) : Option (Int32 × MS) :=
  mlet (mS u 0 0) fun u1 =>
  mb (f4_isPerson p1 u1) fun r3 u2 =>
  if r3 = 0 then
    some (0, u2)
  else
    mb (f4_within p2 1 9 u2) fun r5 u4 =>
    mb (f4_right r5 2 u4) fun r7 u6 =>
    if r7 = 0 then
      some (0, u6)
    else
      mb (f4_isDead 54 p1 u6) fun r9 u8 =>
      if r9 = 0 then
        mb (f4_playsAll u8) fun _ u10 =>
        mchk (inbM (4 + p1) 68) <|
        mlet (u10.2.1 68 (4 + p1).toNatClampNeg) fun v12 =>
        ml2 (f4_surest_59 p1 p2) FUEL v12 0 u10
      else
        some (0, u8)
theorem ct4_surest (t : TT) (g : GM) (l : Launch) (p1 : Int32) (p2 : Int32) (u : MS) : CtM mkI t g l yX4_surest cX4_surest 7 (some .int) LV_surest [.ref g.1, .int p1, .int p2] u (f4_surest p1 p2 u) := by
  refine ctM_of [(0, .ref g.1), (1, .int p1), (2, .int p2)] rfl (Nat.le_of_ble_eq_true rfl) rfl (fun p e s m args below meth c C => ?_)
  unfold f4_surest
  refine v_aload_n C 0 rfl rfl dX4_surest_0 ?_
  refine v_iconst C 0 (by decide) dX4_surest_1 ?_
  refine v_putMi C 0 (by decide) (by decide) q1615 rfl rfl (by decide +kernel) dX4_surest_2 (fun u1 => ?_)
  refine v_aload_n C 0 rfl rfl dX4_surest_5 ?_
  refine v_iload_n C 1 rfl rfl dX4_surest_6 ?_
  refine v_callVM C [.int p1] [] (ct4_isPerson t g l p1 u1) (cw4_isPerson C q2084 (by decide)) rfl rfl (Nat.le_of_ble_eq_true rfl) dX4_surest_7 (fun r3 u2 => ?_)
  refine v_if_eq C 28 (by decide) dX4_surest_10 (fun _ => ?_) (fun _ => ?_)
  · refine v_iconst C 0 (by decide) dX4_surest_28 ?_
    exact v_iretM C dX4_surest_29
  · refine v_aload_n C 0 rfl rfl dX4_surest_13 ?_
    refine v_iload_n C 2 rfl rfl dX4_surest_14 ?_
    refine v_iconst C 1 (by decide) dX4_surest_15 ?_
    refine v_bipush C 9 (by decide) dX4_surest_16 ?_
    refine v_callSM C [.int p2, .int 1, .int 9] [.ref g.1] (ct4_within t g l p2 1 9 u2) (cw4_within C q2037 (by decide)) rfl rfl (Nat.le_of_ble_eq_true rfl) dX4_surest_18 (fun r5 u4 => ?_)
    refine v_iconst C 2 (by decide) dX4_surest_21 ?_
    refine v_callVM C [.int r5, .int 2] [] (ct4_right t g l r5 2 u4) (cw4_right C q1894 (by decide)) rfl rfl (Nat.le_of_ble_eq_true rfl) dX4_surest_22 (fun r7 u6 => ?_)
    refine v_if_ne C 30 (by decide) dX4_surest_25 (fun _ => ?_) (fun _ => ?_)
    · refine v_iconst C 0 (by decide) dX4_surest_28 ?_
      exact v_iretM C dX4_surest_29
    · refine v_aload_n C 0 rfl rfl dX4_surest_30 ?_
      refine v_getMa C 54 (by decide) (by decide) q1669 rfl dX4_surest_31 ?_
      refine v_iload_n C 1 rfl rfl dX4_surest_34 ?_
      refine v_callSM C [.ref (g.2 54), .int p1] [] (ct4_isDead t g l 54 p1 u6) (cw4_isDead C q2149 (by decide)) rfl rfl (Nat.le_of_ble_eq_true rfl) dX4_surest_35 (fun r9 u8 => ?_)
      refine v_if_eq C 43 (by decide) dX4_surest_38 (fun _ => ?_) (fun _ => ?_)
      · refine v_aload_n C 0 rfl rfl dX4_surest_43 ?_
        refine v_callVM C [] [] (ct4_playsAll t g l u8) (cw4_playsAll C q2184 (by decide)) rfl rfl (Nat.le_of_ble_eq_true rfl) dX4_surest_44 (fun _ u10 => ?_)
        refine v_aload_n C 0 rfl rfl dX4_surest_47 ?_
        refine v_getMa C 68 (by decide) (by decide) q1683 rfl dX4_surest_48 ?_
        refine v_iconst C 4 (by decide) dX4_surest_51 ?_
        refine v_iload_n C 1 rfl rfl dX4_surest_52 ?_
        refine v_iadd C dX4_surest_53 ?_
        refine v_chk (fun h11 => ?_)
        refine v_ialdM C h11 dX4_surest_54 ?_
        refine v_topi (fun v12 => ?_)
        refine v_istore_n C [(3, .int v12), (0, .ref g.1), (1, .int p1), (2, .int p2)] rfl (by decide) rfl dX4_surest_55 ?_
        refine v_iconst C 0 (by decide) dX4_surest_56 ?_
        refine v_istore C [(4, .int 0), (3, .int v12), (0, .ref g.1), (1, .int p1), (2, .int p2)] (by decide) rfl dX4_surest_57 ?_
        refine v_sub [2, 3, 4, 1, 0] rfl ?_
        exact w4_surest_59 C p1 p2 FUEL v12 0 u10
      · refine v_iconst C 0 (by decide) dX4_surest_41 ?_
        exact v_iretM C dX4_surest_42
theorem cw4_surest {t : TT} {p : Program} {s : State} {m : MethodId} {args : Array Value} {meth : Method} {c : Code} {y0 : MethodName} {cc0 : ByteArray} {nL0 : Nat} {ret0 : Option FieldType} (C : Cx t p s m args meth c y0 cc0 nL0 ret0) {index lv : Nat} (hq : Cond.methodLink y0.cls index yX4_surest ∈ lw_all) (hR : LV_surest + 1 ≤ lv) : CallW (rmM lv) s args y0.cls RX4 index yX4_surest cX4_surest 7 (some .int) (ws_ yX4_surest cX4_surest 7 (some .int)) (rmM LV_surest) 0 0 2 :=
  cwV 2 C.2.2.2.2.1 (lw_V hq q2249 q2250 q127 q2251) rfl rfl rfl (by decide +kernel) ⟨hR, by show 8 + (7 + 11) + 100 * LV_surest ≤ 100 * lv; omega⟩
abbrev LV_deadBy : Nat := 6
def f4_deadBy_35 (p1 : Int32) (x2 : Int32) (u : MS) : Option (Int32 × MS) :=
  if x2 ≤ p1 then
    some ((u.2.1 68 (1 : Int32).toNatClampNeg), u)
  else
    mb (f4_plays 68 p1 (x2 - p1) u) fun _ u1 =>
    some ((u1.2.1 68 (1 : Int32).toNatClampNeg), u1)
theorem w4_deadBy_35 {p : Program} {e : Env} {s : State} {m : MethodId} {args : Array Value} {below : List Frame} {meth : Method} {c : Code} (C : Cx t p s m args meth c yX4_deadBy cX4_deadBy 3 (some .int)) (p1 : Int32) (x2 : Int32) (u : MS) : VM mkI t g p l e LV_deadBy s m args below meth c 3 35 [(0, .ref g.1), (1, .int p1), (2, .int x2)] [] u (f4_deadBy_35 p1 x2 u) := by
  unfold f4_deadBy_35
  refine v_iload_n C 1 rfl rfl dX4_deadBy_35 ?_
  refine v_iload_n C 2 rfl rfl dX4_deadBy_36 ?_
  refine v_icmp_ge C 52 (by decide) dX4_deadBy_37 (fun _ => ?_) (fun _ => ?_)
  · refine v_aload_n C 0 rfl rfl dX4_deadBy_52 ?_
    refine v_getMa C 68 (by decide) (by decide) q1683 rfl dX4_deadBy_53 ?_
    refine v_iconst C 1 (by decide) dX4_deadBy_56 ?_
    refine v_ialdM C (by decide) dX4_deadBy_57 ?_
    exact v_iretM C dX4_deadBy_58
  · refine v_aload_n C 0 rfl rfl dX4_deadBy_40 ?_
    refine v_aload_n C 0 rfl rfl dX4_deadBy_41 ?_
    refine v_getMa C 68 (by decide) (by decide) q1683 rfl dX4_deadBy_42 ?_
    refine v_iload_n C 1 rfl rfl dX4_deadBy_45 ?_
    refine v_iload_n C 2 rfl rfl dX4_deadBy_46 ?_
    refine v_iload_n C 1 rfl rfl dX4_deadBy_47 ?_
    refine v_isub C dX4_deadBy_48 ?_
    refine v_callVM C [.ref (g.2 68), .int p1, .int (x2 - p1)] [] (ct4_plays t g l 68 p1 (x2 - p1) u) (cw4_plays C q2125 (by decide)) rfl rfl (Nat.le_of_ble_eq_true rfl) dX4_deadBy_49 (fun _ u1 => ?_)
    refine v_aload_n C 0 rfl rfl dX4_deadBy_52 ?_
    refine v_getMa C 68 (by decide) (by decide) q1683 rfl dX4_deadBy_53 ?_
    refine v_iconst C 1 (by decide) dX4_deadBy_56 ?_
    refine v_ialdM C (by decide) dX4_deadBy_57 ?_
    exact v_iretM C dX4_deadBy_58
def f4_deadBy (p1 : Int32) (u : MS) : Option (Int32 × MS) :=
  mb (f4_begins u) fun _ u1 =>
  mb (f4_mornings0 u1) fun r3 u2 =>
  mb (f4_lesser p1 r3 u2) fun r5 u4 =>
  mb (f4_plays 68 0 r5 u4) fun _ u6 =>
  if r3 ≤ p1 then
    f4_deadBy_35 p1 r3 u6
  else
    mlet (mA u6 68 (3 : Int32).toNatClampNeg 0) fun u7 =>
    f4_deadBy_35 p1 r3 u7
theorem ct4_deadBy (t : TT) (g : GM) (l : Launch) (p1 : Int32) (u : MS) : CtM mkI t g l yX4_deadBy cX4_deadBy 3 (some .int) LV_deadBy [.ref g.1, .int p1] u (f4_deadBy p1 u) := by
  refine ctM_of [(0, .ref g.1), (1, .int p1)] rfl (Nat.le_of_ble_eq_true rfl) rfl (fun p e s m args below meth c C => ?_)
  unfold f4_deadBy
  refine v_aload_n C 0 rfl rfl dX4_deadBy_0 ?_
  refine v_callVM C [] [] (ct4_begins t g l u) (cw4_begins C q2188 (by decide)) rfl rfl (Nat.le_of_ble_eq_true rfl) dX4_deadBy_1 (fun _ u1 => ?_)
  refine v_aload_n C 0 rfl rfl dX4_deadBy_4 ?_
  refine v_callVM C [] [] (ct4_mornings0 t g l u1) (cw4_mornings0 C q2192 (by decide)) rfl rfl (Nat.le_of_ble_eq_true rfl) dX4_deadBy_5 (fun r3 u2 => ?_)
  refine v_istore_n C [(2, .int r3), (0, .ref g.1), (1, .int p1)] rfl (by decide) rfl dX4_deadBy_8 ?_
  refine v_aload_n C 1 rfl rfl dX4_deadBy_9 ?_
  refine v_aload_n C 1 rfl rfl dX4_deadBy_10 ?_
  refine v_getMa C 68 (by decide) (by decide) q1683 rfl dX4_deadBy_11 ?_
  refine v_iconst C 0 (by decide) dX4_deadBy_14 ?_
  refine v_iload_n C 2 rfl rfl dX4_deadBy_15 ?_
  refine v_iload_n C 0 rfl rfl dX4_deadBy_16 ?_
  refine v_callSM C [.int p1, .int r3] [.int 0, .ref (g.2 68), .ref g.1] (ct4_lesser t g l p1 r3 u2) (cw4_lesser C q2092 (by decide)) rfl rfl (Nat.le_of_ble_eq_true rfl) dX4_deadBy_17 (fun r5 u4 => ?_)
  refine v_callVM C [.ref (g.2 68), .int 0, .int r5] [] (ct4_plays t g l 68 0 r5 u4) (cw4_plays C q2125 (by decide)) rfl rfl (Nat.le_of_ble_eq_true rfl) dX4_deadBy_20 (fun _ u6 => ?_)
  refine v_iload_n C 2 rfl rfl dX4_deadBy_23 ?_
  refine v_iload_n C 0 rfl rfl dX4_deadBy_24 ?_
  refine v_icmp_ge C 35 (by decide) dX4_deadBy_25 (fun _ => ?_) (fun _ => ?_)
  · refine v_sub [1, 2, 0] rfl ?_
    exact w4_deadBy_35 C p1 r3 u6
  · refine v_aload_n C 1 rfl rfl dX4_deadBy_28 ?_
    refine v_getMa C 68 (by decide) (by decide) q1683 rfl dX4_deadBy_29 ?_
    refine v_iconst C 3 (by decide) dX4_deadBy_32 ?_
    refine v_iconst C 0 (by decide) dX4_deadBy_33 ?_
    refine v_iastM C (by decide) dX4_deadBy_34 (fun u7 => ?_)
    refine v_sub [1, 2, 0] rfl ?_
    exact w4_deadBy_35 C p1 r3 u7
theorem cw4_deadBy {t : TT} {p : Program} {s : State} {m : MethodId} {args : Array Value} {meth : Method} {c : Code} {y0 : MethodName} {cc0 : ByteArray} {nL0 : Nat} {ret0 : Option FieldType} (C : Cx t p s m args meth c y0 cc0 nL0 ret0) {index lv : Nat} (hq : Cond.methodLink y0.cls index yX4_deadBy ∈ lw_all) (hR : LV_deadBy + 1 ≤ lv) : CallW (rmM lv) s args y0.cls RX4 index yX4_deadBy cX4_deadBy 3 (some .int) (ws_ yX4_deadBy cX4_deadBy 3 (some .int)) (rmM LV_deadBy) 0 0 1 :=
  cwV 1 C.2.2.2.2.1 (lw_V hq q2262 qs112 q127 q2263) rfl rfl rfl (by decide +kernel) ⟨hR, by show 8 + (3 + 11) + 100 * LV_deadBy ≤ 100 * lv; omega⟩
abbrev LV_close : Nat := 7
def f4_close_27 (p1 : Int32) (k : Int32 → MS → Option (Int32 × MS)) (x2 : Int32) (u : MS) : Option (Int32 × MS) :=
  if x2 < 0 then
    some (-1, u)
  else
    mb (f4_deadBy x2 u) fun r2 u1 =>
    mb (f4_bits r2 u1) fun r4 u3 =>
    if p1 < r4 then
      k (x2 + (-1)) u3
    else
      some (((u3.2.1 54 (0 : Int32).toNatClampNeg) + x2), u3)
theorem w4_close_27 {p : Program} {e : Env} {s : State} {m : MethodId} {args : Array Value} {below : List Frame} {meth : Method} {c : Code} (C : Cx t p s m args meth c yX4_close cX4_close 3 (some .int)) (p1 : Int32) (n : Nat) (x2 : Int32) (u : MS) : VM mkI t g p l e LV_close s m args below meth c 3 27 [(0, .ref g.1), (1, .int p1), (2, .int x2)] [] u (ml1 (f4_close_27 p1) n x2 u) := by
  refine vl1 (L := fun x2 => [(0, .ref g.1), (1, .int p1), (2, .int x2)]) (fun k hk x2 u => ?_) n x2 u
  unfold f4_close_27
  refine v_iload_n C 2 rfl rfl dX4_close_27 ?_
  refine v_if_lt C 58 (by decide) dX4_close_28 (fun _ => ?_) (fun _ => ?_)
  · refine v_iconst C (-1) (by decide) dX4_close_58 ?_
    exact v_iretM C dX4_close_59
  · refine v_aload_n C 0 rfl rfl dX4_close_31 ?_
    refine v_iload_n C 2 rfl rfl dX4_close_32 ?_
    refine v_callVM C [.int x2] [] (ct4_deadBy t g l x2 u) (cw4_deadBy C q2260 (by decide)) rfl rfl (Nat.le_of_ble_eq_true rfl) dX4_close_33 (fun r2 u1 => ?_)
    refine v_callSM C [.int r2] [] (ct4_bits t g l r2 u1) (cw4_bits C q2103 (by decide)) rfl rfl (Nat.le_of_ble_eq_true rfl) dX4_close_36 (fun r4 u3 => ?_)
    refine v_iload_n C 1 rfl rfl dX4_close_39 ?_
    refine v_icmp_gt C 52 (by decide) dX4_close_40 (fun _ => ?_) (fun _ => ?_)
    · refine v_iinc C (-1) [(2, .int (x2 + (-1))), (0, .ref g.1), (1, .int p1)] 2 rfl (by decide) (by decide) rfl dX4_close_52 ?_
      refine v_goto C 27 (by decide) dX4_close_55 ?_
      refine v_sub [1, 2, 0] rfl ?_
      exact hk (x2 + (-1)) u3
    · refine v_aload_n C 0 rfl rfl dX4_close_43 ?_
      refine v_getMa C 54 (by decide) (by decide) q1669 rfl dX4_close_44 ?_
      refine v_iconst C 0 (by decide) dX4_close_47 ?_
      refine v_ialdM C (by decide) dX4_close_48 ?_
      refine v_iload_n C 2 rfl rfl dX4_close_49 ?_
      refine v_iadd C dX4_close_50 ?_
      exact v_iretM C dX4_close_51
def f4_close (p1 : Int32) (u : MS) : Option (Int32 × MS) :=
  mlet (mS u 0 0) fun u1 =>
  mb (f4_within p1 0 9 u1) fun r3 u2 =>
  mb (f4_right r3 1 u2) fun r5 u4 =>
  if r5 = 0 then
    some (0, u4)
  else
    mb (f4_mornings0 u4) fun r7 u6 =>
    ml1 (f4_close_27 p1) FUEL r7 u6
theorem ct4_close (t : TT) (g : GM) (l : Launch) (p1 : Int32) (u : MS) : CtM mkI t g l yX4_close cX4_close 3 (some .int) LV_close [.ref g.1, .int p1] u (f4_close p1 u) := by
  refine ctM_of [(0, .ref g.1), (1, .int p1)] rfl (Nat.le_of_ble_eq_true rfl) rfl (fun p e s m args below meth c C => ?_)
  unfold f4_close
  refine v_aload_n C 0 rfl rfl dX4_close_0 ?_
  refine v_iconst C 0 (by decide) dX4_close_1 ?_
  refine v_putMi C 0 (by decide) (by decide) q1615 rfl rfl (by decide +kernel) dX4_close_2 (fun u1 => ?_)
  refine v_aload_n C 0 rfl rfl dX4_close_5 ?_
  refine v_iload_n C 1 rfl rfl dX4_close_6 ?_
  refine v_iconst C 0 (by decide) dX4_close_7 ?_
  refine v_bipush C 9 (by decide) dX4_close_8 ?_
  refine v_callSM C [.int p1, .int 0, .int 9] [.ref g.1] (ct4_within t g l p1 0 9 u1) (cw4_within C q2037 (by decide)) rfl rfl (Nat.le_of_ble_eq_true rfl) dX4_close_10 (fun r3 u2 => ?_)
  refine v_iconst C 1 (by decide) dX4_close_13 ?_
  refine v_callVM C [.int r3, .int 1] [] (ct4_right t g l r3 1 u2) (cw4_right C q1894 (by decide)) rfl rfl (Nat.le_of_ble_eq_true rfl) dX4_close_14 (fun r5 u4 => ?_)
  refine v_if_ne C 22 (by decide) dX4_close_17 (fun _ => ?_) (fun _ => ?_)
  · refine v_iconst C 0 (by decide) dX4_close_20 ?_
    exact v_iretM C dX4_close_21
  · refine v_aload_n C 0 rfl rfl dX4_close_22 ?_
    refine v_callVM C [] [] (ct4_mornings0 t g l u4) (cw4_mornings0 C q2192 (by decide)) rfl rfl (Nat.le_of_ble_eq_true rfl) dX4_close_23 (fun r7 u6 => ?_)
    refine v_istore_n C [(2, .int r7), (0, .ref g.1), (1, .int p1)] rfl (by decide) rfl dX4_close_26 ?_
    refine v_sub [1, 2, 0] rfl ?_
    exact w4_close_27 C p1 FUEL r7 u6
theorem cw4_close {t : TT} {p : Program} {s : State} {m : MethodId} {args : Array Value} {meth : Method} {c : Code} {y0 : MethodName} {cc0 : ByteArray} {nL0 : Nat} {ret0 : Option FieldType} (C : Cx t p s m args meth c y0 cc0 nL0 ret0) {index lv : Nat} (hq : Cond.methodLink y0.cls index yX4_close ∈ lw_all) (hR : LV_close + 1 ≤ lv) : CallW (rmM lv) s args y0.cls RX4 index yX4_close cX4_close 3 (some .int) (ws_ yX4_close cX4_close 3 (some .int)) (rmM LV_close) 0 0 1 :=
  cwV 1 C.2.2.2.2.1 (lw_V hq q2257 q2258 q127 q2259) rfl rfl rfl (by decide +kernel) ⟨hR, by show 8 + (3 + 11) + 100 * LV_close ≤ 100 * lv; omega⟩
abbrev LV_spared : Nat := 7
def f4_spared (u : MS) : Option (Int32 × MS) :=
  mlet (mS u 0 0) fun u1 =>
  mb (f4_deadBy 30 u1) fun r3 u2 =>
  mb (f4_deadBy 0 u2) fun r5 u4 =>
  some ((r3 &&& (r5 ^^^ (-1))), u4)
theorem ct4_spared (t : TT) (g : GM) (l : Launch) (u : MS) : CtM mkI t g l yX4_spared cX4_spared 2 (some .int) LV_spared [.ref g.1] u (f4_spared u) := by
  refine ctM_of [(0, .ref g.1)] rfl (Nat.le_of_ble_eq_true rfl) rfl (fun p e s m args below meth c C => ?_)
  unfold f4_spared
  refine v_aload_n C 0 rfl rfl dX4_spared_0 ?_
  refine v_iconst C 0 (by decide) dX4_spared_1 ?_
  refine v_putMi C 0 (by decide) (by decide) q1615 rfl rfl (by decide +kernel) dX4_spared_2 (fun u1 => ?_)
  refine v_aload_n C 0 rfl rfl dX4_spared_5 ?_
  refine v_bipush C 30 (by decide) dX4_spared_6 ?_
  refine v_callVM C [.int 30] [] (ct4_deadBy t g l 30 u1) (cw4_deadBy C q2260 (by decide)) rfl rfl (Nat.le_of_ble_eq_true rfl) dX4_spared_8 (fun r3 u2 => ?_)
  refine v_istore_n C [(1, .int r3), (0, .ref g.1)] rfl (by decide) rfl dX4_spared_11 ?_
  refine v_iload_n C 0 rfl rfl dX4_spared_12 ?_
  refine v_aload_n C 1 rfl rfl dX4_spared_13 ?_
  refine v_iconst C 0 (by decide) dX4_spared_14 ?_
  refine v_callVM C [.int 0] [.int r3] (ct4_deadBy t g l 0 u2) (cw4_deadBy C q2260 (by decide)) rfl rfl (Nat.le_of_ble_eq_true rfl) dX4_spared_15 (fun r5 u4 => ?_)
  refine v_iconst C (-1) (by decide) dX4_spared_18 ?_
  refine v_ixor C dX4_spared_19 ?_
  refine v_iand C dX4_spared_20 ?_
  exact v_iretM C dX4_spared_21
theorem cw4_spared {t : TT} {p : Program} {s : State} {m : MethodId} {args : Array Value} {meth : Method} {c : Code} {y0 : MethodName} {cc0 : ByteArray} {nL0 : Nat} {ret0 : Option FieldType} (C : Cx t p s m args meth c y0 cc0 nL0 ret0) {index lv : Nat} (hq : Cond.methodLink y0.cls index yX4_spared ∈ lw_all) (hR : LV_spared + 1 ≤ lv) : CallW (rmM lv) s args y0.cls RX4 index yX4_spared cX4_spared 2 (some .int) (ws_ yX4_spared cX4_spared 2 (some .int)) (rmM LV_spared) 0 0 0 :=
  cwV 0 C.2.2.2.2.1 (lw_V hq q2265 q2266 q127 q2267) rfl rfl rfl (by decide +kernel) ⟨hR, by show 8 + (2 + 11) + 100 * LV_spared ≤ 100 * lv; omega⟩
abbrev LV_see : Nat := 2
def f4_see_34 (p1 : Int32) (p2 : Int32) (p3 : Int32) (u : MS) : Option (Int32 × MS) :=
  mb (f4_refuses 2 u) fun r2 u1 =>
  some (r2, u1)
theorem w4_see_34 {p : Program} {e : Env} {s : State} {m : MethodId} {args : Array Value} {below : List Frame} {meth : Method} {c : Code} (C : Cx t p s m args meth c yX4_see cX4_see 4 (some .int)) (p1 : Int32) (p2 : Int32) (p3 : Int32) (u : MS) : VM mkI t g p l e LV_see s m args below meth c 4 34 [(0, .ref g.1)] [] u (f4_see_34 p1 p2 p3 u) := by
  unfold f4_see_34
  refine v_aload_n C 0 rfl rfl dX4_see_34 ?_
  refine v_iconst C 2 (by decide) dX4_see_35 ?_
  refine v_callVM C [.int 2] [] (ct4_refuses t g l 2 u) (cw4_refuses C q2117 (by decide)) rfl rfl (Nat.le_of_ble_eq_true rfl) dX4_see_36 (fun r2 u1 => ?_)
  exact v_iretM C dX4_see_39
def f4_see (p1 : Int32) (p2 : Int32) (p3 : Int32) (u : MS) : Option (Int32 × MS) :=
  mlet (mS u 0 0) fun u1 =>
  mb (f4_isPerson p1 u1) fun r3 u2 =>
  if r3 = 0 then
    some (0, u2)
  else
    if (u2.1 76) = 8 then
      f4_see_34 p1 p2 p3 u2
    else
      mb (f4_within p2 0 29 u2) fun r5 u4 =>
      if r5 = 0 then
        f4_see_34 p1 p2 p3 u4
      else
        mchk (inbM (3 * (u4.1 76)) 77) <|
        mlet (mA u4 77 (3 * (u4.1 76)).toNatClampNeg p1) fun u7 =>
        mchk (inbM ((3 * (u7.1 76)) + 1) 77) <|
        mlet (mA u7 77 ((3 * (u7.1 76)) + 1).toNatClampNeg p2) fun u9 =>
        if p3 = 0 then
          mchk (inbM ((3 * (u9.1 76)) + 2) 77) <|
          mlet (mA u9 77 ((3 * (u9.1 76)) + 2).toNatClampNeg 0) fun u11 =>
          mlet (mS u11 76 ((u11.1 76) + 1)) fun u12 =>
          some ((u12.1 76), u12)
        else
          mchk (inbM ((3 * (u9.1 76)) + 2) 77) <|
          mlet (mA u9 77 ((3 * (u9.1 76)) + 2).toNatClampNeg 1) fun u11 =>
          mlet (mS u11 76 ((u11.1 76) + 1)) fun u12 =>
          some ((u12.1 76), u12)
theorem ct4_see (t : TT) (g : GM) (l : Launch) (p1 : Int32) (p2 : Int32) (p3 : Int32) (u : MS) : CtM mkI t g l yX4_see cX4_see 4 (some .int) LV_see [.ref g.1, .int p1, .int p2, .int p3] u (f4_see p1 p2 p3 u) := by
  refine ctM_of [(0, .ref g.1), (1, .int p1), (2, .int p2), (3, .int p3)] rfl (Nat.le_of_ble_eq_true rfl) rfl (fun p e s m args below meth c C => ?_)
  unfold f4_see
  refine v_aload_n C 0 rfl rfl dX4_see_0 ?_
  refine v_iconst C 0 (by decide) dX4_see_1 ?_
  refine v_putMi C 0 (by decide) (by decide) q1615 rfl rfl (by decide +kernel) dX4_see_2 (fun u1 => ?_)
  refine v_aload_n C 0 rfl rfl dX4_see_5 ?_
  refine v_iload_n C 1 rfl rfl dX4_see_6 ?_
  refine v_callVM C [.int p1] [] (ct4_isPerson t g l p1 u1) (cw4_isPerson C q2084 (by decide)) rfl rfl (Nat.le_of_ble_eq_true rfl) dX4_see_7 (fun r3 u2 => ?_)
  refine v_if_ne C 15 (by decide) dX4_see_10 (fun _ => ?_) (fun _ => ?_)
  · refine v_iconst C 0 (by decide) dX4_see_13 ?_
    exact v_iretM C dX4_see_14
  · refine v_aload_n C 0 rfl rfl dX4_see_15 ?_
    refine v_getMi C 76 (by decide) (by decide) q1691 rfl dX4_see_16 ?_
    refine v_bipush C 8 (by decide) dX4_see_19 ?_
    refine v_icmp_eq C 34 (by decide) dX4_see_21 (fun _ => ?_) (fun _ => ?_)
    · refine v_sub [0] rfl ?_
      exact w4_see_34 C p1 p2 p3 u2
    · refine v_iload_n C 2 rfl rfl dX4_see_24 ?_
      refine v_iconst C 0 (by decide) dX4_see_25 ?_
      refine v_bipush C 29 (by decide) dX4_see_26 ?_
      refine v_callSM C [.int p2, .int 0, .int 29] [] (ct4_within t g l p2 0 29 u2) (cw4_within C q2037 (by decide)) rfl rfl (Nat.le_of_ble_eq_true rfl) dX4_see_28 (fun r5 u4 => ?_)
      refine v_if_ne C 40 (by decide) dX4_see_31 (fun _ => ?_) (fun _ => ?_)
      · refine v_sub [0] rfl ?_
        exact w4_see_34 C p1 p2 p3 u4
      · refine v_aload_n C 0 rfl rfl dX4_see_40 ?_
        refine v_getMa C 77 (by decide) (by decide) q1692 rfl dX4_see_41 ?_
        refine v_iconst C 3 (by decide) dX4_see_44 ?_
        refine v_aload_n C 0 rfl rfl dX4_see_45 ?_
        refine v_getMi C 76 (by decide) (by decide) q1691 rfl dX4_see_46 ?_
        refine v_imul C dX4_see_49 ?_
        refine v_iload_n C 1 rfl rfl dX4_see_50 ?_
        refine v_chk (fun h6 => ?_)
        refine v_iastM C h6 dX4_see_51 (fun u7 => ?_)
        refine v_aload_n C 0 rfl rfl dX4_see_52 ?_
        refine v_getMa C 77 (by decide) (by decide) q1692 rfl dX4_see_53 ?_
        refine v_iconst C 3 (by decide) dX4_see_56 ?_
        refine v_aload_n C 0 rfl rfl dX4_see_57 ?_
        refine v_getMi C 76 (by decide) (by decide) q1691 rfl dX4_see_58 ?_
        refine v_imul C dX4_see_61 ?_
        refine v_iconst C 1 (by decide) dX4_see_62 ?_
        refine v_iadd C dX4_see_63 ?_
        refine v_iload_n C 2 rfl rfl dX4_see_64 ?_
        refine v_chk (fun h8 => ?_)
        refine v_iastM C h8 dX4_see_65 (fun u9 => ?_)
        refine v_aload_n C 0 rfl rfl dX4_see_66 ?_
        refine v_getMa C 77 (by decide) (by decide) q1692 rfl dX4_see_67 ?_
        refine v_iconst C 3 (by decide) dX4_see_70 ?_
        refine v_aload_n C 0 rfl rfl dX4_see_71 ?_
        refine v_getMi C 76 (by decide) (by decide) q1691 rfl dX4_see_72 ?_
        refine v_imul C dX4_see_75 ?_
        refine v_iconst C 2 (by decide) dX4_see_76 ?_
        refine v_iadd C dX4_see_77 ?_
        refine v_iload_n C 3 rfl rfl dX4_see_78 ?_
        refine v_if_eq C 86 (by decide) dX4_see_79 (fun _ => ?_) (fun _ => ?_)
        · refine v_iconst C 0 (by decide) dX4_see_86 ?_
          refine v_chk (fun h10 => ?_)
          refine v_iastM C h10 dX4_see_87 (fun u11 => ?_)
          refine v_aload_n C 0 rfl rfl dX4_see_88 ?_
          refine v_dup C rfl dX4_see_89 ?_
          refine v_getMi C 76 (by decide) (by decide) q1691 rfl dX4_see_90 ?_
          refine v_iconst C 1 (by decide) dX4_see_93 ?_
          refine v_iadd C dX4_see_94 ?_
          refine v_putMi C 76 (by decide) (by decide) q1691 rfl rfl (by decide +kernel) dX4_see_95 (fun u12 => ?_)
          refine v_aload_n C 0 rfl rfl dX4_see_98 ?_
          refine v_getMi C 76 (by decide) (by decide) q1691 rfl dX4_see_99 ?_
          exact v_iretM C dX4_see_102
        · refine v_iconst C 1 (by decide) dX4_see_82 ?_
          refine v_goto C 87 (by decide) dX4_see_83 ?_
          refine v_chk (fun h10 => ?_)
          refine v_iastM C h10 dX4_see_87 (fun u11 => ?_)
          refine v_aload_n C 0 rfl rfl dX4_see_88 ?_
          refine v_dup C rfl dX4_see_89 ?_
          refine v_getMi C 76 (by decide) (by decide) q1691 rfl dX4_see_90 ?_
          refine v_iconst C 1 (by decide) dX4_see_93 ?_
          refine v_iadd C dX4_see_94 ?_
          refine v_putMi C 76 (by decide) (by decide) q1691 rfl rfl (by decide +kernel) dX4_see_95 (fun u12 => ?_)
          refine v_aload_n C 0 rfl rfl dX4_see_98 ?_
          refine v_getMi C 76 (by decide) (by decide) q1691 rfl dX4_see_99 ?_
          exact v_iretM C dX4_see_102
theorem cw4_see {t : TT} {p : Program} {s : State} {m : MethodId} {args : Array Value} {meth : Method} {c : Code} {y0 : MethodName} {cc0 : ByteArray} {nL0 : Nat} {ret0 : Option FieldType} (C : Cx t p s m args meth c y0 cc0 nL0 ret0) {index lv : Nat} (hq : Cond.methodLink y0.cls index yX4_see ∈ lw_all) (hR : LV_see + 1 ≤ lv) : CallW (rmM lv) s args y0.cls RX4 index yX4_see cX4_see 4 (some .int) (ws_ yX4_see cX4_see 4 (some .int)) (rmM LV_see) 0 0 3 :=
  cwV 3 C.2.2.2.2.1 (lw_V hq q2269 q2270 q127 q2271) rfl rfl rfl (by decide +kernel) ⟨hR, by show 8 + (4 + 11) + 100 * LV_see ≤ 100 * lv; omega⟩
abbrev LV_forget : Nat := 0
def f4_forget (u : MS) : Option (Unit × MS) :=
  mlet (mS u 0 0) fun u1 =>
  mlet (mS u1 76 0) fun u2 =>
  some ((), u2)
theorem ct4_forget (t : TT) (g : GM) (l : Launch) (u : MS) : CtM mkU t g l yX4_forget cX4_forget 1 none LV_forget [.ref g.1] u (f4_forget u) := by
  refine ctM_of [(0, .ref g.1)] rfl (Nat.le_of_ble_eq_true rfl) rfl (fun p e s m args below meth c C => ?_)
  unfold f4_forget
  refine v_aload_n C 0 rfl rfl dX4_forget_0 ?_
  refine v_iconst C 0 (by decide) dX4_forget_1 ?_
  refine v_putMi C 0 (by decide) (by decide) q1615 rfl rfl (by decide +kernel) dX4_forget_2 (fun u1 => ?_)
  refine v_aload_n C 0 rfl rfl dX4_forget_5 ?_
  refine v_iconst C 0 (by decide) dX4_forget_6 ?_
  refine v_putMi C 76 (by decide) (by decide) q1691 rfl rfl (by decide +kernel) dX4_forget_7 (fun u2 => ?_)
  exact v_vretM C dX4_forget_10
theorem cw4_forget {t : TT} {p : Program} {s : State} {m : MethodId} {args : Array Value} {meth : Method} {c : Code} {y0 : MethodName} {cc0 : ByteArray} {nL0 : Nat} {ret0 : Option FieldType} (C : Cx t p s m args meth c y0 cc0 nL0 ret0) {index lv : Nat} (hq : Cond.methodLink y0.cls index yX4_forget ∈ lw_all) (hR : LV_forget + 1 ≤ lv) : CallW (rmM lv) s args y0.cls RX4 index yX4_forget cX4_forget 1 none (ws_ yX4_forget cX4_forget 1 none) (rmM LV_forget) 0 0 0 :=
  cwV 0 C.2.2.2.2.1 (lw_V hq q2273 q2274 q127 q2275) rfl rfl rfl (by decide +kernel) ⟨hR, by show 8 + (1 + 11) + 100 * LV_forget ≤ 100 * lv; omega⟩
abbrev LV_listBehind : Nat := 2
def f4_listBehind (p1 : Int32) (u : MS) : Option (Int32 × MS) :=
  mb (f4_mornings0 u) fun r2 u1 =>
  if r2 = 0 then
    mb (f4_listOf 68 u1) fun r4 u3 =>
    some (r4, u3)
  else
    if r2 ≤ p1 then
      mchk (inbM (r2 - 1) 65) <|
      some ((u1.2.1 65 (r2 - 1).toNatClampNeg), u1)
    else
      mchk (inbM p1 65) <|
      some ((u1.2.1 65 p1.toNatClampNeg), u1)
theorem ct4_listBehind (t : TT) (g : GM) (l : Launch) (p1 : Int32) (u : MS) : CtM mkI t g l yX4_listBehind cX4_listBehind 3 (some .int) LV_listBehind [.ref g.1, .int p1] u (f4_listBehind p1 u) := by
  refine ctM_of [(0, .ref g.1), (1, .int p1)] rfl (Nat.le_of_ble_eq_true rfl) rfl (fun p e s m args below meth c C => ?_)
  unfold f4_listBehind
  refine v_aload_n C 0 rfl rfl dX4_listBehind_0 ?_
  refine v_callVM C [] [] (ct4_mornings0 t g l u) (cw4_mornings0 C q2192 (by decide)) rfl rfl (Nat.le_of_ble_eq_true rfl) dX4_listBehind_1 (fun r2 u1 => ?_)
  refine v_istore_n C [(2, .int r2), (0, .ref g.1), (1, .int p1)] rfl (by decide) rfl dX4_listBehind_4 ?_
  refine v_iload_n C 0 rfl rfl dX4_listBehind_5 ?_
  refine v_if_ne C 20 (by decide) dX4_listBehind_6 (fun _ => ?_) (fun _ => ?_)
  · refine v_aload_n C 1 rfl rfl dX4_listBehind_9 ?_
    refine v_aload_n C 1 rfl rfl dX4_listBehind_10 ?_
    refine v_getMa C 68 (by decide) (by decide) q1683 rfl dX4_listBehind_11 ?_
    refine v_callVM C [.ref (g.2 68)] [] (ct4_listOf t g l 68 u1) (cw4_listOf C q2040 (by decide)) rfl rfl (Nat.le_of_ble_eq_true rfl) dX4_listBehind_14 (fun r4 u3 => ?_)
    refine v_goto C 37 (by decide) dX4_listBehind_17 ?_
    exact v_iretM C dX4_listBehind_37
  · refine v_aload_n C 1 rfl rfl dX4_listBehind_20 ?_
    refine v_getMa C 65 (by decide) (by decide) q1680 rfl dX4_listBehind_21 ?_
    refine v_iload_n C 2 rfl rfl dX4_listBehind_24 ?_
    refine v_iload_n C 0 rfl rfl dX4_listBehind_25 ?_
    refine v_icmp_ge C 33 (by decide) dX4_listBehind_26 (fun _ => ?_) (fun _ => ?_)
    · refine v_iload_n C 0 rfl rfl dX4_listBehind_33 ?_
      refine v_iconst C 1 (by decide) dX4_listBehind_34 ?_
      refine v_isub C dX4_listBehind_35 ?_
      refine v_chk (fun h3 => ?_)
      refine v_ialdM C h3 dX4_listBehind_36 ?_
      exact v_iretM C dX4_listBehind_37
    · refine v_iload_n C 2 rfl rfl dX4_listBehind_29 ?_
      refine v_goto C 36 (by decide) dX4_listBehind_30 ?_
      refine v_chk (fun h3 => ?_)
      refine v_ialdM C h3 dX4_listBehind_36 ?_
      exact v_iretM C dX4_listBehind_37
theorem cw4_listBehind {t : TT} {p : Program} {s : State} {m : MethodId} {args : Array Value} {meth : Method} {c : Code} {y0 : MethodName} {cc0 : ByteArray} {nL0 : Nat} {ret0 : Option FieldType} (C : Cx t p s m args meth c y0 cc0 nL0 ret0) {index lv : Nat} (hq : Cond.methodLink y0.cls index yX4_listBehind ∈ lw_all) (hR : LV_listBehind + 1 ≤ lv) : CallW (rmM lv) s args y0.cls RX4 index yX4_listBehind cX4_listBehind 3 (some .int) (ws_ yX4_listBehind cX4_listBehind 3 (some .int)) (rmM LV_listBehind) 0 0 1 :=
  cwV 1 C.2.2.2.2.1 (lw_V hq q2286 qs114 q127 q2287) rfl rfl rfl (by decide +kernel) ⟨hR, by show 8 + (3 + 11) + 100 * LV_listBehind ≤ 100 * lv; omega⟩
abbrev LV_isSeen : Nat := 3
def f4_isSeen_2 (k : Int32 → MS → Option (Int32 × MS)) (x1 : Int32) (u : MS) : Option (Int32 × MS) :=
  if (u.1 76) ≤ x1 then
    rz 1 u
  else
    mchk (inbM ((3 * x1) + 1) 77) <|
    mb (f4_listBehind (u.2.1 77 ((3 * x1) + 1).toNatClampNeg) u) fun r3 u2 =>
    mchk (inbM (3 * x1) 77) <|
    mchk (inbM ((3 * x1) + 2) 77) <|
    if ((r3 >>> ((u2.2.1 77 (3 * x1).toNatClampNeg) &&& 31)) &&& 1) = (u2.2.1 77 ((3 * x1) + 2).toNatClampNeg) then
      k (x1 + 1) u2
    else
      rz 0 u2
theorem w4_isSeen_2 {p : Program} {e : Env} {s : State} {m : MethodId} {args : Array Value} {below : List Frame} {meth : Method} {c : Code} (C : Cx t p s m args meth c yX4_isSeen cX4_isSeen 2 (some .boolean)) (n : Nat) (x1 : Int32) (u : MS) : VM mkI t g p l e LV_isSeen s m args below meth c 2 2 [(0, .ref g.1), (1, .int x1)] [] u (ml1 (f4_isSeen_2) n x1 u) := by
  refine vl1 (L := fun x1 => [(0, .ref g.1), (1, .int x1)]) (fun k hk x1 u => ?_) n x1 u
  unfold f4_isSeen_2
  refine v_iload_n C 1 rfl rfl dX4_isSeen_2 ?_
  refine v_aload_n C 0 rfl rfl dX4_isSeen_3 ?_
  refine v_getMi C 76 (by decide) (by decide) q1691 rfl dX4_isSeen_4 ?_
  refine v_icmp_ge C 56 (by decide) dX4_isSeen_7 (fun _ => ?_) (fun _ => ?_)
  · refine v_iconst C 1 (by decide) dX4_isSeen_56 ?_
    exact v_zretM C dX4_isSeen_57
  · refine v_aload_n C 0 rfl rfl dX4_isSeen_10 ?_
    refine v_aload_n C 0 rfl rfl dX4_isSeen_11 ?_
    refine v_getMa C 77 (by decide) (by decide) q1692 rfl dX4_isSeen_12 ?_
    refine v_iconst C 3 (by decide) dX4_isSeen_15 ?_
    refine v_iload_n C 1 rfl rfl dX4_isSeen_16 ?_
    refine v_imul C dX4_isSeen_17 ?_
    refine v_iconst C 1 (by decide) dX4_isSeen_18 ?_
    refine v_iadd C dX4_isSeen_19 ?_
    refine v_chk (fun h1 => ?_)
    refine v_ialdM C h1 dX4_isSeen_20 ?_
    refine v_callVM C [.int (u.2.1 77 ((3 * x1) + 1).toNatClampNeg)] [] (ct4_listBehind t g l (u.2.1 77 ((3 * x1) + 1).toNatClampNeg) u) (cw4_listBehind C q2284 (by decide)) rfl rfl (Nat.le_of_ble_eq_true rfl) dX4_isSeen_21 (fun r3 u2 => ?_)
    refine v_aload_n C 0 rfl rfl dX4_isSeen_24 ?_
    refine v_getMa C 77 (by decide) (by decide) q1692 rfl dX4_isSeen_25 ?_
    refine v_iconst C 3 (by decide) dX4_isSeen_28 ?_
    refine v_iload_n C 1 rfl rfl dX4_isSeen_29 ?_
    refine v_imul C dX4_isSeen_30 ?_
    refine v_chk (fun h4 => ?_)
    refine v_ialdM C h4 dX4_isSeen_31 ?_
    refine v_ishr C dX4_isSeen_32 ?_
    refine v_iconst C 1 (by decide) dX4_isSeen_33 ?_
    refine v_iand C dX4_isSeen_34 ?_
    refine v_aload_n C 0 rfl rfl dX4_isSeen_35 ?_
    refine v_getMa C 77 (by decide) (by decide) q1692 rfl dX4_isSeen_36 ?_
    refine v_iconst C 3 (by decide) dX4_isSeen_39 ?_
    refine v_iload_n C 1 rfl rfl dX4_isSeen_40 ?_
    refine v_imul C dX4_isSeen_41 ?_
    refine v_iconst C 2 (by decide) dX4_isSeen_42 ?_
    refine v_iadd C dX4_isSeen_43 ?_
    refine v_chk (fun h5 => ?_)
    refine v_ialdM C h5 dX4_isSeen_44 ?_
    refine v_icmp_eq C 50 (by decide) dX4_isSeen_45 (fun _ => ?_) (fun _ => ?_)
    · refine v_iinc C 1 [(1, .int (x1 + 1)), (0, .ref g.1)] 1 rfl (by decide) (by decide) rfl dX4_isSeen_50 ?_
      refine v_goto C 2 (by decide) dX4_isSeen_53 ?_
      refine v_sub [1, 0] rfl ?_
      exact hk (x1 + 1) u2
    · refine v_iconst C 0 (by decide) dX4_isSeen_48 ?_
      exact v_zretM C dX4_isSeen_49
def f4_isSeen (u : MS) : Option (Int32 × MS) :=
  ml1 (f4_isSeen_2) FUEL 0 u
theorem ct4_isSeen (t : TT) (g : GM) (l : Launch) (u : MS) : CtM mkI t g l yX4_isSeen cX4_isSeen 2 (some .boolean) LV_isSeen [.ref g.1] u (f4_isSeen u) := by
  refine ctM_of [(0, .ref g.1)] rfl (Nat.le_of_ble_eq_true rfl) rfl (fun p e s m args below meth c C => ?_)
  unfold f4_isSeen
  refine v_iconst C 0 (by decide) dX4_isSeen_0 ?_
  refine v_istore_n C [(1, .int 0), (0, .ref g.1)] rfl (by decide) rfl dX4_isSeen_1 ?_
  refine v_sub [1, 0] rfl ?_
  exact w4_isSeen_2 C FUEL 0 u
theorem cw4_isSeen {t : TT} {p : Program} {s : State} {m : MethodId} {args : Array Value} {meth : Method} {c : Code} {y0 : MethodName} {cc0 : ByteArray} {nL0 : Nat} {ret0 : Option FieldType} (C : Cx t p s m args meth c y0 cc0 nL0 ret0) {index lv : Nat} (hq : Cond.methodLink y0.cls index yX4_isSeen ∈ lw_all) (hR : LV_isSeen + 1 ≤ lv) : CallW (rmM lv) s args y0.cls RX4 index yX4_isSeen cX4_isSeen 2 (some .boolean) (ws_ yX4_isSeen cX4_isSeen 2 (some .boolean)) (rmM LV_isSeen) 0 0 0 :=
  cwV 0 C.2.2.2.2.1 (lw_V hq q2282 qs113 q127 q2283) rfl rfl rfl (by decide +kernel) ⟨hR, by show 8 + (2 + 11) + 100 * LV_isSeen ≤ 100 * lv; omega⟩
abbrev LV_playsWith : Nat := 6
def f4_playsWith (p1 : Int32) (p2 : Int32) (u : MS) : Option (Int32 × MS) :=
  mb (f4_mornings0 u) fun r2 u1 =>
  if p2 < r2 then
    mb (f4_begins u1) fun _ u3 =>
    mb (f4_plays 68 0 p2 u3) fun _ u4 =>
    mchk (inbM (4 + p1) 68) <|
    if (u4.2.1 68 (4 + p1).toNatClampNeg) = (-1) then
      mb (f4_writes0 68 p1 (-2) u4) fun _ u6 =>
      mb (f4_plays 68 p2 (r2 - p2) u6) fun _ u7 =>
      rz 1 u7
    else
      rz 0 u4
  else
    rz 0 u1
theorem ct4_playsWith (t : TT) (g : GM) (l : Launch) (p1 : Int32) (p2 : Int32) (u : MS) : CtM mkI t g l yX4_playsWith cX4_playsWith 4 (some .boolean) LV_playsWith [.ref g.1, .int p1, .int p2] u (f4_playsWith p1 p2 u) := by
  refine ctM_of [(0, .ref g.1), (1, .int p1), (2, .int p2)] rfl (Nat.le_of_ble_eq_true rfl) rfl (fun p e s m args below meth c C => ?_)
  unfold f4_playsWith
  refine v_aload_n C 0 rfl rfl dX4_playsWith_0 ?_
  refine v_callVM C [] [] (ct4_mornings0 t g l u) (cw4_mornings0 C q2192 (by decide)) rfl rfl (Nat.le_of_ble_eq_true rfl) dX4_playsWith_1 (fun r2 u1 => ?_)
  refine v_istore_n C [(3, .int r2), (0, .ref g.1), (1, .int p1), (2, .int p2)] rfl (by decide) rfl dX4_playsWith_4 ?_
  refine v_iload_n C 3 rfl rfl dX4_playsWith_5 ?_
  refine v_iload_n C 0 rfl rfl dX4_playsWith_6 ?_
  refine v_icmp_lt C 12 (by decide) dX4_playsWith_7 (fun _ => ?_) (fun _ => ?_)
  · refine v_aload_n C 1 rfl rfl dX4_playsWith_12 ?_
    refine v_callVM C [] [] (ct4_begins t g l u1) (cw4_begins C q2188 (by decide)) rfl rfl (Nat.le_of_ble_eq_true rfl) dX4_playsWith_13 (fun _ u3 => ?_)
    refine v_aload_n C 1 rfl rfl dX4_playsWith_16 ?_
    refine v_aload_n C 1 rfl rfl dX4_playsWith_17 ?_
    refine v_getMa C 68 (by decide) (by decide) q1683 rfl dX4_playsWith_18 ?_
    refine v_iconst C 0 (by decide) dX4_playsWith_21 ?_
    refine v_iload_n C 3 rfl rfl dX4_playsWith_22 ?_
    refine v_callVM C [.ref (g.2 68), .int 0, .int p2] [] (ct4_plays t g l 68 0 p2 u3) (cw4_plays C q2125 (by decide)) rfl rfl (Nat.le_of_ble_eq_true rfl) dX4_playsWith_23 (fun _ u4 => ?_)
    refine v_aload_n C 1 rfl rfl dX4_playsWith_26 ?_
    refine v_getMa C 68 (by decide) (by decide) q1683 rfl dX4_playsWith_27 ?_
    refine v_iconst C 4 (by decide) dX4_playsWith_30 ?_
    refine v_iload_n C 2 rfl rfl dX4_playsWith_31 ?_
    refine v_iadd C dX4_playsWith_32 ?_
    refine v_chk (fun h5 => ?_)
    refine v_ialdM C h5 dX4_playsWith_33 ?_
    refine v_iconst C (-1) (by decide) dX4_playsWith_34 ?_
    refine v_icmp_eq C 40 (by decide) dX4_playsWith_35 (fun _ => ?_) (fun _ => ?_)
    · refine v_aload_n C 1 rfl rfl dX4_playsWith_40 ?_
      refine v_aload_n C 1 rfl rfl dX4_playsWith_41 ?_
      refine v_getMa C 68 (by decide) (by decide) q1683 rfl dX4_playsWith_42 ?_
      refine v_iload_n C 2 rfl rfl dX4_playsWith_45 ?_
      refine v_bipush C (-2) (by decide) dX4_playsWith_46 ?_
      refine v_callVM C [.ref (g.2 68), .int p1, .int (-2)] [] (ct4_writes0 t g l 68 p1 (-2) u4) (cw4_writes0 C q2137 (by decide)) rfl rfl (Nat.le_of_ble_eq_true rfl) dX4_playsWith_48 (fun _ u6 => ?_)
      refine v_aload_n C 1 rfl rfl dX4_playsWith_51 ?_
      refine v_aload_n C 1 rfl rfl dX4_playsWith_52 ?_
      refine v_getMa C 68 (by decide) (by decide) q1683 rfl dX4_playsWith_53 ?_
      refine v_iload_n C 3 rfl rfl dX4_playsWith_56 ?_
      refine v_iload_n C 0 rfl rfl dX4_playsWith_57 ?_
      refine v_iload_n C 3 rfl rfl dX4_playsWith_58 ?_
      refine v_isub C dX4_playsWith_59 ?_
      refine v_callVM C [.ref (g.2 68), .int p2, .int (r2 - p2)] [] (ct4_plays t g l 68 p2 (r2 - p2) u6) (cw4_plays C q2125 (by decide)) rfl rfl (Nat.le_of_ble_eq_true rfl) dX4_playsWith_60 (fun _ u7 => ?_)
      refine v_iconst C 1 (by decide) dX4_playsWith_63 ?_
      exact v_zretM C dX4_playsWith_64
    · refine v_iconst C 0 (by decide) dX4_playsWith_38 ?_
      exact v_zretM C dX4_playsWith_39
  · refine v_iconst C 0 (by decide) dX4_playsWith_10 ?_
    exact v_zretM C dX4_playsWith_11
theorem cw4_playsWith {t : TT} {p : Program} {s : State} {m : MethodId} {args : Array Value} {meth : Method} {c : Code} {y0 : MethodName} {cc0 : ByteArray} {nL0 : Nat} {ret0 : Option FieldType} (C : Cx t p s m args meth c y0 cc0 nL0 ret0) {index lv : Nat} (hq : Cond.methodLink y0.cls index yX4_playsWith ∈ lw_all) (hR : LV_playsWith + 1 ≤ lv) : CallW (rmM lv) s args y0.cls RX4 index yX4_playsWith cX4_playsWith 4 (some .boolean) (ws_ yX4_playsWith cX4_playsWith 4 (some .boolean)) (rmM LV_playsWith) 0 0 2 :=
  cwV 2 C.2.2.2.2.1 (lw_V hq q2290 qs115 q127 q2291) rfl rfl rfl (by decide +kernel) ⟨hR, by show 8 + (4 + 11) + 100 * LV_playsWith ≤ 100 * lv; omega⟩
abbrev LV_scribe : Nat := 7
def f4_scribe_57 (p1 : Int32) (k45 : Int32 → Int32 → Int32 → MS → Option (Int32 × MS)) (k : Int32 → Int32 → Int32 → Int32 → MS → Option (Int32 × MS)) (x2 : Int32) (x3 : Int32) (x4 : Int32) (x5 : Int32) (u : MS) : Option (Int32 × MS) :=
  if 10 ≤ x5 then
    k45 x2 x3 (x4 + 1) u
  else
    mb (f4_playsWith x4 x5 u) fun r2 u1 =>
    if r2 = 0 then
      k x2 x3 x4 (x5 + 1) u1
    else
      mb (f4_isSeen u1) fun r4 u3 =>
      if r4 = 0 then
        k x2 x3 x4 (x5 + 1) u3
      else
        if x3 = (-1) then
          mlet ((100 * x4) + x5) fun v5 =>
          k (x2 + 1) v5 x4 (x5 + 1) u3
        else
          k (x2 + 1) x3 x4 (x5 + 1) u3
theorem w4_scribe_57 {p : Program} {e : Env} {s : State} {m : MethodId} {args : Array Value} {below : List Frame} {meth : Method} {c : Code} (C : Cx t p s m args meth c yX4_scribe cX4_scribe 6 (some .int)) (p1 : Int32) (k45 : Int32 → Int32 → Int32 → MS → Option (Int32 × MS)) (hk45 : ∀ (x2 : Int32) (x3 : Int32) (x4 : Int32) (u : MS), VM mkI t g p l e LV_scribe s m args below meth c 6 45 [(0, .ref g.1), (1, .int p1), (2, .int x2), (3, .int x3), (4, .int x4)] [] u (k45 x2 x3 x4 u)) (n : Nat) (x2 : Int32) (x3 : Int32) (x4 : Int32) (x5 : Int32) (u : MS) : VM mkI t g p l e LV_scribe s m args below meth c 6 57 [(0, .ref g.1), (1, .int p1), (2, .int x2), (3, .int x3), (4, .int x4), (5, .int x5)] [] u (ml4 (f4_scribe_57 p1 k45) n x2 x3 x4 x5 u) := by
  refine vl4 (L := fun x2 x3 x4 x5 => [(0, .ref g.1), (1, .int p1), (2, .int x2), (3, .int x3), (4, .int x4), (5, .int x5)]) (fun k hk x2 x3 x4 x5 u => ?_) n x2 x3 x4 x5 u
  unfold f4_scribe_57
  refine v_iload C 5 rfl dX4_scribe_57 ?_
  refine v_bipush C 10 (by decide) dX4_scribe_59 ?_
  refine v_icmp_ge C 108 (by decide) dX4_scribe_61 (fun _ => ?_) (fun _ => ?_)
  · refine v_iinc C 1 [(4, .int (x4 + 1)), (0, .ref g.1), (1, .int p1), (2, .int x2), (3, .int x3), (5, .int x5)] 4 rfl (by decide) (by decide) rfl dX4_scribe_108 ?_
    refine v_goto C 45 (by decide) dX4_scribe_111 ?_
    refine v_sub [1, 2, 3, 4, 0] rfl ?_
    exact hk45 x2 x3 (x4 + 1) u
  · refine v_aload_n C 0 rfl rfl dX4_scribe_64 ?_
    refine v_iload C 4 rfl dX4_scribe_65 ?_
    refine v_iload C 5 rfl dX4_scribe_67 ?_
    refine v_callVM C [.int x4, .int x5] [] (ct4_playsWith t g l x4 x5 u) (cw4_playsWith C q2288 (by decide)) rfl rfl (Nat.le_of_ble_eq_true rfl) dX4_scribe_69 (fun r2 u1 => ?_)
    refine v_if_eq C 102 (by decide) dX4_scribe_72 (fun _ => ?_) (fun _ => ?_)
    · refine v_iinc C 1 [(5, .int (x5 + 1)), (0, .ref g.1), (1, .int p1), (2, .int x2), (3, .int x3), (4, .int x4)] 5 rfl (by decide) (by decide) rfl dX4_scribe_102 ?_
      refine v_goto C 57 (by decide) dX4_scribe_105 ?_
      refine v_sub [1, 2, 3, 4, 5, 0] rfl ?_
      exact hk x2 x3 x4 (x5 + 1) u1
    · refine v_aload_n C 0 rfl rfl dX4_scribe_75 ?_
      refine v_callVM C [] [] (ct4_isSeen t g l u1) (cw4_isSeen C q2280 (by decide)) rfl rfl (Nat.le_of_ble_eq_true rfl) dX4_scribe_76 (fun r4 u3 => ?_)
      refine v_if_ne C 85 (by decide) dX4_scribe_79 (fun _ => ?_) (fun _ => ?_)
      · refine v_goto C 102 (by decide) dX4_scribe_82 ?_
        refine v_iinc C 1 [(5, .int (x5 + 1)), (0, .ref g.1), (1, .int p1), (2, .int x2), (3, .int x3), (4, .int x4)] 5 rfl (by decide) (by decide) rfl dX4_scribe_102 ?_
        refine v_goto C 57 (by decide) dX4_scribe_105 ?_
        refine v_sub [1, 2, 3, 4, 5, 0] rfl ?_
        exact hk x2 x3 x4 (x5 + 1) u3
      · refine v_iinc C 1 [(2, .int (x2 + 1)), (0, .ref g.1), (1, .int p1), (3, .int x3), (4, .int x4), (5, .int x5)] 2 rfl (by decide) (by decide) rfl dX4_scribe_85 ?_
        refine v_iload_n C 3 rfl rfl dX4_scribe_88 ?_
        refine v_iconst C (-1) (by decide) dX4_scribe_89 ?_
        refine v_icmp_ne C 102 (by decide) dX4_scribe_90 (fun _ => ?_) (fun _ => ?_)
        · refine v_bipush C 100 (by decide) dX4_scribe_93 ?_
          refine v_iload C 4 rfl dX4_scribe_95 ?_
          refine v_imul C dX4_scribe_97 ?_
          refine v_iload C 5 rfl dX4_scribe_98 ?_
          refine v_iadd C dX4_scribe_100 ?_
          refine v_topi (fun v5 => ?_)
          refine v_istore_n C [(3, .int v5), (2, .int (x2 + 1)), (0, .ref g.1), (1, .int p1), (4, .int x4), (5, .int x5)] rfl (by decide) rfl dX4_scribe_101 ?_
          refine v_iinc C 1 [(5, .int (x5 + 1)), (3, .int v5), (2, .int (x2 + 1)), (0, .ref g.1), (1, .int p1), (4, .int x4)] 5 rfl (by decide) (by decide) rfl dX4_scribe_102 ?_
          refine v_goto C 57 (by decide) dX4_scribe_105 ?_
          refine v_sub [3, 4, 2, 1, 5, 0] rfl ?_
          exact hk (x2 + 1) v5 x4 (x5 + 1) u3
        · refine v_iinc C 1 [(5, .int (x5 + 1)), (2, .int (x2 + 1)), (0, .ref g.1), (1, .int p1), (3, .int x3), (4, .int x4)] 5 rfl (by decide) (by decide) rfl dX4_scribe_102 ?_
          refine v_goto C 57 (by decide) dX4_scribe_105 ?_
          refine v_sub [2, 3, 1, 4, 5, 0] rfl ?_
          exact hk (x2 + 1) x3 x4 (x5 + 1) u3
def f4_scribe_45 (p1 : Int32) (k : Int32 → Int32 → Int32 → MS → Option (Int32 × MS)) (x2 : Int32) (x3 : Int32) (x4 : Int32) (u : MS) : Option (Int32 × MS) :=
  if (u.1 4) ≤ x4 then
    if p1 = 0 then
      some (x2, u)
    else
      some (x3, u)
  else
    ml4 (f4_scribe_57 p1 k) FUEL x2 x3 x4 0 u
theorem w4_scribe_45 {p : Program} {e : Env} {s : State} {m : MethodId} {args : Array Value} {below : List Frame} {meth : Method} {c : Code} (C : Cx t p s m args meth c yX4_scribe cX4_scribe 6 (some .int)) (p1 : Int32) (n : Nat) (x2 : Int32) (x3 : Int32) (x4 : Int32) (u : MS) : VM mkI t g p l e LV_scribe s m args below meth c 6 45 [(0, .ref g.1), (1, .int p1), (2, .int x2), (3, .int x3), (4, .int x4)] [] u (ml3 (f4_scribe_45 p1) n x2 x3 x4 u) := by
  refine vl3 (L := fun x2 x3 x4 => [(0, .ref g.1), (1, .int p1), (2, .int x2), (3, .int x3), (4, .int x4)]) (fun k hk x2 x3 x4 u => ?_) n x2 x3 x4 u
  unfold f4_scribe_45
  refine v_iload C 4 rfl dX4_scribe_45 ?_
  refine v_aload_n C 0 rfl rfl dX4_scribe_47 ?_
  refine v_getMi C 4 (by decide) (by decide) q1619 rfl dX4_scribe_48 ?_
  refine v_icmp_ge C 114 (by decide) dX4_scribe_51 (fun _ => ?_) (fun _ => ?_)
  · refine v_iload_n C 1 rfl rfl dX4_scribe_114 ?_
    refine v_if_ne C 122 (by decide) dX4_scribe_115 (fun _ => ?_) (fun _ => ?_)
    · refine v_iload_n C 2 rfl rfl dX4_scribe_118 ?_
      refine v_goto C 123 (by decide) dX4_scribe_119 ?_
      exact v_iretM C dX4_scribe_123
    · refine v_iload_n C 3 rfl rfl dX4_scribe_122 ?_
      exact v_iretM C dX4_scribe_123
  · refine v_iconst C 0 (by decide) dX4_scribe_54 ?_
    refine v_istore C [(5, .int 0), (0, .ref g.1), (1, .int p1), (2, .int x2), (3, .int x3), (4, .int x4)] (by decide) rfl dX4_scribe_55 ?_
    refine v_sub [1, 2, 3, 4, 5, 0] rfl ?_
    exact w4_scribe_57 C p1 k hk FUEL x2 x3 x4 0 u
def f4_scribe (p1 : Int32) (u : MS) : Option (Int32 × MS) :=
  mlet (mS u 0 0) fun u1 =>
  mb (f4_isWhat p1 2 u1) fun r3 u2 =>
  if r3 = 0 then
    some (0, u2)
  else
    if p1 = 2 then
      mb (f4_playsAll u2) fun _ u4 =>
      mb (f4_isSeen u4) fun r6 u5 =>
      if r6 = 0 then
        some (0, u5)
      else
        some (1, u5)
    else
      ml3 (f4_scribe_45 p1) FUEL 0 (-1) 0 u2
theorem ct4_scribe (t : TT) (g : GM) (l : Launch) (p1 : Int32) (u : MS) : CtM mkI t g l yX4_scribe cX4_scribe 6 (some .int) LV_scribe [.ref g.1, .int p1] u (f4_scribe p1 u) := by
  refine ctM_of [(0, .ref g.1), (1, .int p1)] rfl (Nat.le_of_ble_eq_true rfl) rfl (fun p e s m args below meth c C => ?_)
  unfold f4_scribe
  refine v_aload_n C 0 rfl rfl dX4_scribe_0 ?_
  refine v_iconst C 0 (by decide) dX4_scribe_1 ?_
  refine v_putMi C 0 (by decide) (by decide) q1615 rfl rfl (by decide +kernel) dX4_scribe_2 (fun u1 => ?_)
  refine v_aload_n C 0 rfl rfl dX4_scribe_5 ?_
  refine v_iload_n C 1 rfl rfl dX4_scribe_6 ?_
  refine v_iconst C 2 (by decide) dX4_scribe_7 ?_
  refine v_callVM C [.int p1, .int 2] [] (ct4_isWhat t g l p1 2 u1) (cw4_isWhat C q2064 (by decide)) rfl rfl (Nat.le_of_ble_eq_true rfl) dX4_scribe_8 (fun r3 u2 => ?_)
  refine v_if_ne C 16 (by decide) dX4_scribe_11 (fun _ => ?_) (fun _ => ?_)
  · refine v_iconst C 0 (by decide) dX4_scribe_14 ?_
    exact v_iretM C dX4_scribe_15
  · refine v_iload_n C 1 rfl rfl dX4_scribe_16 ?_
    refine v_iconst C 2 (by decide) dX4_scribe_17 ?_
    refine v_icmp_ne C 38 (by decide) dX4_scribe_18 (fun _ => ?_) (fun _ => ?_)
    · refine v_aload_n C 0 rfl rfl dX4_scribe_21 ?_
      refine v_callVM C [] [] (ct4_playsAll t g l u2) (cw4_playsAll C q2184 (by decide)) rfl rfl (Nat.le_of_ble_eq_true rfl) dX4_scribe_22 (fun _ u4 => ?_)
      refine v_aload_n C 0 rfl rfl dX4_scribe_25 ?_
      refine v_callVM C [] [] (ct4_isSeen t g l u4) (cw4_isSeen C q2280 (by decide)) rfl rfl (Nat.le_of_ble_eq_true rfl) dX4_scribe_26 (fun r6 u5 => ?_)
      refine v_if_eq C 36 (by decide) dX4_scribe_29 (fun _ => ?_) (fun _ => ?_)
      · refine v_iconst C 0 (by decide) dX4_scribe_36 ?_
        exact v_iretM C dX4_scribe_37
      · refine v_iconst C 1 (by decide) dX4_scribe_32 ?_
        refine v_goto C 37 (by decide) dX4_scribe_33 ?_
        exact v_iretM C dX4_scribe_37
    · refine v_iconst C 0 (by decide) dX4_scribe_38 ?_
      refine v_istore_n C [(2, .int 0), (0, .ref g.1), (1, .int p1)] rfl (by decide) rfl dX4_scribe_39 ?_
      refine v_iconst C (-1) (by decide) dX4_scribe_40 ?_
      refine v_istore_n C [(3, .int (-1)), (2, .int 0), (0, .ref g.1), (1, .int p1)] rfl (by decide) rfl dX4_scribe_41 ?_
      refine v_iconst C 0 (by decide) dX4_scribe_42 ?_
      refine v_istore C [(4, .int 0), (3, .int (-1)), (2, .int 0), (0, .ref g.1), (1, .int p1)] (by decide) rfl dX4_scribe_43 ?_
      refine v_sub [3, 4, 2, 1, 0] rfl ?_
      exact w4_scribe_45 C p1 FUEL 0 (-1) 0 u2
theorem cw4_scribe {t : TT} {p : Program} {s : State} {m : MethodId} {args : Array Value} {meth : Method} {c : Code} {y0 : MethodName} {cc0 : ByteArray} {nL0 : Nat} {ret0 : Option FieldType} (C : Cx t p s m args meth c y0 cc0 nL0 ret0) {index lv : Nat} (hq : Cond.methodLink y0.cls index yX4_scribe ∈ lw_all) (hR : LV_scribe + 1 ≤ lv) : CallW (rmM lv) s args y0.cls RX4 index yX4_scribe cX4_scribe 6 (some .int) (ws_ yX4_scribe cX4_scribe 6 (some .int)) (rmM LV_scribe) 0 0 1 :=
  cwV 1 C.2.2.2.2.1 (lw_V hq q2277 q2278 q127 q2279) rfl rfl rfl (by decide +kernel) ⟨hR, by show 8 + (6 + 11) + 100 * LV_scribe ≤ 100 * lv; omega⟩
abbrev LV_tells : Nat := 7
def f4_tells_194 (p1 : Int32) (k115 : Int32 → Int32 → Int32 → Int32 → MS → Option (Int32 × MS)) (k128 : Int32 → Int32 → Int32 → Int32 → Int32 → Int32 → MS → Option (Int32 × MS)) (x2 : Int32) (x3 : Int32) (x4 : Int32) (x5 : Int32) (x6 : Int32) (x7 : Int32) (x8 : Int32) (u : MS) : Option (Int32 × MS) :=
  if x8 = 0 then
    mlet (x6 + 0) fun v1 =>
    k128 x2 x3 x4 x5 v1 (x7 + 1) u
  else
    mlet (x6 + 1) fun v1 =>
    k128 x2 x3 x4 x5 v1 (x7 + 1) u
theorem w4_tells_194 {p : Program} {e : Env} {s : State} {m : MethodId} {args : Array Value} {below : List Frame} {meth : Method} {c : Code} (C : Cx t p s m args meth c yX4_tells cX4_tells 10 (some .int)) (p1 : Int32) (k115 : Int32 → Int32 → Int32 → Int32 → MS → Option (Int32 × MS)) (k128 : Int32 → Int32 → Int32 → Int32 → Int32 → Int32 → MS → Option (Int32 × MS)) (hk115 : ∀ (x2 : Int32) (x3 : Int32) (x4 : Int32) (x5 : Int32) (u : MS), VM mkI t g p l e LV_tells s m args below meth c 10 115 [(0, .ref g.1), (1, .int p1), (2, .int x2), (3, .int x3), (4, .int x4), (5, .int x5)] [] u (k115 x2 x3 x4 x5 u)) (hk128 : ∀ (x2 : Int32) (x3 : Int32) (x4 : Int32) (x5 : Int32) (x6 : Int32) (x7 : Int32) (u : MS), VM mkI t g p l e LV_tells s m args below meth c 10 128 [(0, .ref g.1), (1, .int p1), (2, .int x2), (3, .int x3), (4, .int x4), (5, .int x5), (6, .int x6), (7, .int x7)] [] u (k128 x2 x3 x4 x5 x6 x7 u)) (x2 : Int32) (x3 : Int32) (x4 : Int32) (x5 : Int32) (x6 : Int32) (x7 : Int32) (x8 : Int32) (u : MS) : VM mkI t g p l e LV_tells s m args below meth c 10 194 [(0, .ref g.1), (1, .int p1), (2, .int x2), (3, .int x3), (4, .int x4), (5, .int x5), (6, .int x6), (7, .int x7), (8, .int x8)] [] u (f4_tells_194 p1 k115 k128 x2 x3 x4 x5 x6 x7 x8 u) := by
  unfold f4_tells_194
  refine v_iload C 6 rfl dX4_tells_194 ?_
  refine v_iload C 8 rfl dX4_tells_196 ?_
  refine v_if_eq C 205 (by decide) dX4_tells_198 (fun _ => ?_) (fun _ => ?_)
  · refine v_iconst C 0 (by decide) dX4_tells_205 ?_
    refine v_iadd C dX4_tells_206 ?_
    refine v_topi (fun v1 => ?_)
    refine v_istore C [(6, .int v1), (0, .ref g.1), (1, .int p1), (2, .int x2), (3, .int x3), (4, .int x4), (5, .int x5), (7, .int x7), (8, .int x8)] (by decide) rfl dX4_tells_207 ?_
    refine v_iinc C 1 [(7, .int (x7 + 1)), (6, .int v1), (0, .ref g.1), (1, .int p1), (2, .int x2), (3, .int x3), (4, .int x4), (5, .int x5), (8, .int x8)] 7 rfl (by decide) (by decide) rfl dX4_tells_209 ?_
    refine v_goto C 128 (by decide) dX4_tells_212 ?_
    refine v_sub [2, 3, 4, 5, 6, 7, 1, 0] rfl ?_
    exact hk128 x2 x3 x4 x5 v1 (x7 + 1) u
  · refine v_iconst C 1 (by decide) dX4_tells_201 ?_
    refine v_goto C 206 (by decide) dX4_tells_202 ?_
    refine v_iadd C dX4_tells_206 ?_
    refine v_topi (fun v1 => ?_)
    refine v_istore C [(6, .int v1), (0, .ref g.1), (1, .int p1), (2, .int x2), (3, .int x3), (4, .int x4), (5, .int x5), (7, .int x7), (8, .int x8)] (by decide) rfl dX4_tells_207 ?_
    refine v_iinc C 1 [(7, .int (x7 + 1)), (6, .int v1), (0, .ref g.1), (1, .int p1), (2, .int x2), (3, .int x3), (4, .int x4), (5, .int x5), (8, .int x8)] 7 rfl (by decide) (by decide) rfl dX4_tells_209 ?_
    refine v_goto C 128 (by decide) dX4_tells_212 ?_
    refine v_sub [2, 3, 4, 5, 6, 7, 1, 0] rfl ?_
    exact hk128 x2 x3 x4 x5 v1 (x7 + 1) u
def f4_tells_140 (p1 : Int32) (k115 : Int32 → Int32 → Int32 → Int32 → MS → Option (Int32 × MS)) (k128 : Int32 → Int32 → Int32 → Int32 → Int32 → Int32 → MS → Option (Int32 × MS)) (k : Int32 → Int32 → Int32 → Int32 → Int32 → Int32 → Int32 → Int32 → MS → Option (Int32 × MS)) (x2 : Int32) (x3 : Int32) (x4 : Int32) (x5 : Int32) (x6 : Int32) (x7 : Int32) (x8 : Int32) (x9 : Int32) (u : MS) : Option (Int32 × MS) :=
  if x7 ≤ x9 then
    f4_tells_194 p1 k115 k128 x2 x3 x4 x5 x6 x7 x8 u
  else
    if x8 = 0 then
      f4_tells_194 p1 k115 k128 x2 x3 x4 x5 x6 x7 x8 u
    else
      mchk (inbM ((30 * x7) + x5) 78) <|
      mchk (inbM ((30 * x9) + x5) 78) <|
      if (u.2.1 78 ((30 * x7) + x5).toNatClampNeg) = (u.2.1 78 ((30 * x9) + x5).toNatClampNeg) then
        k x2 x3 x4 x5 x6 x7 0 (x9 + 1) u
      else
        k x2 x3 x4 x5 x6 x7 1 (x9 + 1) u
theorem w4_tells_140 {p : Program} {e : Env} {s : State} {m : MethodId} {args : Array Value} {below : List Frame} {meth : Method} {c : Code} (C : Cx t p s m args meth c yX4_tells cX4_tells 10 (some .int)) (p1 : Int32) (k115 : Int32 → Int32 → Int32 → Int32 → MS → Option (Int32 × MS)) (k128 : Int32 → Int32 → Int32 → Int32 → Int32 → Int32 → MS → Option (Int32 × MS)) (hk115 : ∀ (x2 : Int32) (x3 : Int32) (x4 : Int32) (x5 : Int32) (u : MS), VM mkI t g p l e LV_tells s m args below meth c 10 115 [(0, .ref g.1), (1, .int p1), (2, .int x2), (3, .int x3), (4, .int x4), (5, .int x5)] [] u (k115 x2 x3 x4 x5 u)) (hk128 : ∀ (x2 : Int32) (x3 : Int32) (x4 : Int32) (x5 : Int32) (x6 : Int32) (x7 : Int32) (u : MS), VM mkI t g p l e LV_tells s m args below meth c 10 128 [(0, .ref g.1), (1, .int p1), (2, .int x2), (3, .int x3), (4, .int x4), (5, .int x5), (6, .int x6), (7, .int x7)] [] u (k128 x2 x3 x4 x5 x6 x7 u)) (n : Nat) (x2 : Int32) (x3 : Int32) (x4 : Int32) (x5 : Int32) (x6 : Int32) (x7 : Int32) (x8 : Int32) (x9 : Int32) (u : MS) : VM mkI t g p l e LV_tells s m args below meth c 10 140 [(0, .ref g.1), (1, .int p1), (2, .int x2), (3, .int x3), (4, .int x4), (5, .int x5), (6, .int x6), (7, .int x7), (8, .int x8), (9, .int x9)] [] u (ml8 (f4_tells_140 p1 k115 k128) n x2 x3 x4 x5 x6 x7 x8 x9 u) := by
  refine vl8 (L := fun x2 x3 x4 x5 x6 x7 x8 x9 => [(0, .ref g.1), (1, .int p1), (2, .int x2), (3, .int x3), (4, .int x4), (5, .int x5), (6, .int x6), (7, .int x7), (8, .int x8), (9, .int x9)]) (fun k hk x2 x3 x4 x5 x6 x7 x8 x9 u => ?_) n x2 x3 x4 x5 x6 x7 x8 x9 u
  unfold f4_tells_140
  refine v_iload C 9 rfl dX4_tells_140 ?_
  refine v_iload C 7 rfl dX4_tells_142 ?_
  refine v_icmp_ge C 194 (by decide) dX4_tells_144 (fun _ => ?_) (fun _ => ?_)
  · refine v_sub [0, 1, 2, 3, 4, 5, 6, 7, 8] rfl ?_
    exact w4_tells_194 C p1 k115 k128 hk115 hk128 x2 x3 x4 x5 x6 x7 x8 u
  · refine v_iload C 8 rfl dX4_tells_147 ?_
    refine v_if_eq C 194 (by decide) dX4_tells_149 (fun _ => ?_) (fun _ => ?_)
    · refine v_sub [0, 1, 2, 3, 4, 5, 6, 7, 8] rfl ?_
      exact w4_tells_194 C p1 k115 k128 hk115 hk128 x2 x3 x4 x5 x6 x7 x8 u
    · refine v_aload_n C 0 rfl rfl dX4_tells_152 ?_
      refine v_getMa C 78 (by decide) (by decide) q1693 rfl dX4_tells_153 ?_
      refine v_bipush C 30 (by decide) dX4_tells_156 ?_
      refine v_iload C 7 rfl dX4_tells_158 ?_
      refine v_imul C dX4_tells_160 ?_
      refine v_iload C 5 rfl dX4_tells_161 ?_
      refine v_iadd C dX4_tells_163 ?_
      refine v_chk (fun h1 => ?_)
      refine v_ialdM C h1 dX4_tells_164 ?_
      refine v_aload_n C 0 rfl rfl dX4_tells_165 ?_
      refine v_getMa C 78 (by decide) (by decide) q1693 rfl dX4_tells_166 ?_
      refine v_bipush C 30 (by decide) dX4_tells_169 ?_
      refine v_iload C 9 rfl dX4_tells_171 ?_
      refine v_imul C dX4_tells_173 ?_
      refine v_iload C 5 rfl dX4_tells_174 ?_
      refine v_iadd C dX4_tells_176 ?_
      refine v_chk (fun h2 => ?_)
      refine v_ialdM C h2 dX4_tells_177 ?_
      refine v_icmp_eq C 185 (by decide) dX4_tells_178 (fun _ => ?_) (fun _ => ?_)
      · refine v_iconst C 0 (by decide) dX4_tells_185 ?_
        refine v_istore C [(8, .int 0), (0, .ref g.1), (1, .int p1), (2, .int x2), (3, .int x3), (4, .int x4), (5, .int x5), (6, .int x6), (7, .int x7), (9, .int x9)] (by decide) rfl dX4_tells_186 ?_
        refine v_iinc C 1 [(9, .int (x9 + 1)), (8, .int 0), (0, .ref g.1), (1, .int p1), (2, .int x2), (3, .int x3), (4, .int x4), (5, .int x5), (6, .int x6), (7, .int x7)] 9 rfl (by decide) (by decide) rfl dX4_tells_188 ?_
        refine v_goto C 140 (by decide) dX4_tells_191 ?_
        refine v_sub [2, 3, 4, 5, 6, 7, 8, 9, 1, 0] rfl ?_
        exact hk x2 x3 x4 x5 x6 x7 0 (x9 + 1) u
      · refine v_iconst C 1 (by decide) dX4_tells_181 ?_
        refine v_goto C 186 (by decide) dX4_tells_182 ?_
        refine v_istore C [(8, .int 1), (0, .ref g.1), (1, .int p1), (2, .int x2), (3, .int x3), (4, .int x4), (5, .int x5), (6, .int x6), (7, .int x7), (9, .int x9)] (by decide) rfl dX4_tells_186 ?_
        refine v_iinc C 1 [(9, .int (x9 + 1)), (8, .int 1), (0, .ref g.1), (1, .int p1), (2, .int x2), (3, .int x3), (4, .int x4), (5, .int x5), (6, .int x6), (7, .int x7)] 9 rfl (by decide) (by decide) rfl dX4_tells_188 ?_
        refine v_goto C 140 (by decide) dX4_tells_191 ?_
        refine v_sub [2, 3, 4, 5, 6, 7, 8, 9, 1, 0] rfl ?_
        exact hk x2 x3 x4 x5 x6 x7 1 (x9 + 1) u
def f4_tells_128 (p1 : Int32) (k115 : Int32 → Int32 → Int32 → Int32 → MS → Option (Int32 × MS)) (k : Int32 → Int32 → Int32 → Int32 → Int32 → Int32 → MS → Option (Int32 × MS)) (x2 : Int32) (x3 : Int32) (x4 : Int32) (x5 : Int32) (x6 : Int32) (x7 : Int32) (u : MS) : Option (Int32 × MS) :=
  if x2 ≤ x7 then
    if x4 < x6 then
      k115 x2 x5 x6 (x5 + 1) u
    else
      k115 x2 x3 x4 (x5 + 1) u
  else
    ml8 (f4_tells_140 p1 k115 k) FUEL x2 x3 x4 x5 x6 x7 1 0 u
theorem w4_tells_128 {p : Program} {e : Env} {s : State} {m : MethodId} {args : Array Value} {below : List Frame} {meth : Method} {c : Code} (C : Cx t p s m args meth c yX4_tells cX4_tells 10 (some .int)) (p1 : Int32) (k115 : Int32 → Int32 → Int32 → Int32 → MS → Option (Int32 × MS)) (hk115 : ∀ (x2 : Int32) (x3 : Int32) (x4 : Int32) (x5 : Int32) (u : MS), VM mkI t g p l e LV_tells s m args below meth c 10 115 [(0, .ref g.1), (1, .int p1), (2, .int x2), (3, .int x3), (4, .int x4), (5, .int x5)] [] u (k115 x2 x3 x4 x5 u)) (n : Nat) (x2 : Int32) (x3 : Int32) (x4 : Int32) (x5 : Int32) (x6 : Int32) (x7 : Int32) (u : MS) : VM mkI t g p l e LV_tells s m args below meth c 10 128 [(0, .ref g.1), (1, .int p1), (2, .int x2), (3, .int x3), (4, .int x4), (5, .int x5), (6, .int x6), (7, .int x7)] [] u (ml6 (f4_tells_128 p1 k115) n x2 x3 x4 x5 x6 x7 u) := by
  refine vl6 (L := fun x2 x3 x4 x5 x6 x7 => [(0, .ref g.1), (1, .int p1), (2, .int x2), (3, .int x3), (4, .int x4), (5, .int x5), (6, .int x6), (7, .int x7)]) (fun k hk x2 x3 x4 x5 x6 x7 u => ?_) n x2 x3 x4 x5 x6 x7 u
  unfold f4_tells_128
  refine v_iload C 7 rfl dX4_tells_128 ?_
  refine v_iload_n C 2 rfl rfl dX4_tells_130 ?_
  refine v_icmp_ge C 215 (by decide) dX4_tells_131 (fun _ => ?_) (fun _ => ?_)
  · refine v_iload C 6 rfl dX4_tells_215 ?_
    refine v_iload C 4 rfl dX4_tells_217 ?_
    refine v_icmp_gt C 225 (by decide) dX4_tells_219 (fun _ => ?_) (fun _ => ?_)
    · refine v_iload C 5 rfl dX4_tells_225 ?_
      refine v_istore_n C [(3, .int x5), (0, .ref g.1), (1, .int p1), (2, .int x2), (4, .int x4), (5, .int x5), (6, .int x6), (7, .int x7)] rfl (by decide) rfl dX4_tells_227 ?_
      refine v_iload C 6 rfl dX4_tells_228 ?_
      refine v_istore C [(4, .int x6), (3, .int x5), (0, .ref g.1), (1, .int p1), (2, .int x2), (5, .int x5), (6, .int x6), (7, .int x7)] (by decide) rfl dX4_tells_230 ?_
      refine v_iinc C 1 [(5, .int (x5 + 1)), (4, .int x6), (3, .int x5), (0, .ref g.1), (1, .int p1), (2, .int x2), (6, .int x6), (7, .int x7)] 5 rfl (by decide) (by decide) rfl dX4_tells_232 ?_
      refine v_goto C 115 (by decide) dX4_tells_235 ?_
      refine v_sub [3, 4, 5, 2, 1, 0] rfl ?_
      exact hk115 x2 x5 x6 (x5 + 1) u
    · refine v_goto C 232 (by decide) dX4_tells_222 ?_
      refine v_iinc C 1 [(5, .int (x5 + 1)), (0, .ref g.1), (1, .int p1), (2, .int x2), (3, .int x3), (4, .int x4), (6, .int x6), (7, .int x7)] 5 rfl (by decide) (by decide) rfl dX4_tells_232 ?_
      refine v_goto C 115 (by decide) dX4_tells_235 ?_
      refine v_sub [1, 2, 3, 4, 5, 0] rfl ?_
      exact hk115 x2 x3 x4 (x5 + 1) u
  · refine v_iconst C 1 (by decide) dX4_tells_134 ?_
    refine v_istore C [(8, .int 1), (0, .ref g.1), (1, .int p1), (2, .int x2), (3, .int x3), (4, .int x4), (5, .int x5), (6, .int x6), (7, .int x7)] (by decide) rfl dX4_tells_135 ?_
    refine v_iconst C 0 (by decide) dX4_tells_137 ?_
    refine v_istore C [(9, .int 0), (8, .int 1), (0, .ref g.1), (1, .int p1), (2, .int x2), (3, .int x3), (4, .int x4), (5, .int x5), (6, .int x6), (7, .int x7)] (by decide) rfl dX4_tells_138 ?_
    refine v_sub [2, 3, 4, 5, 6, 7, 8, 9, 1, 0] rfl ?_
    exact w4_tells_140 C p1 k115 k hk115 hk FUEL x2 x3 x4 x5 x6 x7 1 0 u
def f4_tells_115 (p1 : Int32) (k : Int32 → Int32 → Int32 → Int32 → MS → Option (Int32 × MS)) (x2 : Int32) (x3 : Int32) (x4 : Int32) (x5 : Int32) (u : MS) : Option (Int32 × MS) :=
  if 30 ≤ x5 then
    if p1 = 0 then
      some (x3, u)
    else
      some (x4, u)
  else
    ml6 (f4_tells_128 p1 k) FUEL x2 x3 x4 x5 0 0 u
theorem w4_tells_115 {p : Program} {e : Env} {s : State} {m : MethodId} {args : Array Value} {below : List Frame} {meth : Method} {c : Code} (C : Cx t p s m args meth c yX4_tells cX4_tells 10 (some .int)) (p1 : Int32) (n : Nat) (x2 : Int32) (x3 : Int32) (x4 : Int32) (x5 : Int32) (u : MS) : VM mkI t g p l e LV_tells s m args below meth c 10 115 [(0, .ref g.1), (1, .int p1), (2, .int x2), (3, .int x3), (4, .int x4), (5, .int x5)] [] u (ml4 (f4_tells_115 p1) n x2 x3 x4 x5 u) := by
  refine vl4 (L := fun x2 x3 x4 x5 => [(0, .ref g.1), (1, .int p1), (2, .int x2), (3, .int x3), (4, .int x4), (5, .int x5)]) (fun k hk x2 x3 x4 x5 u => ?_) n x2 x3 x4 x5 u
  unfold f4_tells_115
  refine v_iload C 5 rfl dX4_tells_115 ?_
  refine v_bipush C 30 (by decide) dX4_tells_117 ?_
  refine v_icmp_ge C 238 (by decide) dX4_tells_119 (fun _ => ?_) (fun _ => ?_)
  · refine v_iload_n C 1 rfl rfl dX4_tells_238 ?_
    refine v_if_ne C 246 (by decide) dX4_tells_239 (fun _ => ?_) (fun _ => ?_)
    · refine v_iload_n C 3 rfl rfl dX4_tells_242 ?_
      refine v_goto C 248 (by decide) dX4_tells_243 ?_
      exact v_iretM C dX4_tells_248
    · refine v_iload C 4 rfl dX4_tells_246 ?_
      exact v_iretM C dX4_tells_248
  · refine v_iconst C 0 (by decide) dX4_tells_122 ?_
    refine v_istore C [(6, .int 0), (0, .ref g.1), (1, .int p1), (2, .int x2), (3, .int x3), (4, .int x4), (5, .int x5)] (by decide) rfl dX4_tells_123 ?_
    refine v_iconst C 0 (by decide) dX4_tells_125 ?_
    refine v_istore C [(7, .int 0), (6, .int 0), (0, .ref g.1), (1, .int p1), (2, .int x2), (3, .int x3), (4, .int x4), (5, .int x5)] (by decide) rfl dX4_tells_126 ?_
    refine v_sub [2, 3, 4, 5, 6, 7, 1, 0] rfl ?_
    exact w4_tells_128 C p1 k hk FUEL x2 x3 x4 x5 0 0 u
def f4_tells_61 (p1 : Int32) (k20 : Int32 → Int32 → MS → Option (Int32 × MS)) (k31 : Int32 → Int32 → Int32 → MS → Option (Int32 × MS)) (k : Int32 → Int32 → Int32 → Int32 → MS → Option (Int32 × MS)) (x2 : Int32) (x3 : Int32) (x4 : Int32) (x5 : Int32) (u : MS) : Option (Int32 × MS) :=
  if 30 ≤ x5 then
    k31 (x2 + 1) x3 (x4 + 1) u
  else
    mb (f4_listBehind x5 u) fun r2 u1 =>
    mchk (inbM ((30 * x2) + x5) 78) <|
    mlet (mA u1 78 ((30 * x2) + x5).toNatClampNeg r2) fun u4 =>
    k x2 x3 x4 (x5 + 1) u4
theorem w4_tells_61 {p : Program} {e : Env} {s : State} {m : MethodId} {args : Array Value} {below : List Frame} {meth : Method} {c : Code} (C : Cx t p s m args meth c yX4_tells cX4_tells 10 (some .int)) (p1 : Int32) (k20 : Int32 → Int32 → MS → Option (Int32 × MS)) (k31 : Int32 → Int32 → Int32 → MS → Option (Int32 × MS)) (hk20 : ∀ (x2 : Int32) (x3 : Int32) (u : MS), VM mkI t g p l e LV_tells s m args below meth c 10 20 [(0, .ref g.1), (1, .int p1), (2, .int x2), (3, .int x3)] [] u (k20 x2 x3 u)) (hk31 : ∀ (x2 : Int32) (x3 : Int32) (x4 : Int32) (u : MS), VM mkI t g p l e LV_tells s m args below meth c 10 31 [(0, .ref g.1), (1, .int p1), (2, .int x2), (3, .int x3), (4, .int x4)] [] u (k31 x2 x3 x4 u)) (n : Nat) (x2 : Int32) (x3 : Int32) (x4 : Int32) (x5 : Int32) (u : MS) : VM mkI t g p l e LV_tells s m args below meth c 10 61 [(0, .ref g.1), (1, .int p1), (2, .int x2), (3, .int x3), (4, .int x4), (5, .int x5)] [] u (ml4 (f4_tells_61 p1 k20 k31) n x2 x3 x4 x5 u) := by
  refine vl4 (L := fun x2 x3 x4 x5 => [(0, .ref g.1), (1, .int p1), (2, .int x2), (3, .int x3), (4, .int x4), (5, .int x5)]) (fun k hk x2 x3 x4 x5 u => ?_) n x2 x3 x4 x5 u
  unfold f4_tells_61
  refine v_iload C 5 rfl dX4_tells_61 ?_
  refine v_bipush C 30 (by decide) dX4_tells_63 ?_
  refine v_icmp_ge C 92 (by decide) dX4_tells_65 (fun _ => ?_) (fun _ => ?_)
  · refine v_iinc C 1 [(2, .int (x2 + 1)), (0, .ref g.1), (1, .int p1), (3, .int x3), (4, .int x4), (5, .int x5)] 2 rfl (by decide) (by decide) rfl dX4_tells_92 ?_
    refine v_iinc C 1 [(4, .int (x4 + 1)), (2, .int (x2 + 1)), (0, .ref g.1), (1, .int p1), (3, .int x3), (5, .int x5)] 4 rfl (by decide) (by decide) rfl dX4_tells_95 ?_
    refine v_goto C 31 (by decide) dX4_tells_98 ?_
    refine v_sub [2, 3, 1, 4, 0] rfl ?_
    exact hk31 (x2 + 1) x3 (x4 + 1) u
  · refine v_aload_n C 0 rfl rfl dX4_tells_68 ?_
    refine v_getMa C 78 (by decide) (by decide) q1693 rfl dX4_tells_69 ?_
    refine v_bipush C 30 (by decide) dX4_tells_72 ?_
    refine v_iload_n C 2 rfl rfl dX4_tells_74 ?_
    refine v_imul C dX4_tells_75 ?_
    refine v_iload C 5 rfl dX4_tells_76 ?_
    refine v_iadd C dX4_tells_78 ?_
    refine v_aload_n C 0 rfl rfl dX4_tells_79 ?_
    refine v_iload C 5 rfl dX4_tells_80 ?_
    refine v_callVM C [.int x5] [.int ((30 * x2) + x5), .ref (g.2 78)] (ct4_listBehind t g l x5 u) (cw4_listBehind C q2284 (by decide)) rfl rfl (Nat.le_of_ble_eq_true rfl) dX4_tells_82 (fun r2 u1 => ?_)
    refine v_chk (fun h3 => ?_)
    refine v_iastM C h3 dX4_tells_85 (fun u4 => ?_)
    refine v_iinc C 1 [(5, .int (x5 + 1)), (0, .ref g.1), (1, .int p1), (2, .int x2), (3, .int x3), (4, .int x4)] 5 rfl (by decide) (by decide) rfl dX4_tells_86 ?_
    refine v_goto C 61 (by decide) dX4_tells_89 ?_
    refine v_sub [1, 2, 3, 4, 5, 0] rfl ?_
    exact hk x2 x3 x4 (x5 + 1) u4
def f4_tells_31 (p1 : Int32) (k20 : Int32 → Int32 → MS → Option (Int32 × MS)) (k : Int32 → Int32 → Int32 → MS → Option (Int32 × MS)) (x2 : Int32) (x3 : Int32) (x4 : Int32) (u : MS) : Option (Int32 × MS) :=
  if 10 ≤ x4 then
    k20 x2 (x3 + 1) u
  else
    mb (f4_playsWith x3 x4 u) fun r2 u1 =>
    if r2 = 0 then
      k x2 x3 (x4 + 1) u1
    else
      mb (f4_isSeen u1) fun r4 u3 =>
      if r4 = 0 then
        k x2 x3 (x4 + 1) u3
      else
        ml4 (f4_tells_61 p1 k20 k) FUEL x2 x3 x4 0 u3
theorem w4_tells_31 {p : Program} {e : Env} {s : State} {m : MethodId} {args : Array Value} {below : List Frame} {meth : Method} {c : Code} (C : Cx t p s m args meth c yX4_tells cX4_tells 10 (some .int)) (p1 : Int32) (k20 : Int32 → Int32 → MS → Option (Int32 × MS)) (hk20 : ∀ (x2 : Int32) (x3 : Int32) (u : MS), VM mkI t g p l e LV_tells s m args below meth c 10 20 [(0, .ref g.1), (1, .int p1), (2, .int x2), (3, .int x3)] [] u (k20 x2 x3 u)) (n : Nat) (x2 : Int32) (x3 : Int32) (x4 : Int32) (u : MS) : VM mkI t g p l e LV_tells s m args below meth c 10 31 [(0, .ref g.1), (1, .int p1), (2, .int x2), (3, .int x3), (4, .int x4)] [] u (ml3 (f4_tells_31 p1 k20) n x2 x3 x4 u) := by
  refine vl3 (L := fun x2 x3 x4 => [(0, .ref g.1), (1, .int p1), (2, .int x2), (3, .int x3), (4, .int x4)]) (fun k hk x2 x3 x4 u => ?_) n x2 x3 x4 u
  unfold f4_tells_31
  refine v_iload C 4 rfl dX4_tells_31 ?_
  refine v_bipush C 10 (by decide) dX4_tells_33 ?_
  refine v_icmp_ge C 101 (by decide) dX4_tells_35 (fun _ => ?_) (fun _ => ?_)
  · refine v_iinc C 1 [(3, .int (x3 + 1)), (0, .ref g.1), (1, .int p1), (2, .int x2), (4, .int x4)] 3 rfl (by decide) (by decide) rfl dX4_tells_101 ?_
    refine v_goto C 20 (by decide) dX4_tells_104 ?_
    refine v_sub [1, 2, 3, 0] rfl ?_
    exact hk20 x2 (x3 + 1) u
  · refine v_aload_n C 0 rfl rfl dX4_tells_38 ?_
    refine v_iload_n C 3 rfl rfl dX4_tells_39 ?_
    refine v_iload C 4 rfl dX4_tells_40 ?_
    refine v_callVM C [.int x3, .int x4] [] (ct4_playsWith t g l x3 x4 u) (cw4_playsWith C q2288 (by decide)) rfl rfl (Nat.le_of_ble_eq_true rfl) dX4_tells_42 (fun r2 u1 => ?_)
    refine v_if_eq C 95 (by decide) dX4_tells_45 (fun _ => ?_) (fun _ => ?_)
    · refine v_iinc C 1 [(4, .int (x4 + 1)), (0, .ref g.1), (1, .int p1), (2, .int x2), (3, .int x3)] 4 rfl (by decide) (by decide) rfl dX4_tells_95 ?_
      refine v_goto C 31 (by decide) dX4_tells_98 ?_
      refine v_sub [1, 2, 3, 4, 0] rfl ?_
      exact hk x2 x3 (x4 + 1) u1
    · refine v_aload_n C 0 rfl rfl dX4_tells_48 ?_
      refine v_callVM C [] [] (ct4_isSeen t g l u1) (cw4_isSeen C q2280 (by decide)) rfl rfl (Nat.le_of_ble_eq_true rfl) dX4_tells_49 (fun r4 u3 => ?_)
      refine v_if_ne C 58 (by decide) dX4_tells_52 (fun _ => ?_) (fun _ => ?_)
      · refine v_goto C 95 (by decide) dX4_tells_55 ?_
        refine v_iinc C 1 [(4, .int (x4 + 1)), (0, .ref g.1), (1, .int p1), (2, .int x2), (3, .int x3)] 4 rfl (by decide) (by decide) rfl dX4_tells_95 ?_
        refine v_goto C 31 (by decide) dX4_tells_98 ?_
        refine v_sub [1, 2, 3, 4, 0] rfl ?_
        exact hk x2 x3 (x4 + 1) u3
      · refine v_iconst C 0 (by decide) dX4_tells_58 ?_
        refine v_istore C [(5, .int 0), (0, .ref g.1), (1, .int p1), (2, .int x2), (3, .int x3), (4, .int x4)] (by decide) rfl dX4_tells_59 ?_
        refine v_sub [1, 2, 3, 4, 5, 0] rfl ?_
        exact w4_tells_61 C p1 k20 k hk20 hk FUEL x2 x3 x4 0 u3
def f4_tells_20 (p1 : Int32) (k : Int32 → Int32 → MS → Option (Int32 × MS)) (x2 : Int32) (x3 : Int32) (u : MS) : Option (Int32 × MS) :=
  if (u.1 4) ≤ x3 then
    ml4 (f4_tells_115 p1) FUEL x2 (-1) 0 0 u
  else
    ml3 (f4_tells_31 p1 k) FUEL x2 x3 0 u
theorem w4_tells_20 {p : Program} {e : Env} {s : State} {m : MethodId} {args : Array Value} {below : List Frame} {meth : Method} {c : Code} (C : Cx t p s m args meth c yX4_tells cX4_tells 10 (some .int)) (p1 : Int32) (n : Nat) (x2 : Int32) (x3 : Int32) (u : MS) : VM mkI t g p l e LV_tells s m args below meth c 10 20 [(0, .ref g.1), (1, .int p1), (2, .int x2), (3, .int x3)] [] u (ml2 (f4_tells_20 p1) n x2 x3 u) := by
  refine vl2 (L := fun x2 x3 => [(0, .ref g.1), (1, .int p1), (2, .int x2), (3, .int x3)]) (fun k hk x2 x3 u => ?_) n x2 x3 u
  unfold f4_tells_20
  refine v_iload_n C 3 rfl rfl dX4_tells_20 ?_
  refine v_aload_n C 0 rfl rfl dX4_tells_21 ?_
  refine v_getMi C 4 (by decide) (by decide) q1619 rfl dX4_tells_22 ?_
  refine v_icmp_ge C 107 (by decide) dX4_tells_25 (fun _ => ?_) (fun _ => ?_)
  · refine v_iconst C (-1) (by decide) dX4_tells_107 ?_
    refine v_istore_n C [(3, .int (-1)), (0, .ref g.1), (1, .int p1), (2, .int x2)] rfl (by decide) rfl dX4_tells_108 ?_
    refine v_iconst C 0 (by decide) dX4_tells_109 ?_
    refine v_istore C [(4, .int 0), (3, .int (-1)), (0, .ref g.1), (1, .int p1), (2, .int x2)] (by decide) rfl dX4_tells_110 ?_
    refine v_iconst C 0 (by decide) dX4_tells_112 ?_
    refine v_istore C [(5, .int 0), (4, .int 0), (3, .int (-1)), (0, .ref g.1), (1, .int p1), (2, .int x2)] (by decide) rfl dX4_tells_113 ?_
    refine v_sub [3, 4, 5, 2, 1, 0] rfl ?_
    exact w4_tells_115 C p1 FUEL x2 (-1) 0 0 u
  · refine v_iconst C 0 (by decide) dX4_tells_28 ?_
    refine v_istore C [(4, .int 0), (0, .ref g.1), (1, .int p1), (2, .int x2), (3, .int x3)] (by decide) rfl dX4_tells_29 ?_
    refine v_sub [1, 2, 3, 4, 0] rfl ?_
    exact w4_tells_31 C p1 k hk FUEL x2 x3 0 u
def f4_tells (p1 : Int32) (u : MS) : Option (Int32 × MS) :=
  mlet (mS u 0 0) fun u1 =>
  mb (f4_isWhat p1 1 u1) fun r3 u2 =>
  if r3 = 0 then
    some (0, u2)
  else
    ml2 (f4_tells_20 p1) FUEL 0 0 u2
theorem ct4_tells (t : TT) (g : GM) (l : Launch) (p1 : Int32) (u : MS) : CtM mkI t g l yX4_tells cX4_tells 10 (some .int) LV_tells [.ref g.1, .int p1] u (f4_tells p1 u) := by
  refine ctM_of [(0, .ref g.1), (1, .int p1)] rfl (Nat.le_of_ble_eq_true rfl) rfl (fun p e s m args below meth c C => ?_)
  unfold f4_tells
  refine v_aload_n C 0 rfl rfl dX4_tells_0 ?_
  refine v_iconst C 0 (by decide) dX4_tells_1 ?_
  refine v_putMi C 0 (by decide) (by decide) q1615 rfl rfl (by decide +kernel) dX4_tells_2 (fun u1 => ?_)
  refine v_aload_n C 0 rfl rfl dX4_tells_5 ?_
  refine v_iload_n C 1 rfl rfl dX4_tells_6 ?_
  refine v_iconst C 1 (by decide) dX4_tells_7 ?_
  refine v_callVM C [.int p1, .int 1] [] (ct4_isWhat t g l p1 1 u1) (cw4_isWhat C q2064 (by decide)) rfl rfl (Nat.le_of_ble_eq_true rfl) dX4_tells_8 (fun r3 u2 => ?_)
  refine v_if_ne C 16 (by decide) dX4_tells_11 (fun _ => ?_) (fun _ => ?_)
  · refine v_iconst C 0 (by decide) dX4_tells_14 ?_
    exact v_iretM C dX4_tells_15
  · refine v_iconst C 0 (by decide) dX4_tells_16 ?_
    refine v_istore_n C [(2, .int 0), (0, .ref g.1), (1, .int p1)] rfl (by decide) rfl dX4_tells_17 ?_
    refine v_iconst C 0 (by decide) dX4_tells_18 ?_
    refine v_istore_n C [(3, .int 0), (2, .int 0), (0, .ref g.1), (1, .int p1)] rfl (by decide) rfl dX4_tells_19 ?_
    refine v_sub [2, 3, 1, 0] rfl ?_
    exact w4_tells_20 C p1 FUEL 0 0 u2
theorem cw4_tells {t : TT} {p : Program} {s : State} {m : MethodId} {args : Array Value} {meth : Method} {c : Code} {y0 : MethodName} {cc0 : ByteArray} {nL0 : Nat} {ret0 : Option FieldType} (C : Cx t p s m args meth c y0 cc0 nL0 ret0) {index lv : Nat} (hq : Cond.methodLink y0.cls index yX4_tells ∈ lw_all) (hR : LV_tells + 1 ≤ lv) : CallW (rmM lv) s args y0.cls RX4 index yX4_tells cX4_tells 10 (some .int) (ws_ yX4_tells cX4_tells 10 (some .int)) (rmM LV_tells) 0 0 1 :=
  cwV 1 C.2.2.2.2.1 (lw_V hq q2293 q2294 q127 q2295) rfl rfl rfl (by decide +kernel) ⟨hR, by show 8 + (10 + 11) + 100 * LV_tells ≤ 100 * lv; omega⟩
abbrev LV_roll : Nat := 1
def f4_roll_75 (p1 : Int32) (k27 : Int32 → Int32 → MS → Option (Int32 × MS)) (k : Int32 → Int32 → Int32 → Int32 → MS → Option (Int32 × MS)) (x2 : Int32) (x3 : Int32) (x4 : Int32) (x5 : Int32) (u : MS) : Option (Int32 × MS) :=
  if (u.1 4) ≤ x5 then
    if x4 = p1 then
      k27 x3 (x3 + 1) u
    else
      k27 x2 (x3 + 1) u
  else
    if ((x3 >>> (x5 &&& 31)) &&& 1) = 1 then
      mchk (inbM x5 12) <|
      mlet (x4 + (u.2.1 12 x5.toNatClampNeg)) fun v2 =>
      k x2 x3 v2 (x5 + 1) u
    else
      mlet (x4 + 0) fun v1 =>
      k x2 x3 v1 (x5 + 1) u
theorem w4_roll_75 {p : Program} {e : Env} {s : State} {m : MethodId} {args : Array Value} {below : List Frame} {meth : Method} {c : Code} (C : Cx t p s m args meth c yX4_roll cX4_roll 6 (some .int)) (p1 : Int32) (k27 : Int32 → Int32 → MS → Option (Int32 × MS)) (hk27 : ∀ (x2 : Int32) (x3 : Int32) (u : MS), VM mkI t g p l e LV_roll s m args below meth c 6 27 [(0, .ref g.1), (1, .int p1), (2, .int x2), (3, .int x3)] [] u (k27 x2 x3 u)) (n : Nat) (x2 : Int32) (x3 : Int32) (x4 : Int32) (x5 : Int32) (u : MS) : VM mkI t g p l e LV_roll s m args below meth c 6 75 [(0, .ref g.1), (1, .int p1), (2, .int x2), (3, .int x3), (4, .int x4), (5, .int x5)] [] u (ml4 (f4_roll_75 p1 k27) n x2 x3 x4 x5 u) := by
  refine vl4 (L := fun x2 x3 x4 x5 => [(0, .ref g.1), (1, .int p1), (2, .int x2), (3, .int x3), (4, .int x4), (5, .int x5)]) (fun k hk x2 x3 x4 x5 u => ?_) n x2 x3 x4 x5 u
  unfold f4_roll_75
  refine v_iload C 5 rfl dX4_roll_75 ?_
  refine v_aload_n C 0 rfl rfl dX4_roll_77 ?_
  refine v_getMi C 4 (by decide) (by decide) q1619 rfl dX4_roll_78 ?_
  refine v_icmp_ge C 116 (by decide) dX4_roll_81 (fun _ => ?_) (fun _ => ?_)
  · refine v_iload C 4 rfl dX4_roll_116 ?_
    refine v_iload_n C 1 rfl rfl dX4_roll_118 ?_
    refine v_icmp_ne C 126 (by decide) dX4_roll_119 (fun _ => ?_) (fun _ => ?_)
    · refine v_iload_n C 3 rfl rfl dX4_roll_122 ?_
      refine v_goto C 127 (by decide) dX4_roll_123 ?_
      refine v_istore_n C [(2, .int x3), (0, .ref g.1), (1, .int p1), (3, .int x3), (4, .int x4), (5, .int x5)] rfl (by decide) rfl dX4_roll_127 ?_
      refine v_iinc C 1 [(3, .int (x3 + 1)), (2, .int x3), (0, .ref g.1), (1, .int p1), (4, .int x4), (5, .int x5)] 3 rfl (by decide) (by decide) rfl dX4_roll_128 ?_
      refine v_goto C 27 (by decide) dX4_roll_131 ?_
      refine v_sub [2, 3, 1, 0] rfl ?_
      exact hk27 x3 (x3 + 1) u
    · refine v_iload_n C 2 rfl rfl dX4_roll_126 ?_
      refine v_istore_n C [(2, .int x2), (0, .ref g.1), (1, .int p1), (3, .int x3), (4, .int x4), (5, .int x5)] rfl (by decide) rfl dX4_roll_127 ?_
      refine v_iinc C 1 [(3, .int (x3 + 1)), (2, .int x2), (0, .ref g.1), (1, .int p1), (4, .int x4), (5, .int x5)] 3 rfl (by decide) (by decide) rfl dX4_roll_128 ?_
      refine v_goto C 27 (by decide) dX4_roll_131 ?_
      refine v_sub [2, 3, 1, 0] rfl ?_
      exact hk27 x2 (x3 + 1) u
  · refine v_iload C 4 rfl dX4_roll_84 ?_
    refine v_iload_n C 3 rfl rfl dX4_roll_86 ?_
    refine v_iload C 5 rfl dX4_roll_87 ?_
    refine v_ishr C dX4_roll_89 ?_
    refine v_iconst C 1 (by decide) dX4_roll_90 ?_
    refine v_iand C dX4_roll_91 ?_
    refine v_iconst C 1 (by decide) dX4_roll_92 ?_
    refine v_icmp_ne C 106 (by decide) dX4_roll_93 (fun _ => ?_) (fun _ => ?_)
    · refine v_aload_n C 0 rfl rfl dX4_roll_96 ?_
      refine v_getMa C 12 (by decide) (by decide) q1627 rfl dX4_roll_97 ?_
      refine v_iload C 5 rfl dX4_roll_100 ?_
      refine v_chk (fun h1 => ?_)
      refine v_ialdM C h1 dX4_roll_102 ?_
      refine v_goto C 107 (by decide) dX4_roll_103 ?_
      refine v_iadd C dX4_roll_107 ?_
      refine v_topi (fun v2 => ?_)
      refine v_istore C [(4, .int v2), (0, .ref g.1), (1, .int p1), (2, .int x2), (3, .int x3), (5, .int x5)] (by decide) rfl dX4_roll_108 ?_
      refine v_iinc C 1 [(5, .int (x5 + 1)), (4, .int v2), (0, .ref g.1), (1, .int p1), (2, .int x2), (3, .int x3)] 5 rfl (by decide) (by decide) rfl dX4_roll_110 ?_
      refine v_goto C 75 (by decide) dX4_roll_113 ?_
      refine v_sub [2, 3, 4, 5, 1, 0] rfl ?_
      exact hk x2 x3 v2 (x5 + 1) u
    · refine v_iconst C 0 (by decide) dX4_roll_106 ?_
      refine v_iadd C dX4_roll_107 ?_
      refine v_topi (fun v1 => ?_)
      refine v_istore C [(4, .int v1), (0, .ref g.1), (1, .int p1), (2, .int x2), (3, .int x3), (5, .int x5)] (by decide) rfl dX4_roll_108 ?_
      refine v_iinc C 1 [(5, .int (x5 + 1)), (4, .int v1), (0, .ref g.1), (1, .int p1), (2, .int x2), (3, .int x3)] 5 rfl (by decide) (by decide) rfl dX4_roll_110 ?_
      refine v_goto C 75 (by decide) dX4_roll_113 ?_
      refine v_sub [2, 3, 4, 5, 1, 0] rfl ?_
      exact hk x2 x3 v1 (x5 + 1) u
def f4_roll_27 (p1 : Int32) (k : Int32 → Int32 → MS → Option (Int32 × MS)) (x2 : Int32) (x3 : Int32) (u : MS) : Option (Int32 × MS) :=
  if (u.2.1 54 (1 : Int32).toNatClampNeg) < x3 then
    some (x2, u)
  else
    if (x3 &&& ((u.2.1 54 (1 : Int32).toNatClampNeg) ^^^ (-1))) = 0 then
      if x2 = (-1) then
        ml4 (f4_roll_75 p1 k) FUEL x2 x3 0 0 u
      else
        mb (f4_bits x3 u) fun r2 u1 =>
        mb (f4_bits x2 u1) fun r4 u3 =>
        if r2 < r4 then
          ml4 (f4_roll_75 p1 k) FUEL x2 x3 0 0 u3
        else
          k x2 (x3 + 1) u3
    else
      k x2 (x3 + 1) u
theorem w4_roll_27 {p : Program} {e : Env} {s : State} {m : MethodId} {args : Array Value} {below : List Frame} {meth : Method} {c : Code} (C : Cx t p s m args meth c yX4_roll cX4_roll 6 (some .int)) (p1 : Int32) (n : Nat) (x2 : Int32) (x3 : Int32) (u : MS) : VM mkI t g p l e LV_roll s m args below meth c 6 27 [(0, .ref g.1), (1, .int p1), (2, .int x2), (3, .int x3)] [] u (ml2 (f4_roll_27 p1) n x2 x3 u) := by
  refine vl2 (L := fun x2 x3 => [(0, .ref g.1), (1, .int p1), (2, .int x2), (3, .int x3)]) (fun k hk x2 x3 u => ?_) n x2 x3 u
  unfold f4_roll_27
  refine v_iload_n C 3 rfl rfl dX4_roll_27 ?_
  refine v_aload_n C 0 rfl rfl dX4_roll_28 ?_
  refine v_getMa C 54 (by decide) (by decide) q1669 rfl dX4_roll_29 ?_
  refine v_iconst C 1 (by decide) dX4_roll_32 ?_
  refine v_ialdM C (by decide) dX4_roll_33 ?_
  refine v_icmp_gt C 134 (by decide) dX4_roll_34 (fun _ => ?_) (fun _ => ?_)
  · refine v_iload_n C 2 rfl rfl dX4_roll_134 ?_
    exact v_iretM C dX4_roll_135
  · refine v_iload_n C 3 rfl rfl dX4_roll_37 ?_
    refine v_aload_n C 0 rfl rfl dX4_roll_38 ?_
    refine v_getMa C 54 (by decide) (by decide) q1669 rfl dX4_roll_39 ?_
    refine v_iconst C 1 (by decide) dX4_roll_42 ?_
    refine v_ialdM C (by decide) dX4_roll_43 ?_
    refine v_iconst C (-1) (by decide) dX4_roll_44 ?_
    refine v_ixor C dX4_roll_45 ?_
    refine v_iand C dX4_roll_46 ?_
    refine v_if_ne C 128 (by decide) dX4_roll_47 (fun _ => ?_) (fun _ => ?_)
    · refine v_iload_n C 2 rfl rfl dX4_roll_50 ?_
      refine v_iconst C (-1) (by decide) dX4_roll_51 ?_
      refine v_icmp_eq C 69 (by decide) dX4_roll_52 (fun _ => ?_) (fun _ => ?_)
      · refine v_iconst C 0 (by decide) dX4_roll_69 ?_
        refine v_istore C [(4, .int 0), (0, .ref g.1), (1, .int p1), (2, .int x2), (3, .int x3)] (by decide) rfl dX4_roll_70 ?_
        refine v_iconst C 0 (by decide) dX4_roll_72 ?_
        refine v_istore C [(5, .int 0), (4, .int 0), (0, .ref g.1), (1, .int p1), (2, .int x2), (3, .int x3)] (by decide) rfl dX4_roll_73 ?_
        refine v_sub [2, 3, 4, 5, 1, 0] rfl ?_
        exact w4_roll_75 C p1 k hk FUEL x2 x3 0 0 u
      · refine v_iload_n C 3 rfl rfl dX4_roll_55 ?_
        refine v_callSM C [.int x3] [] (ct4_bits t g l x3 u) (cw4_bits C q2103 (by decide)) rfl rfl (Nat.le_of_ble_eq_true rfl) dX4_roll_56 (fun r2 u1 => ?_)
        refine v_iload_n C 2 rfl rfl dX4_roll_59 ?_
        refine v_callSM C [.int x2] [.int r2] (ct4_bits t g l x2 u1) (cw4_bits C q2103 (by decide)) rfl rfl (Nat.le_of_ble_eq_true rfl) dX4_roll_60 (fun r4 u3 => ?_)
        refine v_icmp_lt C 69 (by decide) dX4_roll_63 (fun _ => ?_) (fun _ => ?_)
        · refine v_iconst C 0 (by decide) dX4_roll_69 ?_
          refine v_istore C [(4, .int 0), (0, .ref g.1), (1, .int p1), (2, .int x2), (3, .int x3)] (by decide) rfl dX4_roll_70 ?_
          refine v_iconst C 0 (by decide) dX4_roll_72 ?_
          refine v_istore C [(5, .int 0), (4, .int 0), (0, .ref g.1), (1, .int p1), (2, .int x2), (3, .int x3)] (by decide) rfl dX4_roll_73 ?_
          refine v_sub [2, 3, 4, 5, 1, 0] rfl ?_
          exact w4_roll_75 C p1 k hk FUEL x2 x3 0 0 u3
        · refine v_goto C 128 (by decide) dX4_roll_66 ?_
          refine v_iinc C 1 [(3, .int (x3 + 1)), (0, .ref g.1), (1, .int p1), (2, .int x2)] 3 rfl (by decide) (by decide) rfl dX4_roll_128 ?_
          refine v_goto C 27 (by decide) dX4_roll_131 ?_
          refine v_sub [1, 2, 3, 0] rfl ?_
          exact hk x2 (x3 + 1) u3
    · refine v_iinc C 1 [(3, .int (x3 + 1)), (0, .ref g.1), (1, .int p1), (2, .int x2)] 3 rfl (by decide) (by decide) rfl dX4_roll_128 ?_
      refine v_goto C 27 (by decide) dX4_roll_131 ?_
      refine v_sub [1, 2, 3, 0] rfl ?_
      exact hk x2 (x3 + 1) u
def f4_roll (p1 : Int32) (u : MS) : Option (Int32 × MS) :=
  mlet (mS u 0 0) fun u1 =>
  mb (f4_within p1 0 999 u1) fun r3 u2 =>
  mb (f4_right r3 1 u2) fun r5 u4 =>
  if r5 = 0 then
    some (0, u4)
  else
    ml2 (f4_roll_27 p1) FUEL (-1) 0 u4
theorem ct4_roll (t : TT) (g : GM) (l : Launch) (p1 : Int32) (u : MS) : CtM mkI t g l yX4_roll cX4_roll 6 (some .int) LV_roll [.ref g.1, .int p1] u (f4_roll p1 u) := by
  refine ctM_of [(0, .ref g.1), (1, .int p1)] rfl (Nat.le_of_ble_eq_true rfl) rfl (fun p e s m args below meth c C => ?_)
  unfold f4_roll
  refine v_aload_n C 0 rfl rfl dX4_roll_0 ?_
  refine v_iconst C 0 (by decide) dX4_roll_1 ?_
  refine v_putMi C 0 (by decide) (by decide) q1615 rfl rfl (by decide +kernel) dX4_roll_2 (fun u1 => ?_)
  refine v_aload_n C 0 rfl rfl dX4_roll_5 ?_
  refine v_iload_n C 1 rfl rfl dX4_roll_6 ?_
  refine v_iconst C 0 (by decide) dX4_roll_7 ?_
  refine v_sipush C 999 (by decide) dX4_roll_8 ?_
  refine v_callSM C [.int p1, .int 0, .int 999] [.ref g.1] (ct4_within t g l p1 0 999 u1) (cw4_within C q2037 (by decide)) rfl rfl (Nat.le_of_ble_eq_true rfl) dX4_roll_11 (fun r3 u2 => ?_)
  refine v_iconst C 1 (by decide) dX4_roll_14 ?_
  refine v_callVM C [.int r3, .int 1] [] (ct4_right t g l r3 1 u2) (cw4_right C q1894 (by decide)) rfl rfl (Nat.le_of_ble_eq_true rfl) dX4_roll_15 (fun r5 u4 => ?_)
  refine v_if_ne C 23 (by decide) dX4_roll_18 (fun _ => ?_) (fun _ => ?_)
  · refine v_iconst C 0 (by decide) dX4_roll_21 ?_
    exact v_iretM C dX4_roll_22
  · refine v_iconst C (-1) (by decide) dX4_roll_23 ?_
    refine v_istore_n C [(2, .int (-1)), (0, .ref g.1), (1, .int p1)] rfl (by decide) rfl dX4_roll_24 ?_
    refine v_iconst C 0 (by decide) dX4_roll_25 ?_
    refine v_istore_n C [(3, .int 0), (2, .int (-1)), (0, .ref g.1), (1, .int p1)] rfl (by decide) rfl dX4_roll_26 ?_
    refine v_sub [2, 3, 1, 0] rfl ?_
    exact w4_roll_27 C p1 FUEL (-1) 0 u4
theorem cw4_roll {t : TT} {p : Program} {s : State} {m : MethodId} {args : Array Value} {meth : Method} {c : Code} {y0 : MethodName} {cc0 : ByteArray} {nL0 : Nat} {ret0 : Option FieldType} (C : Cx t p s m args meth c y0 cc0 nL0 ret0) {index lv : Nat} (hq : Cond.methodLink y0.cls index yX4_roll ∈ lw_all) (hR : LV_roll + 1 ≤ lv) : CallW (rmM lv) s args y0.cls RX4 index yX4_roll cX4_roll 6 (some .int) (ws_ yX4_roll cX4_roll 6 (some .int)) (rmM LV_roll) 0 0 1 :=
  cwV 1 C.2.2.2.2.1 (lw_V hq q2297 q2298 q127 q2299) rfl rfl rfl (by decide +kernel) ⟨hR, by show 8 + (6 + 11) + 100 * LV_roll ≤ 100 * lv; omega⟩
abbrev LV_friendOf0 : Nat := 0
def f4_friendOf0_2 (p1 : Int32) (k : Int32 → MS → Option (Int32 × MS)) (x2 : Int32) (u : MS) : Option (Int32 × MS) :=
  if (u.1 6) ≤ x2 then
    some (-1, u)
  else
    mchk (inbM x2 14) <|
    if (u.2.1 14 x2.toNatClampNeg) = p1 then
      mchk (inbM x2 16) <|
      if (u.2.1 16 x2.toNatClampNeg) = 1 then
        mchk (inbM x2 15) <|
        mchk (inbM (4 + (u.2.1 15 x2.toNatClampNeg)) 54) <|
        if (u.2.1 54 (4 + (u.2.1 15 x2.toNatClampNeg)).toNatClampNeg) = (-1) then
          mchk (inbM x2 15) <|
          some ((u.2.1 15 x2.toNatClampNeg), u)
        else
          k (x2 + 1) u
      else
        k (x2 + 1) u
    else
      k (x2 + 1) u
theorem w4_friendOf0_2 {p : Program} {e : Env} {s : State} {m : MethodId} {args : Array Value} {below : List Frame} {meth : Method} {c : Code} (C : Cx t p s m args meth c yX4_friendOf0 cX4_friendOf0 3 (some .int)) (p1 : Int32) (n : Nat) (x2 : Int32) (u : MS) : VM mkI t g p l e LV_friendOf0 s m args below meth c 3 2 [(0, .ref g.1), (1, .int p1), (2, .int x2)] [] u (ml1 (f4_friendOf0_2 p1) n x2 u) := by
  refine vl1 (L := fun x2 => [(0, .ref g.1), (1, .int p1), (2, .int x2)]) (fun k hk x2 u => ?_) n x2 u
  unfold f4_friendOf0_2
  refine v_iload_n C 2 rfl rfl dX4_friendOf0_2 ?_
  refine v_aload_n C 0 rfl rfl dX4_friendOf0_3 ?_
  refine v_getMi C 6 (by decide) (by decide) q1621 rfl dX4_friendOf0_4 ?_
  refine v_icmp_ge C 60 (by decide) dX4_friendOf0_7 (fun _ => ?_) (fun _ => ?_)
  · refine v_iconst C (-1) (by decide) dX4_friendOf0_60 ?_
    exact v_iretM C dX4_friendOf0_61
  · refine v_aload_n C 0 rfl rfl dX4_friendOf0_10 ?_
    refine v_getMa C 14 (by decide) (by decide) q1629 rfl dX4_friendOf0_11 ?_
    refine v_iload_n C 2 rfl rfl dX4_friendOf0_14 ?_
    refine v_chk (fun h1 => ?_)
    refine v_ialdM C h1 dX4_friendOf0_15 ?_
    refine v_iload_n C 1 rfl rfl dX4_friendOf0_16 ?_
    refine v_icmp_ne C 54 (by decide) dX4_friendOf0_17 (fun _ => ?_) (fun _ => ?_)
    · refine v_aload_n C 0 rfl rfl dX4_friendOf0_20 ?_
      refine v_getMa C 16 (by decide) (by decide) q1631 rfl dX4_friendOf0_21 ?_
      refine v_iload_n C 2 rfl rfl dX4_friendOf0_24 ?_
      refine v_chk (fun h2 => ?_)
      refine v_ialdM C h2 dX4_friendOf0_25 ?_
      refine v_iconst C 1 (by decide) dX4_friendOf0_26 ?_
      refine v_icmp_ne C 54 (by decide) dX4_friendOf0_27 (fun _ => ?_) (fun _ => ?_)
      · refine v_aload_n C 0 rfl rfl dX4_friendOf0_30 ?_
        refine v_getMa C 54 (by decide) (by decide) q1669 rfl dX4_friendOf0_31 ?_
        refine v_iconst C 4 (by decide) dX4_friendOf0_34 ?_
        refine v_aload_n C 0 rfl rfl dX4_friendOf0_35 ?_
        refine v_getMa C 15 (by decide) (by decide) q1630 rfl dX4_friendOf0_36 ?_
        refine v_iload_n C 2 rfl rfl dX4_friendOf0_39 ?_
        refine v_chk (fun h3 => ?_)
        refine v_ialdM C h3 dX4_friendOf0_40 ?_
        refine v_iadd C dX4_friendOf0_41 ?_
        refine v_chk (fun h4 => ?_)
        refine v_ialdM C h4 dX4_friendOf0_42 ?_
        refine v_iconst C (-1) (by decide) dX4_friendOf0_43 ?_
        refine v_icmp_ne C 54 (by decide) dX4_friendOf0_44 (fun _ => ?_) (fun _ => ?_)
        · refine v_aload_n C 0 rfl rfl dX4_friendOf0_47 ?_
          refine v_getMa C 15 (by decide) (by decide) q1630 rfl dX4_friendOf0_48 ?_
          refine v_iload_n C 2 rfl rfl dX4_friendOf0_51 ?_
          refine v_chk (fun h5 => ?_)
          refine v_ialdM C h5 dX4_friendOf0_52 ?_
          exact v_iretM C dX4_friendOf0_53
        · refine v_iinc C 1 [(2, .int (x2 + 1)), (0, .ref g.1), (1, .int p1)] 2 rfl (by decide) (by decide) rfl dX4_friendOf0_54 ?_
          refine v_goto C 2 (by decide) dX4_friendOf0_57 ?_
          refine v_sub [1, 2, 0] rfl ?_
          exact hk (x2 + 1) u
      · refine v_iinc C 1 [(2, .int (x2 + 1)), (0, .ref g.1), (1, .int p1)] 2 rfl (by decide) (by decide) rfl dX4_friendOf0_54 ?_
        refine v_goto C 2 (by decide) dX4_friendOf0_57 ?_
        refine v_sub [1, 2, 0] rfl ?_
        exact hk (x2 + 1) u
    · refine v_iinc C 1 [(2, .int (x2 + 1)), (0, .ref g.1), (1, .int p1)] 2 rfl (by decide) (by decide) rfl dX4_friendOf0_54 ?_
      refine v_goto C 2 (by decide) dX4_friendOf0_57 ?_
      refine v_sub [1, 2, 0] rfl ?_
      exact hk (x2 + 1) u
def f4_friendOf0 (p1 : Int32) (u : MS) : Option (Int32 × MS) :=
  ml1 (f4_friendOf0_2 p1) FUEL 0 u
theorem ct4_friendOf0 (t : TT) (g : GM) (l : Launch) (p1 : Int32) (u : MS) : CtM mkI t g l yX4_friendOf0 cX4_friendOf0 3 (some .int) LV_friendOf0 [.ref g.1, .int p1] u (f4_friendOf0 p1 u) := by
  refine ctM_of [(0, .ref g.1), (1, .int p1)] rfl (Nat.le_of_ble_eq_true rfl) rfl (fun p e s m args below meth c C => ?_)
  unfold f4_friendOf0
  refine v_iconst C 0 (by decide) dX4_friendOf0_0 ?_
  refine v_istore_n C [(2, .int 0), (0, .ref g.1), (1, .int p1)] rfl (by decide) rfl dX4_friendOf0_1 ?_
  refine v_sub [1, 2, 0] rfl ?_
  exact w4_friendOf0_2 C p1 FUEL 0 u
theorem cw4_friendOf0 {t : TT} {p : Program} {s : State} {m : MethodId} {args : Array Value} {meth : Method} {c : Code} {y0 : MethodName} {cc0 : ByteArray} {nL0 : Nat} {ret0 : Option FieldType} (C : Cx t p s m args meth c y0 cc0 nL0 ret0) {index lv : Nat} (hq : Cond.methodLink y0.cls index yX4_friendOf0 ∈ lw_all) (hR : LV_friendOf0 + 1 ≤ lv) : CallW (rmM lv) s args y0.cls RX4 index yX4_friendOf0 cX4_friendOf0 3 (some .int) (ws_ yX4_friendOf0 cX4_friendOf0 3 (some .int)) (rmM LV_friendOf0) 0 0 1 :=
  cwV 1 C.2.2.2.2.1 (lw_V hq q2306 qs116 q127 q2307) rfl rfl rfl (by decide +kernel) ⟨hR, by show 8 + (3 + 11) + 100 * LV_friendOf0 ≤ 100 * lv; omega⟩
abbrev LV_gains : Nat := 1
def f4_gains_44 (p1 : Int32) (p2 : Int32) (p3 : Int32) (p4 : Int32) (x6 : Int32) (u : MS) : Option (Int32 × MS) :=
  if p3 = 0 then
    if p4 = 0 then
      some ((x6 - 1), u)
    else
      some (x6, u)
  else
    some (x6, u)
theorem w4_gains_44 {p : Program} {e : Env} {s : State} {m : MethodId} {args : Array Value} {below : List Frame} {meth : Method} {c : Code} (C : Cx t p s m args meth c yX4_gains cX4_gains 7 (some .int)) (p1 : Int32) (p2 : Int32) (p3 : Int32) (p4 : Int32) (x6 : Int32) (u : MS) : VM mkI t g p l e LV_gains s m args below meth c 7 44 [(3, .int p3), (4, .int p4), (6, .int x6)] [] u (f4_gains_44 p1 p2 p3 p4 x6 u) := by
  unfold f4_gains_44
  refine v_iload_n C 0 rfl rfl dX4_gains_44 ?_
  refine v_if_ne C 60 (by decide) dX4_gains_45 (fun _ => ?_) (fun _ => ?_)
  · refine v_iload C 1 rfl dX4_gains_48 ?_
    refine v_if_ne C 60 (by decide) dX4_gains_50 (fun _ => ?_) (fun _ => ?_)
    · refine v_iload C 2 rfl dX4_gains_53 ?_
      refine v_iconst C 1 (by decide) dX4_gains_55 ?_
      refine v_isub C dX4_gains_56 ?_
      refine v_goto C 62 (by decide) dX4_gains_57 ?_
      exact v_iretM C dX4_gains_62
    · refine v_iload C 2 rfl dX4_gains_60 ?_
      exact v_iretM C dX4_gains_62
  · refine v_iload C 2 rfl dX4_gains_60 ?_
    exact v_iretM C dX4_gains_62
def f4_gains_18 (p1 : Int32) (p2 : Int32) (p3 : Int32) (p4 : Int32) (x5 : Int32) (s0 : Int32) (u : MS) : Option (Int32 × MS) :=
  if p4 = 1 then
    mb (f4_those p1 0 u) fun r2 u1 =>
    if ((r2 >>> (x5 &&& 31)) &&& 1) = 1 then
      f4_gains_44 p1 p2 p3 p4 (s0 + 5) u1
    else
      f4_gains_44 p1 p2 p3 p4 s0 u1
  else
    f4_gains_44 p1 p2 p3 p4 s0 u
theorem w4_gains_18 {p : Program} {e : Env} {s : State} {m : MethodId} {args : Array Value} {below : List Frame} {meth : Method} {c : Code} (C : Cx t p s m args meth c yX4_gains cX4_gains 7 (some .int)) (p1 : Int32) (p2 : Int32) (p3 : Int32) (p4 : Int32) (x5 : Int32) (s0 : Int32) (u : MS) : VM mkI t g p l e LV_gains s m args below meth c 7 18 [(0, .ref g.1), (1, .int p1), (3, .int p3), (4, .int p4), (5, .int x5)] [.int s0] u (f4_gains_18 p1 p2 p3 p4 x5 s0 u) := by
  unfold f4_gains_18
  refine v_istore C [(6, .int s0), (0, .ref g.1), (1, .int p1), (3, .int p3), (4, .int p4), (5, .int x5)] (by decide) rfl dX4_gains_18 ?_
  refine v_iload C 4 rfl dX4_gains_20 ?_
  refine v_iconst C 1 (by decide) dX4_gains_22 ?_
  refine v_icmp_ne C 44 (by decide) dX4_gains_23 (fun _ => ?_) (fun _ => ?_)
  · refine v_aload_n C 1 rfl rfl dX4_gains_26 ?_
    refine v_iload_n C 2 rfl rfl dX4_gains_27 ?_
    refine v_iconst C 0 (by decide) dX4_gains_28 ?_
    refine v_callVM C [.int p1, .int 0] [] (ct4_those t g l p1 0 u) (cw4_those C q2068 (by decide)) rfl rfl (Nat.le_of_ble_eq_true rfl) dX4_gains_29 (fun r2 u1 => ?_)
    refine v_iload C 5 rfl dX4_gains_32 ?_
    refine v_ishr C dX4_gains_34 ?_
    refine v_iconst C 1 (by decide) dX4_gains_35 ?_
    refine v_iand C dX4_gains_36 ?_
    refine v_iconst C 1 (by decide) dX4_gains_37 ?_
    refine v_icmp_ne C 44 (by decide) dX4_gains_38 (fun _ => ?_) (fun _ => ?_)
    · refine v_iinc C 5 [(6, .int (s0 + 5)), (0, .ref g.1), (1, .int p1), (3, .int p3), (4, .int p4), (5, .int x5)] 0 rfl (by decide) (by decide) rfl dX4_gains_41 ?_
      refine v_sub [3, 4, 0] rfl ?_
      exact w4_gains_44 C p1 p2 p3 p4 (s0 + 5) u1
    · refine v_sub [3, 4, 0] rfl ?_
      exact w4_gains_44 C p1 p2 p3 p4 s0 u1
  · refine v_sub [3, 4, 0] rfl ?_
    exact w4_gains_44 C p1 p2 p3 p4 s0 u
def f4_gains (p1 : Int32) (p2 : Int32) (p3 : Int32) (p4 : Int32) (u : MS) : Option (Int32 × MS) :=
  mb (f4_friendOf0 p2 u) fun r2 u1 =>
  if p3 = 1 then
    f4_gains_18 p1 p2 p3 p4 r2 (-3) u1
  else
    f4_gains_18 p1 p2 p3 p4 r2 0 u1
theorem ct4_gains (t : TT) (g : GM) (l : Launch) (p1 : Int32) (p2 : Int32) (p3 : Int32) (p4 : Int32) (u : MS) : CtM mkI t g l yX4_gains cX4_gains 7 (some .int) LV_gains [.ref g.1, .int p1, .int p2, .int p3, .int p4] u (f4_gains p1 p2 p3 p4 u) := by
  refine ctM_of [(0, .ref g.1), (1, .int p1), (2, .int p2), (3, .int p3), (4, .int p4)] rfl (Nat.le_of_ble_eq_true rfl) rfl (fun p e s m args below meth c C => ?_)
  unfold f4_gains
  refine v_aload_n C 0 rfl rfl dX4_gains_0 ?_
  refine v_iload_n C 2 rfl rfl dX4_gains_1 ?_
  refine v_callVM C [.int p2] [] (ct4_friendOf0 t g l p2 u) (cw4_friendOf0 C q2304 (by decide)) rfl rfl (Nat.le_of_ble_eq_true rfl) dX4_gains_2 (fun r2 u1 => ?_)
  refine v_istore C [(5, .int r2), (0, .ref g.1), (1, .int p1), (2, .int p2), (3, .int p3), (4, .int p4)] (by decide) rfl dX4_gains_5 ?_
  refine v_iload_n C 4 rfl rfl dX4_gains_7 ?_
  refine v_iconst C 1 (by decide) dX4_gains_8 ?_
  refine v_icmp_ne C 17 (by decide) dX4_gains_9 (fun _ => ?_) (fun _ => ?_)
  · refine v_bipush C (-3) (by decide) dX4_gains_12 ?_
    refine v_goto C 18 (by decide) dX4_gains_14 ?_
    refine v_sub [1, 2, 4, 5, 0] rfl ?_
    exact w4_gains_18 C p1 p2 p3 p4 r2 (-3) u1
  · refine v_iconst C 0 (by decide) dX4_gains_17 ?_
    refine v_sub [1, 2, 4, 5, 0] rfl ?_
    exact w4_gains_18 C p1 p2 p3 p4 r2 0 u1
theorem cw4_gains {t : TT} {p : Program} {s : State} {m : MethodId} {args : Array Value} {meth : Method} {c : Code} {y0 : MethodName} {cc0 : ByteArray} {nL0 : Nat} {ret0 : Option FieldType} (C : Cx t p s m args meth c y0 cc0 nL0 ret0) {index lv : Nat} (hq : Cond.methodLink y0.cls index yX4_gains ∈ lw_all) (hR : LV_gains + 1 ≤ lv) : CallW (rmM lv) s args y0.cls RX4 index yX4_gains cX4_gains 7 (some .int) (ws_ yX4_gains cX4_gains 7 (some .int)) (rmM LV_gains) 0 0 4 :=
  cwV 4 C.2.2.2.2.1 (lw_V hq q2310 qs117 q127 q2311) rfl rfl rfl (by decide +kernel) ⟨hR, by show 8 + (7 + 11) + 100 * LV_gains ≤ 100 * lv; omega⟩
end
