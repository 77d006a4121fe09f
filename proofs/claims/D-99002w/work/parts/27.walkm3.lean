/-! walks of WhiteBoardModel, printed by tools/gen.py -/
set_option maxRecDepth 100000
section
variable {t : TT} {g : GM} {l : Launch}
abbrev LV_works : Nat := 0
def f4_works (p0 : Int32) (p1 : Int32) (p2 : Int32) (u : MS) : Option (Int32 × MS) :=
  if p0 = 4 then
    if p1 = 0 then
      some (0, u)
    else
      if p2 = 0 then
        some (0, u)
      else
        some (1, u)
  else
    if p0 = 5 then
      if p1 = 0 then
        if p2 = 0 then
          some (0, u)
        else
          some (1, u)
      else
        some (1, u)
    else
      if p0 = 6 then
        if p2 ≤ p1 then
          some (0, u)
        else
          some (1, u)
      else
        if p0 = 7 then
          if p1 = p2 then
            some (1, u)
          else
            some (0, u)
        else
          if p0 = 8 then
            some ((p1 + p2), u)
          else
            if p0 = 9 then
              some ((p1 - p2), u)
            else
              if p0 = 10 then
                some ((p1 * p2), u)
              else
                if p2 = 0 then
                  some (0, u)
                else
                  mchk (p2 != 0) <|
                  some ((p1 / p2), u)
theorem ct4_works (t : TT) (g : GM) (l : Launch) (p0 : Int32) (p1 : Int32) (p2 : Int32) (u : MS) : CtM mkI t g l yX4_works cX4_works 3 (some .int) LV_works [.int p0, .int p1, .int p2] u (f4_works p0 p1 p2 u) := by
  refine ctM_of [(0, .int p0), (1, .int p1), (2, .int p2)] rfl (Nat.le_of_ble_eq_true rfl) rfl (fun p e s m args below meth c C => ?_)
  unfold f4_works
  refine v_iload_n C 0 rfl rfl dX4_works_0 ?_
  refine v_if (fun h1 => ?_) (fun h1 => ?_)
  · refine v_tableIn C (43) 44 (by rw [h1]; decide) (by rw [h1]; decide) (by rw [h1]; rfl) (by decide) dX4_works_1 ?_
    refine v_iload_n C 1 rfl rfl dX4_works_44 ?_
    refine v_if_eq C 56 (by decide) dX4_works_45 (fun _ => ?_) (fun _ => ?_)
    · refine v_iconst C 0 (by decide) dX4_works_56 ?_
      exact v_iretM C dX4_works_57
    · refine v_iload_n C 2 rfl rfl dX4_works_48 ?_
      refine v_if_eq C 56 (by decide) dX4_works_49 (fun _ => ?_) (fun _ => ?_)
      · refine v_iconst C 0 (by decide) dX4_works_56 ?_
        exact v_iretM C dX4_works_57
      · refine v_iconst C 1 (by decide) dX4_works_52 ?_
        refine v_goto C 57 (by decide) dX4_works_53 ?_
        exact v_iretM C dX4_works_57
  · skip
    refine v_if (fun h2 => ?_) (fun h2 => ?_)
    · refine v_tableIn C (57) 58 (by rw [h2]; decide) (by rw [h2]; decide) (by rw [h2]; rfl) (by decide) dX4_works_1 ?_
      refine v_iload_n C 1 rfl rfl dX4_works_58 ?_
      refine v_if_ne C 66 (by decide) dX4_works_59 (fun _ => ?_) (fun _ => ?_)
      · refine v_iload_n C 2 rfl rfl dX4_works_62 ?_
        refine v_if_eq C 70 (by decide) dX4_works_63 (fun _ => ?_) (fun _ => ?_)
        · refine v_iconst C 0 (by decide) dX4_works_70 ?_
          exact v_iretM C dX4_works_71
        · refine v_iconst C 1 (by decide) dX4_works_66 ?_
          refine v_goto C 71 (by decide) dX4_works_67 ?_
          exact v_iretM C dX4_works_71
      · refine v_iconst C 1 (by decide) dX4_works_66 ?_
        refine v_goto C 71 (by decide) dX4_works_67 ?_
        exact v_iretM C dX4_works_71
    · skip
      refine v_if (fun h3 => ?_) (fun h3 => ?_)
      · refine v_tableIn C (71) 72 (by rw [h3]; decide) (by rw [h3]; decide) (by rw [h3]; rfl) (by decide) dX4_works_1 ?_
        refine v_iload_n C 1 rfl rfl dX4_works_72 ?_
        refine v_iload_n C 2 rfl rfl dX4_works_73 ?_
        refine v_icmp_ge C 81 (by decide) dX4_works_74 (fun _ => ?_) (fun _ => ?_)
        · refine v_iconst C 0 (by decide) dX4_works_81 ?_
          exact v_iretM C dX4_works_82
        · refine v_iconst C 1 (by decide) dX4_works_77 ?_
          refine v_goto C 82 (by decide) dX4_works_78 ?_
          exact v_iretM C dX4_works_82
      · skip
        refine v_if (fun h4 => ?_) (fun h4 => ?_)
        · refine v_tableIn C (82) 83 (by rw [h4]; decide) (by rw [h4]; decide) (by rw [h4]; rfl) (by decide) dX4_works_1 ?_
          refine v_iload_n C 1 rfl rfl dX4_works_83 ?_
          refine v_iload_n C 2 rfl rfl dX4_works_84 ?_
          refine v_icmp_ne C 92 (by decide) dX4_works_85 (fun _ => ?_) (fun _ => ?_)
          · refine v_iconst C 1 (by decide) dX4_works_88 ?_
            refine v_goto C 93 (by decide) dX4_works_89 ?_
            exact v_iretM C dX4_works_93
          · refine v_iconst C 0 (by decide) dX4_works_92 ?_
            exact v_iretM C dX4_works_93
        · skip
          refine v_if (fun h5 => ?_) (fun h5 => ?_)
          · refine v_tableIn C (93) 94 (by rw [h5]; decide) (by rw [h5]; decide) (by rw [h5]; rfl) (by decide) dX4_works_1 ?_
            refine v_iload_n C 1 rfl rfl dX4_works_94 ?_
            refine v_iload_n C 2 rfl rfl dX4_works_95 ?_
            refine v_iadd C dX4_works_96 ?_
            exact v_iretM C dX4_works_97
          · skip
            refine v_if (fun h6 => ?_) (fun h6 => ?_)
            · refine v_tableIn C (97) 98 (by rw [h6]; decide) (by rw [h6]; decide) (by rw [h6]; rfl) (by decide) dX4_works_1 ?_
              refine v_iload_n C 1 rfl rfl dX4_works_98 ?_
              refine v_iload_n C 2 rfl rfl dX4_works_99 ?_
              refine v_isub C dX4_works_100 ?_
              exact v_iretM C dX4_works_101
            · skip
              refine v_if (fun h7 => ?_) (fun h7 => ?_)
              · refine v_tableIn C (101) 102 (by rw [h7]; decide) (by rw [h7]; decide) (by rw [h7]; rfl) (by decide) dX4_works_1 ?_
                refine v_iload_n C 1 rfl rfl dX4_works_102 ?_
                refine v_iload_n C 2 rfl rfl dX4_works_103 ?_
                refine v_imul C dX4_works_104 ?_
                exact v_iretM C dX4_works_105
              · skip
                refine v_tableOut C 106 (by have := lv_neT (a := 4) h1 (by decide); have := lv_neT (a := 5) h2 (by decide); have := lv_neT (a := 6) h3 (by decide); have := lv_neT (a := 7) h4 (by decide); have := lv_neT (a := 8) h5 (by decide); have := lv_neT (a := 9) h6 (by decide); have := lv_neT (a := 10) h7 (by decide); omega) (by decide) dX4_works_1 ?_
                refine v_iload_n C 2 rfl rfl dX4_works_106 ?_
                refine v_if_ne C 114 (by decide) dX4_works_107 (fun _ => ?_) (fun _ => ?_)
                · refine v_iconst C 0 (by decide) dX4_works_110 ?_
                  refine v_goto C 117 (by decide) dX4_works_111 ?_
                  exact v_iretM C dX4_works_117
                · refine v_iload_n C 1 rfl rfl dX4_works_114 ?_
                  refine v_iload_n C 2 rfl rfl dX4_works_115 ?_
                  refine v_chk (fun h8 => ?_)
                  refine v_idiv C (bne_iff_ne.mp h8) dX4_works_116 ?_
                  exact v_iretM C dX4_works_117
theorem cw4_works {t : TT} {p : Program} {s : State} {m : MethodId} {args : Array Value} {meth : Method} {c : Code} {y0 : MethodName} {cc0 : ByteArray} {nL0 : Nat} {ret0 : Option FieldType} (C : Cx t p s m args meth c y0 cc0 nL0 ret0) {index lv : Nat} (hq : Cond.methodLink y0.cls index yX4_works ∈ lw_all) (hR : LV_works + 1 ≤ lv) : CallB (rmM lv) s args y0.cls index yX4_works cX4_works 3 (some .int) (ws_ yX4_works cX4_works 3 (some .int)) (rmM LV_works) 0 0 3 ∧ (Cond.static yX4_works).before args s = true :=
  ⟨callB_of 3 C.2.2.2.2.1 (lw_meth q2112) rfl rfl rfl (C.2.2.2.2.1 _ q127) (C.2.2.2.2.1 _ hq) (by decide +kernel) ⟨hR, by show 8 + (3 + 11) + 100 * LV_works ≤ 100 * lv; omega⟩, C.2.2.2.2.1 _ q2111⟩
abbrev LV_reckons : Nat := 1
def f4_reckons_36 (p1 : Int32) (k4 : Int32 → Int32 → MS → Option (Int32 × MS)) (x2 : Int32) (x3 : Int32) (x4 : Int32) (u : MS) : Option (Int32 × MS) :=
  if x4 = 1 then
    mchk (inbM x3 17) <|
    mchk (inbM x2 58) <|
    mlet (mA u 58 x2.toNatClampNeg (u.2.1 17 x3.toNatClampNeg)) fun u3 =>
    k4 (x2 + 1) (x3 + 1) u3
  else
    mchk (inbM x3 17) <|
    mchk (inbM (u.2.1 17 x3.toNatClampNeg) 57) <|
    mchk (inbM x2 58) <|
    mlet (mA u 58 x2.toNatClampNeg (u.2.1 57 (u.2.1 17 x3.toNatClampNeg).toNatClampNeg)) fun u4 =>
    k4 (x2 + 1) (x3 + 1) u4
theorem w4_reckons_36 {p : Program} {e : Env} {s : State} {m : MethodId} {args : Array Value} {below : List Frame} {meth : Method} {c : Code} (C : Cx t p s m args meth c yX4_reckons cX4_reckons 5 (some .int)) (p1 : Int32) (k4 : Int32 → Int32 → MS → Option (Int32 × MS)) (hk4 : ∀ (x2 : Int32) (x3 : Int32) (u : MS), VM mkI t g p l e LV_reckons s m args below meth c 5 4 [(0, .ref g.1), (2, .int x2), (3, .int x3)] [] u (k4 x2 x3 u)) (x2 : Int32) (x3 : Int32) (x4 : Int32) (u : MS) : VM mkI t g p l e LV_reckons s m args below meth c 5 36 [(0, .ref g.1), (2, .int x2), (3, .int x3), (4, .int x4)] [] u (f4_reckons_36 p1 k4 x2 x3 x4 u) := by
  unfold f4_reckons_36
  refine v_aload_n C 0 rfl rfl dX4_reckons_36 ?_
  refine v_getMa C 58 (by decide) (by decide) q1673 rfl dX4_reckons_37 ?_
  refine v_iload_n C 1 rfl rfl dX4_reckons_40 ?_
  refine v_iload C 3 rfl dX4_reckons_41 ?_
  refine v_iconst C 1 (by decide) dX4_reckons_43 ?_
  refine v_icmp_ne C 56 (by decide) dX4_reckons_44 (fun _ => ?_) (fun _ => ?_)
  · refine v_aload_n C 0 rfl rfl dX4_reckons_47 ?_
    refine v_getMa C 17 (by decide) (by decide) q1632 rfl dX4_reckons_48 ?_
    refine v_iload_n C 2 rfl rfl dX4_reckons_51 ?_
    refine v_chk (fun h1 => ?_)
    refine v_ialdM C h1 dX4_reckons_52 ?_
    refine v_goto C 67 (by decide) dX4_reckons_53 ?_
    refine v_chk (fun h2 => ?_)
    refine v_iastM C h2 dX4_reckons_67 (fun u3 => ?_)
    refine v_iinc C 1 [(3, .int (x3 + 1)), (0, .ref g.1), (2, .int x2), (4, .int x4)] 2 rfl (by decide) (by decide) rfl dX4_reckons_68 ?_
    refine v_iinc C 1 [(2, .int (x2 + 1)), (3, .int (x3 + 1)), (0, .ref g.1), (4, .int x4)] 2 rfl (by decide) (by decide) rfl dX4_reckons_71 ?_
    refine v_goto C 140 (by decide) dX4_reckons_74 ?_
    refine v_goto C 4 (by decide) dX4_reckons_140 ?_
    refine v_sub [2, 0, 1] rfl ?_
    exact hk4 (x2 + 1) (x3 + 1) u3
  · refine v_aload_n C 0 rfl rfl dX4_reckons_56 ?_
    refine v_getMa C 57 (by decide) (by decide) q1672 rfl dX4_reckons_57 ?_
    refine v_aload_n C 0 rfl rfl dX4_reckons_60 ?_
    refine v_getMa C 17 (by decide) (by decide) q1632 rfl dX4_reckons_61 ?_
    refine v_iload_n C 2 rfl rfl dX4_reckons_64 ?_
    refine v_chk (fun h1 => ?_)
    refine v_ialdM C h1 dX4_reckons_65 ?_
    refine v_chk (fun h2 => ?_)
    refine v_ialdM C h2 dX4_reckons_66 ?_
    refine v_chk (fun h3 => ?_)
    refine v_iastM C h3 dX4_reckons_67 (fun u4 => ?_)
    refine v_iinc C 1 [(3, .int (x3 + 1)), (0, .ref g.1), (2, .int x2), (4, .int x4)] 2 rfl (by decide) (by decide) rfl dX4_reckons_68 ?_
    refine v_iinc C 1 [(2, .int (x2 + 1)), (3, .int (x3 + 1)), (0, .ref g.1), (4, .int x4)] 2 rfl (by decide) (by decide) rfl dX4_reckons_71 ?_
    refine v_goto C 140 (by decide) dX4_reckons_74 ?_
    refine v_goto C 4 (by decide) dX4_reckons_140 ?_
    refine v_sub [2, 0, 1] rfl ?_
    exact hk4 (x2 + 1) (x3 + 1) u4
def f4_reckons_4 (p1 : Int32) (k : Int32 → Int32 → MS → Option (Int32 × MS)) (x2 : Int32) (x3 : Int32) (u : MS) : Option (Int32 × MS) :=
  mchk (inbM x3 17) <|
  if (u.2.1 17 x3.toNatClampNeg) = 0 then
    some ((u.2.1 58 (0 : Int32).toNatClampNeg), u)
  else
    mchk (inbM x3 17) <|
    mlet (u.2.1 17 x3.toNatClampNeg) fun v3 =>
    if v3 = 1 then
      f4_reckons_36 p1 k x2 (x3 + 1) v3 u
    else
      if v3 = 2 then
        f4_reckons_36 p1 k x2 (x3 + 1) v3 u
      else
        if v3 = 3 then
          mchk (inbM (x2 - 1) 58) <|
          if (u.2.1 58 (x2 - 1).toNatClampNeg) = 0 then
            mchk (inbM (x2 - 1) 58) <|
            mlet (mA u 58 (x2 - 1).toNatClampNeg 1) fun u6 =>
            k x2 (x3 + 1) u6
          else
            mchk (inbM (x2 - 1) 58) <|
            mlet (mA u 58 (x2 - 1).toNatClampNeg 0) fun u6 =>
            k x2 (x3 + 1) u6
        else
          mchk (inbM ((x2 + (-1)) - 1) 58) <|
          mchk (inbM (x2 + (-1)) 58) <|
          mb (f4_works v3 (u.2.1 58 ((x2 + (-1)) - 1).toNatClampNeg) (u.2.1 58 (x2 + (-1)).toNatClampNeg) u) fun r7 u6 =>
          mchk (inbM ((x2 + (-1)) - 1) 58) <|
          mlet (mA u6 58 ((x2 + (-1)) - 1).toNatClampNeg r7) fun u9 =>
          k (x2 + (-1)) (x3 + 1) u9
theorem w4_reckons_4 {p : Program} {e : Env} {s : State} {m : MethodId} {args : Array Value} {below : List Frame} {meth : Method} {c : Code} (C : Cx t p s m args meth c yX4_reckons cX4_reckons 5 (some .int)) (p1 : Int32) (n : Nat) (x2 : Int32) (x3 : Int32) (u : MS) : VM mkI t g p l e LV_reckons s m args below meth c 5 4 [(0, .ref g.1), (2, .int x2), (3, .int x3)] [] u (ml2 (f4_reckons_4 p1) n x2 x3 u) := by
  refine vl2 (L := fun x2 x3 => [(0, .ref g.1), (2, .int x2), (3, .int x3)]) (fun k hk x2 x3 u => ?_) n x2 x3 u
  unfold f4_reckons_4
  refine v_aload_n C 0 rfl rfl dX4_reckons_4 ?_
  refine v_getMa C 17 (by decide) (by decide) q1632 rfl dX4_reckons_5 ?_
  refine v_iload_n C 2 rfl rfl dX4_reckons_8 ?_
  refine v_chk (fun h1 => ?_)
  refine v_ialdM C h1 dX4_reckons_9 ?_
  refine v_if_eq C 143 (by decide) dX4_reckons_10 (fun _ => ?_) (fun _ => ?_)
  · refine v_aload_n C 0 rfl rfl dX4_reckons_143 ?_
    refine v_getMa C 58 (by decide) (by decide) q1673 rfl dX4_reckons_144 ?_
    refine v_iconst C 0 (by decide) dX4_reckons_147 ?_
    refine v_ialdM C (by decide) dX4_reckons_148 ?_
    exact v_iretM C dX4_reckons_149
  · refine v_aload_n C 0 rfl rfl dX4_reckons_13 ?_
    refine v_getMa C 17 (by decide) (by decide) q1632 rfl dX4_reckons_14 ?_
    refine v_iload_n C 2 rfl rfl dX4_reckons_17 ?_
    refine v_chk (fun h2 => ?_)
    refine v_ialdM C h2 dX4_reckons_18 ?_
    refine v_topi (fun v3 => ?_)
    refine v_istore C [(4, .int v3), (0, .ref g.1), (2, .int x2), (3, .int x3)] (by decide) rfl dX4_reckons_19 ?_
    refine v_iinc C 1 [(3, .int (x3 + 1)), (4, .int v3), (0, .ref g.1), (2, .int x2)] 3 rfl (by decide) (by decide) rfl dX4_reckons_21 ?_
    refine v_iload C 1 rfl dX4_reckons_24 ?_
    refine v_iconst C 1 (by decide) dX4_reckons_26 ?_
    refine v_icmp_eq C 36 (by decide) dX4_reckons_27 (fun _ => ?_) (fun _ => ?_)
    · refine v_sub [2, 3, 0, 1] rfl ?_
      exact w4_reckons_36 C p1 k hk x2 (x3 + 1) v3 u
    · refine v_iload C 1 rfl dX4_reckons_30 ?_
      refine v_iconst C 2 (by decide) dX4_reckons_32 ?_
      refine v_icmp_ne C 77 (by decide) dX4_reckons_33 (fun _ => ?_) (fun _ => ?_)
      · refine v_sub [2, 3, 0, 1] rfl ?_
        exact w4_reckons_36 C p1 k hk x2 (x3 + 1) v3 u
      · refine v_iload C 1 rfl dX4_reckons_77 ?_
        refine v_iconst C 3 (by decide) dX4_reckons_79 ?_
        refine v_icmp_ne C 110 (by decide) dX4_reckons_80 (fun _ => ?_) (fun _ => ?_)
        · refine v_aload_n C 2 rfl rfl dX4_reckons_83 ?_
          refine v_getMa C 58 (by decide) (by decide) q1673 rfl dX4_reckons_84 ?_
          refine v_iload_n C 3 rfl rfl dX4_reckons_87 ?_
          refine v_iconst C 1 (by decide) dX4_reckons_88 ?_
          refine v_isub C dX4_reckons_89 ?_
          refine v_aload_n C 2 rfl rfl dX4_reckons_90 ?_
          refine v_getMa C 58 (by decide) (by decide) q1673 rfl dX4_reckons_91 ?_
          refine v_iload_n C 3 rfl rfl dX4_reckons_94 ?_
          refine v_iconst C 1 (by decide) dX4_reckons_95 ?_
          refine v_isub C dX4_reckons_96 ?_
          refine v_chk (fun h4 => ?_)
          refine v_ialdM C h4 dX4_reckons_97 ?_
          refine v_if_ne C 105 (by decide) dX4_reckons_98 (fun _ => ?_) (fun _ => ?_)
          · refine v_iconst C 1 (by decide) dX4_reckons_101 ?_
            refine v_goto C 106 (by decide) dX4_reckons_102 ?_
            refine v_chk (fun h5 => ?_)
            refine v_iastM C h5 dX4_reckons_106 (fun u6 => ?_)
            refine v_goto C 140 (by decide) dX4_reckons_107 ?_
            refine v_goto C 4 (by decide) dX4_reckons_140 ?_
            refine v_sub [2, 3, 0] rfl ?_
            exact hk x2 (x3 + 1) u6
          · refine v_iconst C 0 (by decide) dX4_reckons_105 ?_
            refine v_chk (fun h5 => ?_)
            refine v_iastM C h5 dX4_reckons_106 (fun u6 => ?_)
            refine v_goto C 140 (by decide) dX4_reckons_107 ?_
            refine v_goto C 4 (by decide) dX4_reckons_140 ?_
            refine v_sub [2, 3, 0] rfl ?_
            exact hk x2 (x3 + 1) u6
        · refine v_iinc C (-1) [(2, .int (x2 + (-1))), (3, .int (x3 + 1)), (4, .int v3), (0, .ref g.1)] 3 rfl (by decide) (by decide) rfl dX4_reckons_110 ?_
          refine v_aload_n C 3 rfl rfl dX4_reckons_113 ?_
          refine v_getMa C 58 (by decide) (by decide) q1673 rfl dX4_reckons_114 ?_
          refine v_iload_n C 0 rfl rfl dX4_reckons_117 ?_
          refine v_iconst C 1 (by decide) dX4_reckons_118 ?_
          refine v_isub C dX4_reckons_119 ?_
          refine v_iload C 2 rfl dX4_reckons_120 ?_
          refine v_aload_n C 3 rfl rfl dX4_reckons_122 ?_
          refine v_getMa C 58 (by decide) (by decide) q1673 rfl dX4_reckons_123 ?_
          refine v_iload_n C 0 rfl rfl dX4_reckons_126 ?_
          refine v_iconst C 1 (by decide) dX4_reckons_127 ?_
          refine v_isub C dX4_reckons_128 ?_
          refine v_chk (fun h4 => ?_)
          refine v_ialdM C h4 dX4_reckons_129 ?_
          refine v_aload_n C 3 rfl rfl dX4_reckons_130 ?_
          refine v_getMa C 58 (by decide) (by decide) q1673 rfl dX4_reckons_131 ?_
          refine v_iload_n C 0 rfl rfl dX4_reckons_134 ?_
          refine v_chk (fun h5 => ?_)
          refine v_ialdM C h5 dX4_reckons_135 ?_
          refine v_callSM C [.int v3, .int (u.2.1 58 ((x2 + (-1)) - 1).toNatClampNeg), .int (u.2.1 58 (x2 + (-1)).toNatClampNeg)] [.int ((x2 + (-1)) - 1), .ref (g.2 58)] (ct4_works t g l v3 (u.2.1 58 ((x2 + (-1)) - 1).toNatClampNeg) (u.2.1 58 (x2 + (-1)).toNatClampNeg) u) (cw4_works C q2110 (by decide)) rfl rfl (Nat.le_of_ble_eq_true rfl) dX4_reckons_136 (fun r7 u6 => ?_)
          refine v_chk (fun h8 => ?_)
          refine v_iastM C h8 dX4_reckons_139 (fun u9 => ?_)
          refine v_goto C 4 (by decide) dX4_reckons_140 ?_
          refine v_sub [3, 0, 1] rfl ?_
          exact hk (x2 + (-1)) (x3 + 1) u9
def f4_reckons (p1 : Int32) (u : MS) : Option (Int32 × MS) :=
  ml2 (f4_reckons_4 p1) FUEL 0 p1 u
theorem ct4_reckons (t : TT) (g : GM) (l : Launch) (p1 : Int32) (u : MS) : CtM mkI t g l yX4_reckons cX4_reckons 5 (some .int) LV_reckons [.ref g.1, .int p1] u (f4_reckons p1 u) := by
  refine ctM_of [(0, .ref g.1), (1, .int p1)] rfl (Nat.le_of_ble_eq_true rfl) rfl (fun p e s m args below meth c C => ?_)
  unfold f4_reckons
  refine v_iconst C 0 (by decide) dX4_reckons_0 ?_
  refine v_istore_n C [(2, .int 0), (0, .ref g.1), (1, .int p1)] rfl (by decide) rfl dX4_reckons_1 ?_
  refine v_iload_n C 2 rfl rfl dX4_reckons_2 ?_
  refine v_istore_n C [(3, .int p1), (2, .int 0), (0, .ref g.1), (1, .int p1)] rfl (by decide) rfl dX4_reckons_3 ?_
  refine v_sub [2, 1, 0] rfl ?_
  exact w4_reckons_4 C p1 FUEL 0 p1 u
theorem cw4_reckons {t : TT} {p : Program} {s : State} {m : MethodId} {args : Array Value} {meth : Method} {c : Code} {y0 : MethodName} {cc0 : ByteArray} {nL0 : Nat} {ret0 : Option FieldType} (C : Cx t p s m args meth c y0 cc0 nL0 ret0) {index lv : Nat} (hq : Cond.methodLink y0.cls index yX4_reckons ∈ lw_all) (hR : LV_reckons + 1 ≤ lv) : CallW (rmM lv) s args y0.cls RX4 index yX4_reckons cX4_reckons 5 (some .int) (ws_ yX4_reckons cX4_reckons 5 (some .int)) (rmM LV_reckons) 0 0 1 :=
  cwV 1 C.2.2.2.2.1 (lw_V hq q2108 qs93 q127 q2109) rfl rfl rfl (by decide +kernel) ⟨hR, by show 8 + (5 + 11) + 100 * LV_reckons ≤ 100 * lv; omega⟩
abbrev LV_grudgeOf : Nat := 2
def f4_grudgeOf (p1 : Nat) (p2 : Int32) (p3 : Int32) (u : MS) : Option (Int32 × MS) :=
  if (u.1 7) = (-1) then
    mchk (inbM p3 12) <|
    some ((u.2.1 12 p3.toNatClampNeg), u)
  else
    mb (f4_listOf p1 u) fun r2 u1 =>
    mchk (inbM p3 12) <|
    mlet (mA u1 57 (0 : Int32).toNatClampNeg (u1.2.1 12 p3.toNatClampNeg)) fun u4 =>
    mchk (inbM (31 + p2) p1) <|
    mlet (mA u4 57 (1 : Int32).toNatClampNeg (u4.2.1 p1 (31 + p2).toNatClampNeg)) fun u6 =>
    mb (f4_those p2 0 u6) fun r8 u7 =>
    mlet (mA u7 57 (2 : Int32).toNatClampNeg ((r8 >>> (p3 &&& 31)) &&& 1)) fun u9 =>
    mb (f4_those p2 1 u9) fun r11 u10 =>
    mlet (mA u10 57 (3 : Int32).toNatClampNeg ((r11 >>> (p3 &&& 31)) &&& 1)) fun u12 =>
    mchk (inbM p3 13) <|
    mb (f4_bits ((u12.2.1 13 p3.toNatClampNeg) &&& r2) u12) fun r15 u14 =>
    mlet (mA u14 57 (4 : Int32).toNatClampNeg r15) fun u16 =>
    mb (f4_bits r2 u16) fun r18 u17 =>
    mlet (mA u17 57 (5 : Int32).toNatClampNeg r18) fun u19 =>
    mchk (inbM 0 p1) <|
    mlet (mA u19 57 (6 : Int32).toNatClampNeg (u19.2.1 p1 (0 : Int32).toNatClampNeg)) fun u21 =>
    mchk (inbM 2 p1) <|
    mlet (mA u21 57 (7 : Int32).toNatClampNeg (u21.2.1 p1 (2 : Int32).toNatClampNeg)) fun u23 =>
    mb (f4_reckons (u23.1 7) u23) fun r25 u24 =>
    some (r25, u24)
theorem ct4_grudgeOf (t : TT) (g : GM) (l : Launch) (p1 : Nat) (p2 : Int32) (p3 : Int32) (u : MS) : CtM mkI t g l yX4_grudgeOf cX4_grudgeOf 5 (some .int) LV_grudgeOf [.ref g.1, .ref (g.2 p1), .int p2, .int p3] u (f4_grudgeOf p1 p2 p3 u) := by
  refine ctM_of [(0, .ref g.1), (1, .ref (g.2 p1)), (2, .int p2), (3, .int p3)] rfl (Nat.le_of_ble_eq_true rfl) rfl (fun p e s m args below meth c C => ?_)
  unfold f4_grudgeOf
  refine v_aload_n C 0 rfl rfl dX4_grudgeOf_0 ?_
  refine v_getMi C 7 (by decide) (by decide) q1622 rfl dX4_grudgeOf_1 ?_
  refine v_iconst C (-1) (by decide) dX4_grudgeOf_4 ?_
  refine v_icmp_ne C 15 (by decide) dX4_grudgeOf_5 (fun _ => ?_) (fun _ => ?_)
  · refine v_aload_n C 0 rfl rfl dX4_grudgeOf_8 ?_
    refine v_getMa C 12 (by decide) (by decide) q1627 rfl dX4_grudgeOf_9 ?_
    refine v_iload_n C 3 rfl rfl dX4_grudgeOf_12 ?_
    refine v_chk (fun h1 => ?_)
    refine v_ialdM C h1 dX4_grudgeOf_13 ?_
    exact v_iretM C dX4_grudgeOf_14
  · refine v_aload_n C 0 rfl rfl dX4_grudgeOf_15 ?_
    refine v_aload_n C 1 rfl rfl dX4_grudgeOf_16 ?_
    refine v_callVM C [.ref (g.2 p1)] [] (ct4_listOf t g l p1 u) (cw4_listOf C q2040 (by decide)) rfl rfl (Nat.le_of_ble_eq_true rfl) dX4_grudgeOf_17 (fun r2 u1 => ?_)
    refine v_istore C [(4, .int r2), (0, .ref g.1), (1, .ref (g.2 p1)), (2, .int p2), (3, .int p3)] (by decide) rfl dX4_grudgeOf_20 ?_
    refine v_aload_n C 1 rfl rfl dX4_grudgeOf_22 ?_
    refine v_getMa C 57 (by decide) (by decide) q1672 rfl dX4_grudgeOf_23 ?_
    refine v_iconst C 0 (by decide) dX4_grudgeOf_26 ?_
    refine v_aload_n C 1 rfl rfl dX4_grudgeOf_27 ?_
    refine v_getMa C 12 (by decide) (by decide) q1627 rfl dX4_grudgeOf_28 ?_
    refine v_iload_n C 4 rfl rfl dX4_grudgeOf_31 ?_
    refine v_chk (fun h3 => ?_)
    refine v_ialdM C h3 dX4_grudgeOf_32 ?_
    refine v_iastM C (by decide) dX4_grudgeOf_33 (fun u4 => ?_)
    refine v_aload_n C 1 rfl rfl dX4_grudgeOf_34 ?_
    refine v_getMa C 57 (by decide) (by decide) q1672 rfl dX4_grudgeOf_35 ?_
    refine v_iconst C 1 (by decide) dX4_grudgeOf_38 ?_
    refine v_aload_n C 2 rfl rfl dX4_grudgeOf_39 ?_
    refine v_bipush C 31 (by decide) dX4_grudgeOf_40 ?_
    refine v_iload_n C 3 rfl rfl dX4_grudgeOf_42 ?_
    refine v_iadd C dX4_grudgeOf_43 ?_
    refine v_chk (fun h5 => ?_)
    refine v_ialdM C h5 dX4_grudgeOf_44 ?_
    refine v_iastM C (by decide) dX4_grudgeOf_45 (fun u6 => ?_)
    refine v_aload_n C 1 rfl rfl dX4_grudgeOf_46 ?_
    refine v_getMa C 57 (by decide) (by decide) q1672 rfl dX4_grudgeOf_47 ?_
    refine v_iconst C 2 (by decide) dX4_grudgeOf_50 ?_
    refine v_aload_n C 1 rfl rfl dX4_grudgeOf_51 ?_
    refine v_iload_n C 3 rfl rfl dX4_grudgeOf_52 ?_
    refine v_iconst C 0 (by decide) dX4_grudgeOf_53 ?_
    refine v_callVM C [.int p2, .int 0] [.int 2, .ref (g.2 57)] (ct4_those t g l p2 0 u6) (cw4_those C q2068 (by decide)) rfl rfl (Nat.le_of_ble_eq_true rfl) dX4_grudgeOf_54 (fun r8 u7 => ?_)
    refine v_iload_n C 4 rfl rfl dX4_grudgeOf_57 ?_
    refine v_ishr C dX4_grudgeOf_58 ?_
    refine v_iconst C 1 (by decide) dX4_grudgeOf_59 ?_
    refine v_iand C dX4_grudgeOf_60 ?_
    refine v_iastM C (by decide) dX4_grudgeOf_61 (fun u9 => ?_)
    refine v_aload_n C 1 rfl rfl dX4_grudgeOf_62 ?_
    refine v_getMa C 57 (by decide) (by decide) q1672 rfl dX4_grudgeOf_63 ?_
    refine v_iconst C 3 (by decide) dX4_grudgeOf_66 ?_
    refine v_aload_n C 1 rfl rfl dX4_grudgeOf_67 ?_
    refine v_iload_n C 3 rfl rfl dX4_grudgeOf_68 ?_
    refine v_iconst C 1 (by decide) dX4_grudgeOf_69 ?_
    refine v_callVM C [.int p2, .int 1] [.int 3, .ref (g.2 57)] (ct4_those t g l p2 1 u9) (cw4_those C q2068 (by decide)) rfl rfl (Nat.le_of_ble_eq_true rfl) dX4_grudgeOf_70 (fun r11 u10 => ?_)
    refine v_iload_n C 4 rfl rfl dX4_grudgeOf_73 ?_
    refine v_ishr C dX4_grudgeOf_74 ?_
    refine v_iconst C 1 (by decide) dX4_grudgeOf_75 ?_
    refine v_iand C dX4_grudgeOf_76 ?_
    refine v_iastM C (by decide) dX4_grudgeOf_77 (fun u12 => ?_)
    refine v_aload_n C 1 rfl rfl dX4_grudgeOf_78 ?_
    refine v_getMa C 57 (by decide) (by decide) q1672 rfl dX4_grudgeOf_79 ?_
    refine v_iconst C 4 (by decide) dX4_grudgeOf_82 ?_
    refine v_aload_n C 1 rfl rfl dX4_grudgeOf_83 ?_
    refine v_getMa C 13 (by decide) (by decide) q1628 rfl dX4_grudgeOf_84 ?_
    refine v_iload_n C 4 rfl rfl dX4_grudgeOf_87 ?_
    refine v_chk (fun h13 => ?_)
    refine v_ialdM C h13 dX4_grudgeOf_88 ?_
    refine v_iload C 0 rfl dX4_grudgeOf_89 ?_
    refine v_iand C dX4_grudgeOf_91 ?_
    refine v_callSM C [.int ((u12.2.1 13 p3.toNatClampNeg) &&& r2)] [.int 4, .ref (g.2 57)] (ct4_bits t g l ((u12.2.1 13 p3.toNatClampNeg) &&& r2) u12) (cw4_bits C q2103 (by decide)) rfl rfl (Nat.le_of_ble_eq_true rfl) dX4_grudgeOf_92 (fun r15 u14 => ?_)
    refine v_iastM C (by decide) dX4_grudgeOf_95 (fun u16 => ?_)
    refine v_aload_n C 1 rfl rfl dX4_grudgeOf_96 ?_
    refine v_getMa C 57 (by decide) (by decide) q1672 rfl dX4_grudgeOf_97 ?_
    refine v_iconst C 5 (by decide) dX4_grudgeOf_100 ?_
    refine v_iload C 0 rfl dX4_grudgeOf_101 ?_
    refine v_callSM C [.int r2] [.int 5, .ref (g.2 57)] (ct4_bits t g l r2 u16) (cw4_bits C q2103 (by decide)) rfl rfl (Nat.le_of_ble_eq_true rfl) dX4_grudgeOf_103 (fun r18 u17 => ?_)
    refine v_iastM C (by decide) dX4_grudgeOf_106 (fun u19 => ?_)
    refine v_aload_n C 1 rfl rfl dX4_grudgeOf_107 ?_
    refine v_getMa C 57 (by decide) (by decide) q1672 rfl dX4_grudgeOf_108 ?_
    refine v_bipush C 6 (by decide) dX4_grudgeOf_111 ?_
    refine v_aload_n C 2 rfl rfl dX4_grudgeOf_113 ?_
    refine v_iconst C 0 (by decide) dX4_grudgeOf_114 ?_
    refine v_chk (fun h20 => ?_)
    refine v_ialdM C h20 dX4_grudgeOf_115 ?_
    refine v_iastM C (by decide) dX4_grudgeOf_116 (fun u21 => ?_)
    refine v_aload_n C 1 rfl rfl dX4_grudgeOf_117 ?_
    refine v_getMa C 57 (by decide) (by decide) q1672 rfl dX4_grudgeOf_118 ?_
    refine v_bipush C 7 (by decide) dX4_grudgeOf_121 ?_
    refine v_aload_n C 2 rfl rfl dX4_grudgeOf_123 ?_
    refine v_iconst C 2 (by decide) dX4_grudgeOf_124 ?_
    refine v_chk (fun h22 => ?_)
    refine v_ialdM C h22 dX4_grudgeOf_125 ?_
    refine v_iastM C (by decide) dX4_grudgeOf_126 (fun u23 => ?_)
    refine v_aload_n C 1 rfl rfl dX4_grudgeOf_127 ?_
    refine v_aload_n C 1 rfl rfl dX4_grudgeOf_128 ?_
    refine v_getMi C 7 (by decide) (by decide) q1622 rfl dX4_grudgeOf_129 ?_
    refine v_callVM C [.int (u23.1 7)] [] (ct4_reckons t g l (u23.1 7) u23) (cw4_reckons C q2106 (by decide)) rfl rfl (Nat.le_of_ble_eq_true rfl) dX4_grudgeOf_132 (fun r25 u24 => ?_)
    exact v_iretM C dX4_grudgeOf_135
theorem cw4_grudgeOf {t : TT} {p : Program} {s : State} {m : MethodId} {args : Array Value} {meth : Method} {c : Code} {y0 : MethodName} {cc0 : ByteArray} {nL0 : Nat} {ret0 : Option FieldType} (C : Cx t p s m args meth c y0 cc0 nL0 ret0) {index lv : Nat} (hq : Cond.methodLink y0.cls index yX4_grudgeOf ∈ lw_all) (hR : LV_grudgeOf + 1 ≤ lv) : CallW (rmM lv) s args y0.cls RX4 index yX4_grudgeOf cX4_grudgeOf 5 (some .int) (ws_ yX4_grudgeOf cX4_grudgeOf 5 (some .int)) (rmM LV_grudgeOf) 0 0 3 :=
  cwV 3 C.2.2.2.2.1 (lw_V hq q2101 qs92 q127 q2102) rfl rfl rfl (by decide +kernel) ⟨hR, by show 8 + (5 + 11) + 100 * LV_grudgeOf ≤ 100 * lv; omega⟩
abbrev LV_grudge : Nat := 3
def f4_grudge (p1 : Int32) (p2 : Int32) (u : MS) : Option (Int32 × MS) :=
  mlet (mS u 0 0) fun u1 =>
  mb (f4_isMaster p1 u1) fun r3 u2 =>
  if r3 = 0 then
    some (0, u2)
  else
    mb (f4_isPerson p2 u2) fun r5 u4 =>
    if r5 = 0 then
      some (0, u4)
    else
      mb (f4_grudgeOf 54 p1 p2 u4) fun r7 u6 =>
      some (r7, u6)
theorem ct4_grudge (t : TT) (g : GM) (l : Launch) (p1 : Int32) (p2 : Int32) (u : MS) : CtM mkI t g l yX4_grudge cX4_grudge 3 (some .int) LV_grudge [.ref g.1, .int p1, .int p2] u (f4_grudge p1 p2 u) := by
  refine ctM_of [(0, .ref g.1), (1, .int p1), (2, .int p2)] rfl (Nat.le_of_ble_eq_true rfl) rfl (fun p e s m args below meth c C => ?_)
  unfold f4_grudge
  refine v_aload_n C 0 rfl rfl dX4_grudge_0 ?_
  refine v_iconst C 0 (by decide) dX4_grudge_1 ?_
  refine v_putMi C 0 (by decide) (by decide) q1615 rfl rfl (by decide +kernel) dX4_grudge_2 (fun u1 => ?_)
  refine v_aload_n C 0 rfl rfl dX4_grudge_5 ?_
  refine v_iload_n C 1 rfl rfl dX4_grudge_6 ?_
  refine v_callVM C [.int p1] [] (ct4_isMaster t g l p1 u1) (cw4_isMaster C q2060 (by decide)) rfl rfl (Nat.le_of_ble_eq_true rfl) dX4_grudge_7 (fun r3 u2 => ?_)
  refine v_if_eq C 34 (by decide) dX4_grudge_10 (fun _ => ?_) (fun _ => ?_)
  · refine v_iconst C 0 (by decide) dX4_grudge_34 ?_
    exact v_iretM C dX4_grudge_35
  · refine v_aload_n C 0 rfl rfl dX4_grudge_13 ?_
    refine v_iload_n C 2 rfl rfl dX4_grudge_14 ?_
    refine v_callVM C [.int p2] [] (ct4_isPerson t g l p2 u2) (cw4_isPerson C q2084 (by decide)) rfl rfl (Nat.le_of_ble_eq_true rfl) dX4_grudge_15 (fun r5 u4 => ?_)
    refine v_if_eq C 34 (by decide) dX4_grudge_18 (fun _ => ?_) (fun _ => ?_)
    · refine v_iconst C 0 (by decide) dX4_grudge_34 ?_
      exact v_iretM C dX4_grudge_35
    · refine v_aload_n C 0 rfl rfl dX4_grudge_21 ?_
      refine v_aload_n C 0 rfl rfl dX4_grudge_22 ?_
      refine v_getMa C 54 (by decide) (by decide) q1669 rfl dX4_grudge_23 ?_
      refine v_iload_n C 1 rfl rfl dX4_grudge_26 ?_
      refine v_iload_n C 2 rfl rfl dX4_grudge_27 ?_
      refine v_callVM C [.ref (g.2 54), .int p1, .int p2] [] (ct4_grudgeOf t g l 54 p1 p2 u4) (cw4_grudgeOf C q2099 (by decide)) rfl rfl (Nat.le_of_ble_eq_true rfl) dX4_grudge_28 (fun r7 u6 => ?_)
      refine v_goto C 35 (by decide) dX4_grudge_31 ?_
      exact v_iretM C dX4_grudge_35
theorem cw4_grudge {t : TT} {p : Program} {s : State} {m : MethodId} {args : Array Value} {meth : Method} {c : Code} {y0 : MethodName} {cc0 : ByteArray} {nL0 : Nat} {ret0 : Option FieldType} (C : Cx t p s m args meth c y0 cc0 nL0 ret0) {index lv : Nat} (hq : Cond.methodLink y0.cls index yX4_grudge ∈ lw_all) (hR : LV_grudge + 1 ≤ lv) : CallW (rmM lv) s args y0.cls RX4 index yX4_grudge cX4_grudge 3 (some .int) (ws_ yX4_grudge cX4_grudge 3 (some .int)) (rmM LV_grudge) 0 0 2 :=
  cwV 2 C.2.2.2.2.1 (lw_V hq q2096 q2097 q127 q2098) rfl rfl rfl (by decide +kernel) ⟨hR, by show 8 + (3 + 11) + 100 * LV_grudge ≤ 100 * lv; omega⟩
abbrev LV_refuses : Nat := 0
def f4_refuses (p1 : Int32) (u : MS) : Option (Int32 × MS) :=
  mchk (inbM p1 22) <|
  mchk (inbM p1 22) <|
  mlet (mA u 22 p1.toNatClampNeg ((u.2.1 22 p1.toNatClampNeg) + 1)) fun u3 =>
  some (-1, u3)
theorem ct4_refuses (t : TT) (g : GM) (l : Launch) (p1 : Int32) (u : MS) : CtM mkI t g l yX4_refuses cX4_refuses 2 (some .int) LV_refuses [.ref g.1, .int p1] u (f4_refuses p1 u) := by
  refine ctM_of [(0, .ref g.1), (1, .int p1)] rfl (Nat.le_of_ble_eq_true rfl) rfl (fun p e s m args below meth c C => ?_)
  unfold f4_refuses
  refine v_aload_n C 0 rfl rfl dX4_refuses_0 ?_
  refine v_getMa C 22 (by decide) (by decide) q1637 rfl dX4_refuses_1 ?_
  refine v_iload_n C 1 rfl rfl dX4_refuses_4 ?_
  refine v_dup2 C rfl rfl dX4_refuses_5 ?_
  refine v_chk (fun h1 => ?_)
  refine v_ialdM C h1 dX4_refuses_6 ?_
  refine v_iconst C 1 (by decide) dX4_refuses_7 ?_
  refine v_iadd C dX4_refuses_8 ?_
  refine v_chk (fun h2 => ?_)
  refine v_iastM C h2 dX4_refuses_9 (fun u3 => ?_)
  refine v_iconst C (-1) (by decide) dX4_refuses_10 ?_
  exact v_iretM C dX4_refuses_11
theorem cw4_refuses {t : TT} {p : Program} {s : State} {m : MethodId} {args : Array Value} {meth : Method} {c : Code} {y0 : MethodName} {cc0 : ByteArray} {nL0 : Nat} {ret0 : Option FieldType} (C : Cx t p s m args meth c y0 cc0 nL0 ret0) {index lv : Nat} (hq : Cond.methodLink y0.cls index yX4_refuses ∈ lw_all) (hR : LV_refuses + 1 ≤ lv) : CallW (rmM lv) s args y0.cls RX4 index yX4_refuses cX4_refuses 2 (some .int) (ws_ yX4_refuses cX4_refuses 2 (some .int)) (rmM LV_refuses) 0 0 1 :=
  cwV 1 C.2.2.2.2.1 (lw_V hq q2119 qs94 q127 q2120) rfl rfl rfl (by decide +kernel) ⟨hR, by show 8 + (2 + 11) + 100 * LV_refuses ≤ 100 * lv; omega⟩
abbrev LV_keeps : Nat := 0
def f4_keeps_52 (k : Int32 → MS → Option (Unit × MS)) (x1 : Int32) (u : MS) : Option (Unit × MS) :=
  if 34 ≤ x1 then
    mlet (mS u 56 ((u.1 56) + 1)) fun u1 =>
    some ((), u1)
  else
    mchk (inbM x1 54) <|
    mchk (inbM ((34 * (u.1 56)) + x1) 55) <|
    mlet (mA u 55 ((34 * (u.1 56)) + x1).toNatClampNeg (u.2.1 54 x1.toNatClampNeg)) fun u3 =>
    k (x1 + 1) u3
theorem w4_keeps_52 {p : Program} {e : Env} {s : State} {m : MethodId} {args : Array Value} {below : List Frame} {meth : Method} {c : Code} (C : Cx t p s m args meth c yX4_keeps cX4_keeps 2 none) (n : Nat) (x1 : Int32) (u : MS) : VM mkU t g p l e LV_keeps s m args below meth c 2 52 [(0, .ref g.1), (1, .int x1)] [] u (ml1 (f4_keeps_52) n x1 u) := by
  refine vl1 (L := fun x1 => [(0, .ref g.1), (1, .int x1)]) (fun k hk x1 u => ?_) n x1 u
  unfold f4_keeps_52
  refine v_iload_n C 1 rfl rfl dX4_keeps_52 ?_
  refine v_bipush C 34 (by decide) dX4_keeps_53 ?_
  refine v_icmp_ge C 84 (by decide) dX4_keeps_55 (fun _ => ?_) (fun _ => ?_)
  · refine v_aload_n C 0 rfl rfl dX4_keeps_84 ?_
    refine v_dup C rfl dX4_keeps_85 ?_
    refine v_getMi C 56 (by decide) (by decide) q1671 rfl dX4_keeps_86 ?_
    refine v_iconst C 1 (by decide) dX4_keeps_89 ?_
    refine v_iadd C dX4_keeps_90 ?_
    refine v_putMi C 56 (by decide) (by decide) q1671 rfl rfl (by decide +kernel) dX4_keeps_91 (fun u1 => ?_)
    exact v_vretM C dX4_keeps_94
  · refine v_aload_n C 0 rfl rfl dX4_keeps_58 ?_
    refine v_getMa C 55 (by decide) (by decide) q1670 rfl dX4_keeps_59 ?_
    refine v_bipush C 34 (by decide) dX4_keeps_62 ?_
    refine v_aload_n C 0 rfl rfl dX4_keeps_64 ?_
    refine v_getMi C 56 (by decide) (by decide) q1671 rfl dX4_keeps_65 ?_
    refine v_imul C dX4_keeps_68 ?_
    refine v_iload_n C 1 rfl rfl dX4_keeps_69 ?_
    refine v_iadd C dX4_keeps_70 ?_
    refine v_aload_n C 0 rfl rfl dX4_keeps_71 ?_
    refine v_getMa C 54 (by decide) (by decide) q1669 rfl dX4_keeps_72 ?_
    refine v_iload_n C 1 rfl rfl dX4_keeps_75 ?_
    refine v_chk (fun h1 => ?_)
    refine v_ialdM C h1 dX4_keeps_76 ?_
    refine v_chk (fun h2 => ?_)
    refine v_iastM C h2 dX4_keeps_77 (fun u3 => ?_)
    refine v_iinc C 1 [(1, .int (x1 + 1)), (0, .ref g.1)] 1 rfl (by decide) (by decide) rfl dX4_keeps_78 ?_
    refine v_goto C 52 (by decide) dX4_keeps_81 ?_
    refine v_sub [1, 0] rfl ?_
    exact hk (x1 + 1) u3
def f4_keeps_12 (k : Int32 → MS → Option (Unit × MS)) (x1 : Int32) (u : MS) : Option (Unit × MS) :=
  if 1360 ≤ x1 then
    mlet (mS u 56 ((u.1 56) - 1)) fun u1 =>
    ml1 (f4_keeps_52) FUEL 0 u1
  else
    mchk (inbM x1 55) <|
    mchk (inbM (x1 - 34) 55) <|
    mlet (mA u 55 (x1 - 34).toNatClampNeg (u.2.1 55 x1.toNatClampNeg)) fun u3 =>
    k (x1 + 1) u3
theorem w4_keeps_12 {p : Program} {e : Env} {s : State} {m : MethodId} {args : Array Value} {below : List Frame} {meth : Method} {c : Code} (C : Cx t p s m args meth c yX4_keeps cX4_keeps 2 none) (n : Nat) (x1 : Int32) (u : MS) : VM mkU t g p l e LV_keeps s m args below meth c 2 12 [(0, .ref g.1), (1, .int x1)] [] u (ml1 (f4_keeps_12) n x1 u) := by
  refine vl1 (L := fun x1 => [(0, .ref g.1), (1, .int x1)]) (fun k hk x1 u => ?_) n x1 u
  unfold f4_keeps_12
  refine v_iload_n C 1 rfl rfl dX4_keeps_12 ?_
  refine v_sipush C 1360 (by decide) dX4_keeps_13 ?_
  refine v_icmp_ge C 40 (by decide) dX4_keeps_16 (fun _ => ?_) (fun _ => ?_)
  · refine v_aload_n C 0 rfl rfl dX4_keeps_40 ?_
    refine v_dup C rfl dX4_keeps_41 ?_
    refine v_getMi C 56 (by decide) (by decide) q1671 rfl dX4_keeps_42 ?_
    refine v_iconst C 1 (by decide) dX4_keeps_45 ?_
    refine v_isub C dX4_keeps_46 ?_
    refine v_putMi C 56 (by decide) (by decide) q1671 rfl rfl (by decide +kernel) dX4_keeps_47 (fun u1 => ?_)
    refine v_iconst C 0 (by decide) dX4_keeps_50 ?_
    refine v_istore_n C [(1, .int 0), (0, .ref g.1)] rfl (by decide) rfl dX4_keeps_51 ?_
    refine v_sub [1, 0] rfl ?_
    exact w4_keeps_52 C FUEL 0 u1
  · refine v_aload_n C 0 rfl rfl dX4_keeps_19 ?_
    refine v_getMa C 55 (by decide) (by decide) q1670 rfl dX4_keeps_20 ?_
    refine v_iload_n C 1 rfl rfl dX4_keeps_23 ?_
    refine v_bipush C 34 (by decide) dX4_keeps_24 ?_
    refine v_isub C dX4_keeps_26 ?_
    refine v_aload_n C 0 rfl rfl dX4_keeps_27 ?_
    refine v_getMa C 55 (by decide) (by decide) q1670 rfl dX4_keeps_28 ?_
    refine v_iload_n C 1 rfl rfl dX4_keeps_31 ?_
    refine v_chk (fun h1 => ?_)
    refine v_ialdM C h1 dX4_keeps_32 ?_
    refine v_chk (fun h2 => ?_)
    refine v_iastM C h2 dX4_keeps_33 (fun u3 => ?_)
    refine v_iinc C 1 [(1, .int (x1 + 1)), (0, .ref g.1)] 1 rfl (by decide) (by decide) rfl dX4_keeps_34 ?_
    refine v_goto C 12 (by decide) dX4_keeps_37 ?_
    refine v_sub [1, 0] rfl ?_
    exact hk (x1 + 1) u3
def f4_keeps (u : MS) : Option (Unit × MS) :=
  if (u.1 56) = 40 then
    ml1 (f4_keeps_12) FUEL 34 u
  else
    ml1 (f4_keeps_52) FUEL 0 u
theorem ct4_keeps (t : TT) (g : GM) (l : Launch) (u : MS) : CtM mkU t g l yX4_keeps cX4_keeps 2 none LV_keeps [.ref g.1] u (f4_keeps u) := by
  refine ctM_of [(0, .ref g.1)] rfl (Nat.le_of_ble_eq_true rfl) rfl (fun p e s m args below meth c C => ?_)
  unfold f4_keeps
  refine v_aload_n C 0 rfl rfl dX4_keeps_0 ?_
  refine v_getMi C 56 (by decide) (by decide) q1671 rfl dX4_keeps_1 ?_
  refine v_bipush C 40 (by decide) dX4_keeps_4 ?_
  refine v_icmp_ne C 50 (by decide) dX4_keeps_6 (fun _ => ?_) (fun _ => ?_)
  · refine v_bipush C 34 (by decide) dX4_keeps_9 ?_
    refine v_istore_n C [(1, .int 34), (0, .ref g.1)] rfl (by decide) rfl dX4_keeps_11 ?_
    refine v_sub [1, 0] rfl ?_
    exact w4_keeps_12 C FUEL 34 u
  · refine v_iconst C 0 (by decide) dX4_keeps_50 ?_
    refine v_istore_n C [(1, .int 0), (0, .ref g.1)] rfl (by decide) rfl dX4_keeps_51 ?_
    refine v_sub [1, 0] rfl ?_
    exact w4_keeps_52 C FUEL 0 u
theorem cw4_keeps {t : TT} {p : Program} {s : State} {m : MethodId} {args : Array Value} {meth : Method} {c : Code} {y0 : MethodName} {cc0 : ByteArray} {nL0 : Nat} {ret0 : Option FieldType} (C : Cx t p s m args meth c y0 cc0 nL0 ret0) {index lv : Nat} (hq : Cond.methodLink y0.cls index yX4_keeps ∈ lw_all) (hR : LV_keeps + 1 ≤ lv) : CallW (rmM lv) s args y0.cls RX4 index yX4_keeps cX4_keeps 2 none (ws_ yX4_keeps cX4_keeps 2 none) (rmM LV_keeps) 0 0 0 :=
  cwV 0 C.2.2.2.2.1 (lw_V hq q2123 qs95 q127 q2124) rfl rfl rfl (by decide +kernel) ⟨hR, by show 8 + (2 + 11) + 100 * LV_keeps ≤ 100 * lv; omega⟩
abbrev LV_choice : Nat := 3
def f4_choice_8 (p1 : Nat) (p2 : Int32) (k : Int32 → Int32 → Int32 → MS → Option (Int32 × MS)) (x3 : Int32) (x4 : Int32) (x5 : Int32) (u : MS) : Option (Int32 × MS) :=
  if (u.1 4) ≤ x5 then
    some (x3, u)
  else
    if x5 = (u.1 61) then
      k x3 x4 (x5 + 1) u
    else
      mchk (inbM (4 + x5) p1) <|
      if (u.2.1 p1 (4 + x5).toNatClampNeg) = (-1) then
        mb (f4_grudgeOf p1 p2 x5 u) fun r3 u2 =>
        if x4 < r3 then
          k x5 r3 (x5 + 1) u2
        else
          k x3 x4 (x5 + 1) u2
      else
        k x3 x4 (x5 + 1) u
theorem w4_choice_8 {p : Program} {e : Env} {s : State} {m : MethodId} {args : Array Value} {below : List Frame} {meth : Method} {c : Code} (C : Cx t p s m args meth c yX4_choice cX4_choice 7 (some .int)) (p1 : Nat) (p2 : Int32) (n : Nat) (x3 : Int32) (x4 : Int32) (x5 : Int32) (u : MS) : VM mkI t g p l e LV_choice s m args below meth c 7 8 [(0, .ref g.1), (1, .ref (g.2 p1)), (2, .int p2), (3, .int x3), (4, .int x4), (5, .int x5)] [] u (ml3 (f4_choice_8 p1 p2) n x3 x4 x5 u) := by
  refine vl3 (L := fun x3 x4 x5 => [(0, .ref g.1), (1, .ref (g.2 p1)), (2, .int p2), (3, .int x3), (4, .int x4), (5, .int x5)]) (fun k hk x3 x4 x5 u => ?_) n x3 x4 x5 u
  unfold f4_choice_8
  refine v_iload C 5 rfl dX4_choice_8 ?_
  refine v_aload_n C 0 rfl rfl dX4_choice_10 ?_
  refine v_getMi C 4 (by decide) (by decide) q1619 rfl dX4_choice_11 ?_
  refine v_icmp_ge C 72 (by decide) dX4_choice_14 (fun _ => ?_) (fun _ => ?_)
  · refine v_iload_n C 3 rfl rfl dX4_choice_72 ?_
    exact v_iretM C dX4_choice_73
  · refine v_iload C 5 rfl dX4_choice_17 ?_
    refine v_aload_n C 0 rfl rfl dX4_choice_19 ?_
    refine v_getMi C 61 (by decide) (by decide) q1676 rfl dX4_choice_20 ?_
    refine v_icmp_eq C 66 (by decide) dX4_choice_23 (fun _ => ?_) (fun _ => ?_)
    · refine v_iinc C 1 [(5, .int (x5 + 1)), (0, .ref g.1), (1, .ref (g.2 p1)), (2, .int p2), (3, .int x3), (4, .int x4)] 5 rfl (by decide) (by decide) rfl dX4_choice_66 ?_
      refine v_goto C 8 (by decide) dX4_choice_69 ?_
      refine v_sub [1, 2, 3, 4, 5, 0] rfl ?_
      exact hk x3 x4 (x5 + 1) u
    · refine v_aload_n C 1 rfl rfl dX4_choice_26 ?_
      refine v_iconst C 4 (by decide) dX4_choice_27 ?_
      refine v_iload C 5 rfl dX4_choice_28 ?_
      refine v_iadd C dX4_choice_30 ?_
      refine v_chk (fun h1 => ?_)
      refine v_ialdM C h1 dX4_choice_31 ?_
      refine v_iconst C (-1) (by decide) dX4_choice_32 ?_
      refine v_icmp_eq C 39 (by decide) dX4_choice_33 (fun _ => ?_) (fun _ => ?_)
      · refine v_aload_n C 0 rfl rfl dX4_choice_39 ?_
        refine v_aload_n C 1 rfl rfl dX4_choice_40 ?_
        refine v_iload_n C 2 rfl rfl dX4_choice_41 ?_
        refine v_iload C 5 rfl dX4_choice_42 ?_
        refine v_callVM C [.ref (g.2 p1), .int p2, .int x5] [] (ct4_grudgeOf t g l p1 p2 x5 u) (cw4_grudgeOf C q2099 (by decide)) rfl rfl (Nat.le_of_ble_eq_true rfl) dX4_choice_44 (fun r3 u2 => ?_)
        refine v_istore C [(6, .int r3), (0, .ref g.1), (1, .ref (g.2 p1)), (2, .int p2), (3, .int x3), (4, .int x4), (5, .int x5)] (by decide) rfl dX4_choice_47 ?_
        refine v_iload C 0 rfl dX4_choice_49 ?_
        refine v_iload C 5 rfl dX4_choice_51 ?_
        refine v_icmp_gt C 59 (by decide) dX4_choice_53 (fun _ => ?_) (fun _ => ?_)
        · refine v_iload C 6 rfl dX4_choice_59 ?_
          refine v_istore_n C [(3, .int x5), (6, .int r3), (0, .ref g.1), (1, .ref (g.2 p1)), (2, .int p2), (4, .int x4), (5, .int x5)] rfl (by decide) rfl dX4_choice_61 ?_
          refine v_iload C 1 rfl dX4_choice_62 ?_
          refine v_istore C [(4, .int r3), (3, .int x5), (6, .int r3), (0, .ref g.1), (1, .ref (g.2 p1)), (2, .int p2), (5, .int x5)] (by decide) rfl dX4_choice_64 ?_
          refine v_iinc C 1 [(5, .int (x5 + 1)), (4, .int r3), (3, .int x5), (6, .int r3), (0, .ref g.1), (1, .ref (g.2 p1)), (2, .int p2)] 6 rfl (by decide) (by decide) rfl dX4_choice_66 ?_
          refine v_goto C 8 (by decide) dX4_choice_69 ?_
          refine v_sub [4, 5, 6, 2, 1, 0] rfl ?_
          exact hk x5 r3 (x5 + 1) u2
        · refine v_goto C 66 (by decide) dX4_choice_56 ?_
          refine v_iinc C 1 [(5, .int (x5 + 1)), (6, .int r3), (0, .ref g.1), (1, .ref (g.2 p1)), (2, .int p2), (3, .int x3), (4, .int x4)] 6 rfl (by decide) (by decide) rfl dX4_choice_66 ?_
          refine v_goto C 8 (by decide) dX4_choice_69 ?_
          refine v_sub [2, 3, 4, 5, 6, 0] rfl ?_
          exact hk x3 x4 (x5 + 1) u2
      · refine v_goto C 66 (by decide) dX4_choice_36 ?_
        refine v_iinc C 1 [(5, .int (x5 + 1)), (0, .ref g.1), (1, .ref (g.2 p1)), (2, .int p2), (3, .int x3), (4, .int x4)] 5 rfl (by decide) (by decide) rfl dX4_choice_66 ?_
        refine v_goto C 8 (by decide) dX4_choice_69 ?_
        refine v_sub [1, 2, 3, 4, 5, 0] rfl ?_
        exact hk x3 x4 (x5 + 1) u
def f4_choice (p1 : Nat) (p2 : Int32) (u : MS) : Option (Int32 × MS) :=
  ml3 (f4_choice_8 p1 p2) FUEL (-1) 0 0 u
theorem ct4_choice (t : TT) (g : GM) (l : Launch) (p1 : Nat) (p2 : Int32) (u : MS) : CtM mkI t g l yX4_choice cX4_choice 7 (some .int) LV_choice [.ref g.1, .ref (g.2 p1), .int p2] u (f4_choice p1 p2 u) := by
  refine ctM_of [(0, .ref g.1), (1, .ref (g.2 p1)), (2, .int p2)] rfl (Nat.le_of_ble_eq_true rfl) rfl (fun p e s m args below meth c C => ?_)
  unfold f4_choice
  refine v_iconst C (-1) (by decide) dX4_choice_0 ?_
  refine v_istore_n C [(3, .int (-1)), (0, .ref g.1), (1, .ref (g.2 p1)), (2, .int p2)] rfl (by decide) rfl dX4_choice_1 ?_
  refine v_iconst C 0 (by decide) dX4_choice_2 ?_
  refine v_istore C [(4, .int 0), (3, .int (-1)), (0, .ref g.1), (1, .ref (g.2 p1)), (2, .int p2)] (by decide) rfl dX4_choice_3 ?_
  refine v_iconst C 0 (by decide) dX4_choice_5 ?_
  refine v_istore C [(5, .int 0), (4, .int 0), (3, .int (-1)), (0, .ref g.1), (1, .ref (g.2 p1)), (2, .int p2)] (by decide) rfl dX4_choice_6 ?_
  refine v_sub [3, 4, 5, 2, 1, 0] rfl ?_
  exact w4_choice_8 C p1 p2 FUEL (-1) 0 0 u
theorem cw4_choice {t : TT} {p : Program} {s : State} {m : MethodId} {args : Array Value} {meth : Method} {c : Code} {y0 : MethodName} {cc0 : ByteArray} {nL0 : Nat} {ret0 : Option FieldType} (C : Cx t p s m args meth c y0 cc0 nL0 ret0) {index lv : Nat} (hq : Cond.methodLink y0.cls index yX4_choice ∈ lw_all) (hR : LV_choice + 1 ≤ lv) : CallW (rmM lv) s args y0.cls RX4 index yX4_choice cX4_choice 7 (some .int) (ws_ yX4_choice cX4_choice 7 (some .int)) (rmM LV_choice) 0 0 2 :=
  cwV 2 C.2.2.2.2.1 (lw_V hq q2135 qs98 q127 q2136) rfl rfl rfl (by decide +kernel) ⟨hR, by show 8 + (7 + 11) + 100 * LV_choice ≤ 100 * lv; omega⟩
abbrev LV_writes0 : Nat := 0
def f4_writes0 (p1 : Nat) (p2 : Int32) (p3 : Int32) (u : MS) : Option (Unit × MS) :=
  mchk (inbM 0 p1) <|
  mchk (inbM (4 + p2) p1) <|
  mlet (mA u p1 (4 + p2).toNatClampNeg (u.2.1 p1 (0 : Int32).toNatClampNeg)) fun u3 =>
  mchk (inbM (13 + p2) p1) <|
  mlet (mA u3 p1 (13 + p2).toNatClampNeg p3) fun u5 =>
  some ((), u5)
theorem ct4_writes0 (t : TT) (g : GM) (l : Launch) (p1 : Nat) (p2 : Int32) (p3 : Int32) (u : MS) : CtM mkU t g l yX4_writes0 cX4_writes0 4 none LV_writes0 [.ref g.1, .ref (g.2 p1), .int p2, .int p3] u (f4_writes0 p1 p2 p3 u) := by
  refine ctM_of [(0, .ref g.1), (1, .ref (g.2 p1)), (2, .int p2), (3, .int p3)] rfl (Nat.le_of_ble_eq_true rfl) rfl (fun p e s m args below meth c C => ?_)
  unfold f4_writes0
  refine v_aload_n C 1 rfl rfl dX4_writes0_0 ?_
  refine v_iconst C 4 (by decide) dX4_writes0_1 ?_
  refine v_iload_n C 2 rfl rfl dX4_writes0_2 ?_
  refine v_iadd C dX4_writes0_3 ?_
  refine v_aload_n C 1 rfl rfl dX4_writes0_4 ?_
  refine v_iconst C 0 (by decide) dX4_writes0_5 ?_
  refine v_chk (fun h1 => ?_)
  refine v_ialdM C h1 dX4_writes0_6 ?_
  refine v_chk (fun h2 => ?_)
  refine v_iastM C h2 dX4_writes0_7 (fun u3 => ?_)
  refine v_aload_n C 1 rfl rfl dX4_writes0_8 ?_
  refine v_bipush C 13 (by decide) dX4_writes0_9 ?_
  refine v_iload_n C 2 rfl rfl dX4_writes0_11 ?_
  refine v_iadd C dX4_writes0_12 ?_
  refine v_iload_n C 3 rfl rfl dX4_writes0_13 ?_
  refine v_chk (fun h4 => ?_)
  refine v_iastM C h4 dX4_writes0_14 (fun u5 => ?_)
  exact v_vretM C dX4_writes0_15
theorem cw4_writes0 {t : TT} {p : Program} {s : State} {m : MethodId} {args : Array Value} {meth : Method} {c : Code} {y0 : MethodName} {cc0 : ByteArray} {nL0 : Nat} {ret0 : Option FieldType} (C : Cx t p s m args meth c y0 cc0 nL0 ret0) {index lv : Nat} (hq : Cond.methodLink y0.cls index yX4_writes0 ∈ lw_all) (hR : LV_writes0 + 1 ≤ lv) : CallW (rmM lv) s args y0.cls RX4 index yX4_writes0 cX4_writes0 4 none (ws_ yX4_writes0 cX4_writes0 4 none) (rmM LV_writes0) 0 0 3 :=
  cwV 3 C.2.2.2.2.1 (lw_V hq q2139 qs99 q127 q2140) rfl rfl rfl (by decide +kernel) ⟨hR, by show 8 + (4 + 11) + 100 * LV_writes0 ≤ 100 * lv; omega⟩
abbrev LV_writing : Nat := 4
def f4_writing_4 (p1 : Nat) (k : Int32 → Int32 → MS → Option (Int32 × MS)) (x2 : Int32) (x3 : Int32) (u : MS) : Option (Int32 × MS) :=
  if (u.1 1) ≤ x3 then
    some (x2, u)
  else
    mchk (inbM 3 p1) <|
    if (u.2.1 p1 (3 : Int32).toNatClampNeg) = 1 then
      mb (f4_choice p1 x3 u) fun r3 u2 =>
      if r3 = (-1) then
        k x2 (x3 + 1) u2
      else
        mb (f4_writes0 p1 r3 x3 u2) fun _ u4 =>
        mchk (inbM (u4.1 62) 63) <|
        mlet (mA u4 63 (u4.1 62).toNatClampNeg r3) fun u6 =>
        mlet (mS u6 62 ((u6.1 62) + 1)) fun u7 =>
        k (x2 + 1) (x3 + 1) u7
    else
      some (x2, u)
theorem w4_writing_4 {p : Program} {e : Env} {s : State} {m : MethodId} {args : Array Value} {below : List Frame} {meth : Method} {c : Code} (C : Cx t p s m args meth c yX4_writing cX4_writing 5 (some .int)) (p1 : Nat) (n : Nat) (x2 : Int32) (x3 : Int32) (u : MS) : VM mkI t g p l e LV_writing s m args below meth c 5 4 [(0, .ref g.1), (1, .ref (g.2 p1)), (2, .int x2), (3, .int x3)] [] u (ml2 (f4_writing_4 p1) n x2 x3 u) := by
  refine vl2 (L := fun x2 x3 => [(0, .ref g.1), (1, .ref (g.2 p1)), (2, .int x2), (3, .int x3)]) (fun k hk x2 x3 u => ?_) n x2 x3 u
  unfold f4_writing_4
  refine v_iload_n C 3 rfl rfl dX4_writing_4 ?_
  refine v_aload_n C 0 rfl rfl dX4_writing_5 ?_
  refine v_getMi C 1 (by decide) (by decide) q1616 rfl dX4_writing_6 ?_
  refine v_icmp_ge C 74 (by decide) dX4_writing_9 (fun _ => ?_) (fun _ => ?_)
  · refine v_iload_n C 2 rfl rfl dX4_writing_74 ?_
    exact v_iretM C dX4_writing_75
  · refine v_aload_n C 1 rfl rfl dX4_writing_12 ?_
    refine v_iconst C 3 (by decide) dX4_writing_13 ?_
    refine v_chk (fun h1 => ?_)
    refine v_ialdM C h1 dX4_writing_14 ?_
    refine v_iconst C 1 (by decide) dX4_writing_15 ?_
    refine v_icmp_ne C 74 (by decide) dX4_writing_16 (fun _ => ?_) (fun _ => ?_)
    · refine v_aload_n C 0 rfl rfl dX4_writing_19 ?_
      refine v_aload_n C 1 rfl rfl dX4_writing_20 ?_
      refine v_iload_n C 3 rfl rfl dX4_writing_21 ?_
      refine v_callVM C [.ref (g.2 p1), .int x3] [] (ct4_choice t g l p1 x3 u) (cw4_choice C q2133 (by decide)) rfl rfl (Nat.le_of_ble_eq_true rfl) dX4_writing_22 (fun r3 u2 => ?_)
      refine v_istore C [(4, .int r3), (0, .ref g.1), (1, .ref (g.2 p1)), (2, .int x2), (3, .int x3)] (by decide) rfl dX4_writing_25 ?_
      refine v_iload C 0 rfl dX4_writing_27 ?_
      refine v_iconst C (-1) (by decide) dX4_writing_29 ?_
      refine v_icmp_ne C 36 (by decide) dX4_writing_30 (fun _ => ?_) (fun _ => ?_)
      · refine v_goto C 68 (by decide) dX4_writing_33 ?_
        refine v_iinc C 1 [(3, .int (x3 + 1)), (4, .int r3), (0, .ref g.1), (1, .ref (g.2 p1)), (2, .int x2)] 4 rfl (by decide) (by decide) rfl dX4_writing_68 ?_
        refine v_goto C 4 (by decide) dX4_writing_71 ?_
        refine v_sub [2, 3, 4, 0] rfl ?_
        exact hk x2 (x3 + 1) u2
      · refine v_aload_n C 1 rfl rfl dX4_writing_36 ?_
        refine v_aload_n C 2 rfl rfl dX4_writing_37 ?_
        refine v_iload C 0 rfl dX4_writing_38 ?_
        refine v_iload_n C 4 rfl rfl dX4_writing_40 ?_
        refine v_callVM C [.ref (g.2 p1), .int r3, .int x3] [] (ct4_writes0 t g l p1 r3 x3 u2) (cw4_writes0 C q2137 (by decide)) rfl rfl (Nat.le_of_ble_eq_true rfl) dX4_writing_41 (fun _ u4 => ?_)
        refine v_aload_n C 1 rfl rfl dX4_writing_44 ?_
        refine v_getMa C 63 (by decide) (by decide) q1678 rfl dX4_writing_45 ?_
        refine v_aload_n C 1 rfl rfl dX4_writing_48 ?_
        refine v_getMi C 62 (by decide) (by decide) q1677 rfl dX4_writing_49 ?_
        refine v_iload C 0 rfl dX4_writing_52 ?_
        refine v_chk (fun h5 => ?_)
        refine v_iastM C h5 dX4_writing_54 (fun u6 => ?_)
        refine v_aload_n C 1 rfl rfl dX4_writing_55 ?_
        refine v_dup C rfl dX4_writing_56 ?_
        refine v_getMi C 62 (by decide) (by decide) q1677 rfl dX4_writing_57 ?_
        refine v_iconst C 1 (by decide) dX4_writing_60 ?_
        refine v_iadd C dX4_writing_61 ?_
        refine v_putMi C 62 (by decide) (by decide) q1677 rfl rfl (by decide +kernel) dX4_writing_62 (fun u7 => ?_)
        refine v_iinc C 1 [(2, .int (x2 + 1)), (4, .int r3), (0, .ref g.1), (1, .ref (g.2 p1)), (3, .int x3)] 3 rfl (by decide) (by decide) rfl dX4_writing_65 ?_
        refine v_iinc C 1 [(3, .int (x3 + 1)), (2, .int (x2 + 1)), (4, .int r3), (0, .ref g.1), (1, .ref (g.2 p1))] 4 rfl (by decide) (by decide) rfl dX4_writing_68 ?_
        refine v_goto C 4 (by decide) dX4_writing_71 ?_
        refine v_sub [3, 4, 1, 0] rfl ?_
        exact hk (x2 + 1) (x3 + 1) u7
    · refine v_iload_n C 2 rfl rfl dX4_writing_74 ?_
      exact v_iretM C dX4_writing_75
def f4_writing (p1 : Nat) (u : MS) : Option (Int32 × MS) :=
  ml2 (f4_writing_4 p1) FUEL 0 0 u
theorem ct4_writing (t : TT) (g : GM) (l : Launch) (p1 : Nat) (u : MS) : CtM mkI t g l yX4_writing cX4_writing 5 (some .int) LV_writing [.ref g.1, .ref (g.2 p1)] u (f4_writing p1 u) := by
  refine ctM_of [(0, .ref g.1), (1, .ref (g.2 p1))] rfl (Nat.le_of_ble_eq_true rfl) rfl (fun p e s m args below meth c C => ?_)
  unfold f4_writing
  refine v_iconst C 0 (by decide) dX4_writing_0 ?_
  refine v_istore_n C [(2, .int 0), (0, .ref g.1), (1, .ref (g.2 p1))] rfl (by decide) rfl dX4_writing_1 ?_
  refine v_iconst C 0 (by decide) dX4_writing_2 ?_
  refine v_istore_n C [(3, .int 0), (2, .int 0), (0, .ref g.1), (1, .ref (g.2 p1))] rfl (by decide) rfl dX4_writing_3 ?_
  refine v_sub [2, 3, 1, 0] rfl ?_
  exact w4_writing_4 C p1 FUEL 0 0 u
theorem cw4_writing {t : TT} {p : Program} {s : State} {m : MethodId} {args : Array Value} {meth : Method} {c : Code} {y0 : MethodName} {cc0 : ByteArray} {nL0 : Nat} {ret0 : Option FieldType} (C : Cx t p s m args meth c y0 cc0 nL0 ret0) {index lv : Nat} (hq : Cond.methodLink y0.cls index yX4_writing ∈ lw_all) (hR : LV_writing + 1 ≤ lv) : CallW (rmM lv) s args y0.cls RX4 index yX4_writing cX4_writing 5 (some .int) (ws_ yX4_writing cX4_writing 5 (some .int)) (rmM LV_writing) 0 0 1 :=
  cwV 1 C.2.2.2.2.1 (lw_V hq q2131 qs97 q127 q2132) rfl rfl rfl (by decide +kernel) ⟨hR, by show 8 + (5 + 11) + 100 * LV_writing ≤ 100 * lv; omega⟩
abbrev LV_isDead : Nat := 0
def f4_isDead (p0 : Nat) (p1 : Int32) (u : MS) : Option (Int32 × MS) :=
  mchk (inbM 1 p0) <|
  if (((u.2.1 p0 (1 : Int32).toNatClampNeg) >>> (p1 &&& 31)) &&& 1) = 1 then
    rz 1 u
  else
    rz 0 u
theorem ct4_isDead (t : TT) (g : GM) (l : Launch) (p0 : Nat) (p1 : Int32) (u : MS) : CtM mkI t g l yX4_isDead cX4_isDead 2 (some .boolean) LV_isDead [.ref (g.2 p0), .int p1] u (f4_isDead p0 p1 u) := by
  refine ctM_of [(0, .ref (g.2 p0)), (1, .int p1)] rfl (Nat.le_of_ble_eq_true rfl) rfl (fun p e s m args below meth c C => ?_)
  unfold f4_isDead
  refine v_aload_n C 0 rfl rfl dX4_isDead_0 ?_
  refine v_iconst C 1 (by decide) dX4_isDead_1 ?_
  refine v_chk (fun h1 => ?_)
  refine v_ialdM C h1 dX4_isDead_2 ?_
  refine v_iload_n C 1 rfl rfl dX4_isDead_3 ?_
  refine v_ishr C dX4_isDead_4 ?_
  refine v_iconst C 1 (by decide) dX4_isDead_5 ?_
  refine v_iand C dX4_isDead_6 ?_
  refine v_iconst C 1 (by decide) dX4_isDead_7 ?_
  refine v_icmp_ne C 15 (by decide) dX4_isDead_8 (fun _ => ?_) (fun _ => ?_)
  · refine v_iconst C 1 (by decide) dX4_isDead_11 ?_
    refine v_goto C 16 (by decide) dX4_isDead_12 ?_
    exact v_zretM C dX4_isDead_16
  · refine v_iconst C 0 (by decide) dX4_isDead_15 ?_
    exact v_zretM C dX4_isDead_16
theorem cw4_isDead {t : TT} {p : Program} {s : State} {m : MethodId} {args : Array Value} {meth : Method} {c : Code} {y0 : MethodName} {cc0 : ByteArray} {nL0 : Nat} {ret0 : Option FieldType} (C : Cx t p s m args meth c y0 cc0 nL0 ret0) {index lv : Nat} (hq : Cond.methodLink y0.cls index yX4_isDead ∈ lw_all) (hR : LV_isDead + 1 ≤ lv) : CallB (rmM lv) s args y0.cls index yX4_isDead cX4_isDead 2 (some .boolean) (ws_ yX4_isDead cX4_isDead 2 (some .boolean)) (rmM LV_isDead) 0 0 2 ∧ (Cond.static yX4_isDead).before args s = true :=
  ⟨callB_of 2 C.2.2.2.2.1 (lw_meth q2151) rfl rfl rfl (C.2.2.2.2.1 _ q127) (C.2.2.2.2.1 _ hq) (by decide +kernel) ⟨hR, by show 8 + (2 + 11) + 100 * LV_isDead ≤ 100 * lv; omega⟩, C.2.2.2.2.1 _ q2150⟩
abbrev LV_isFound : Nat := 1
def f4_isFound (p1 : Nat) (p2 : Int32) (u : MS) : Option (Int32 × MS) :=
  mchk (inbM (4 + p2) p1) <|
  if (u.2.1 p1 (4 + p2).toNatClampNeg) = (-1) then
    rz 0 u
  else
    mb (f4_isDead p1 p2 u) fun r3 u2 =>
    if r3 = 0 then
      mb (f4_isAway p1 p2 u2) fun r5 u4 =>
      if r5 = 0 then
        mchk (inbM (22 + p2) p1) <|
        mchk (inbM (u4.2.1 p1 (22 + p2).toNatClampNeg) 8) <|
        mchk (inbM 0 p1) <|
        mchk (inbM (4 + p2) p1) <|
        if (((u4.2.1 8 (u4.2.1 p1 (22 + p2).toNatClampNeg).toNatClampNeg) + (u4.2.1 p1 (0 : Int32).toNatClampNeg)) - (u4.2.1 p1 (4 + p2).toNatClampNeg)) < 10 then
          rz 0 u4
        else
          rz 1 u4
      else
        rz 0 u4
    else
      rz 0 u2
theorem ct4_isFound (t : TT) (g : GM) (l : Launch) (p1 : Nat) (p2 : Int32) (u : MS) : CtM mkI t g l yX4_isFound cX4_isFound 3 (some .boolean) LV_isFound [.ref g.1, .ref (g.2 p1), .int p2] u (f4_isFound p1 p2 u) := by
  refine ctM_of [(0, .ref g.1), (1, .ref (g.2 p1)), (2, .int p2)] rfl (Nat.le_of_ble_eq_true rfl) rfl (fun p e s m args below meth c C => ?_)
  unfold f4_isFound
  refine v_aload_n C 1 rfl rfl dX4_isFound_0 ?_
  refine v_iconst C 4 (by decide) dX4_isFound_1 ?_
  refine v_iload_n C 2 rfl rfl dX4_isFound_2 ?_
  refine v_iadd C dX4_isFound_3 ?_
  refine v_chk (fun h1 => ?_)
  refine v_ialdM C h1 dX4_isFound_4 ?_
  refine v_iconst C (-1) (by decide) dX4_isFound_5 ?_
  refine v_icmp_eq C 56 (by decide) dX4_isFound_6 (fun _ => ?_) (fun _ => ?_)
  · refine v_iconst C 0 (by decide) dX4_isFound_56 ?_
    exact v_zretM C dX4_isFound_57
  · refine v_aload_n C 1 rfl rfl dX4_isFound_9 ?_
    refine v_iload_n C 2 rfl rfl dX4_isFound_10 ?_
    refine v_callSM C [.ref (g.2 p1), .int p2] [] (ct4_isDead t g l p1 p2 u) (cw4_isDead C q2149 (by decide)) rfl rfl (Nat.le_of_ble_eq_true rfl) dX4_isFound_11 (fun r3 u2 => ?_)
    refine v_if_ne C 56 (by decide) dX4_isFound_14 (fun _ => ?_) (fun _ => ?_)
    · refine v_aload_n C 0 rfl rfl dX4_isFound_17 ?_
      refine v_aload_n C 1 rfl rfl dX4_isFound_18 ?_
      refine v_iload_n C 2 rfl rfl dX4_isFound_19 ?_
      refine v_callVM C [.ref (g.2 p1), .int p2] [] (ct4_isAway t g l p1 p2 u2) (cw4_isAway C q2048 (by decide)) rfl rfl (Nat.le_of_ble_eq_true rfl) dX4_isFound_20 (fun r5 u4 => ?_)
      refine v_if_ne C 56 (by decide) dX4_isFound_23 (fun _ => ?_) (fun _ => ?_)
      · refine v_aload_n C 0 rfl rfl dX4_isFound_26 ?_
        refine v_getMa C 8 (by decide) (by decide) q1623 rfl dX4_isFound_27 ?_
        refine v_aload_n C 1 rfl rfl dX4_isFound_30 ?_
        refine v_bipush C 22 (by decide) dX4_isFound_31 ?_
        refine v_iload_n C 2 rfl rfl dX4_isFound_33 ?_
        refine v_iadd C dX4_isFound_34 ?_
        refine v_chk (fun h6 => ?_)
        refine v_ialdM C h6 dX4_isFound_35 ?_
        refine v_chk (fun h7 => ?_)
        refine v_ialdM C h7 dX4_isFound_36 ?_
        refine v_aload_n C 1 rfl rfl dX4_isFound_37 ?_
        refine v_iconst C 0 (by decide) dX4_isFound_38 ?_
        refine v_chk (fun h8 => ?_)
        refine v_ialdM C h8 dX4_isFound_39 ?_
        refine v_iadd C dX4_isFound_40 ?_
        refine v_aload_n C 1 rfl rfl dX4_isFound_41 ?_
        refine v_iconst C 4 (by decide) dX4_isFound_42 ?_
        refine v_iload_n C 2 rfl rfl dX4_isFound_43 ?_
        refine v_iadd C dX4_isFound_44 ?_
        refine v_chk (fun h9 => ?_)
        refine v_ialdM C h9 dX4_isFound_45 ?_
        refine v_isub C dX4_isFound_46 ?_
        refine v_bipush C 10 (by decide) dX4_isFound_47 ?_
        refine v_icmp_lt C 56 (by decide) dX4_isFound_49 (fun _ => ?_) (fun _ => ?_)
        · refine v_iconst C 0 (by decide) dX4_isFound_56 ?_
          exact v_zretM C dX4_isFound_57
        · refine v_iconst C 1 (by decide) dX4_isFound_52 ?_
          refine v_goto C 57 (by decide) dX4_isFound_53 ?_
          exact v_zretM C dX4_isFound_57
      · refine v_iconst C 0 (by decide) dX4_isFound_56 ?_
        exact v_zretM C dX4_isFound_57
    · refine v_iconst C 0 (by decide) dX4_isFound_56 ?_
      exact v_zretM C dX4_isFound_57
theorem cw4_isFound {t : TT} {p : Program} {s : State} {m : MethodId} {args : Array Value} {meth : Method} {c : Code} {y0 : MethodName} {cc0 : ByteArray} {nL0 : Nat} {ret0 : Option FieldType} (C : Cx t p s m args meth c y0 cc0 nL0 ret0) {index lv : Nat} (hq : Cond.methodLink y0.cls index yX4_isFound ∈ lw_all) (hR : LV_isFound + 1 ≤ lv) : CallW (rmM lv) s args y0.cls RX4 index yX4_isFound cX4_isFound 3 (some .boolean) (ws_ yX4_isFound cX4_isFound 3 (some .boolean)) (rmM LV_isFound) 0 0 2 :=
  cwV 2 C.2.2.2.2.1 (lw_V hq q2147 qs101 q127 q2148) rfl rfl rfl (by decide +kernel) ⟨hR, by show 8 + (3 + 11) + 100 * LV_isFound ≤ 100 * lv; omega⟩
abbrev LV_dies : Nat := 2
def f4_dies_46 (p1 : Nat) (p2 : Int32) (x3 : Int32) (x4 : Int32) (s1 : Int32) (s2 : Int32) (u : MS) : Option (Unit × MS) :=
  mlet (mS u 60 (s1 + s2)) fun u1 =>
  if 0 ≤ x4 then
    mchk (inbM x4 59) <|
    mchk (inbM x4 59) <|
    mlet (mA u1 59 x4.toNatClampNeg ((u1.2.1 59 x4.toNatClampNeg) + x3)) fun u4 =>
    mchk (inbM (31 + x4) p1) <|
    if x3 ≤ (u4.2.1 p1 (31 + x4).toNatClampNeg) then
      mchk (inbM (31 + x4) p1) <|
      mchk (inbM (31 + x4) p1) <|
      mlet (mA u4 p1 (31 + x4).toNatClampNeg ((u4.2.1 p1 (31 + x4).toNatClampNeg) - x3)) fun u8 =>
      some ((), u8)
    else
      mchk (inbM (31 + x4) p1) <|
      mlet (mA u4 p1 (31 + x4).toNatClampNeg 0) fun u7 =>
      some ((), u7)
  else
    some ((), u1)
theorem w4_dies_46 {p : Program} {e : Env} {s : State} {m : MethodId} {args : Array Value} {below : List Frame} {meth : Method} {c : Code} (C : Cx t p s m args meth c yX4_dies cX4_dies 5 none) (p1 : Nat) (p2 : Int32) (x3 : Int32) (x4 : Int32) (s1 : Int32) (s2 : Int32) (u : MS) : VM mkU t g p l e LV_dies s m args below meth c 5 46 [(0, .ref g.1), (1, .ref (g.2 p1)), (3, .int x3), (4, .int x4)] [.int s2, .int s1, .ref g.1] u (f4_dies_46 p1 p2 x3 x4 s1 s2 u) := by
  unfold f4_dies_46
  refine v_iadd C dX4_dies_46 ?_
  refine v_putMi C 60 (by decide) (by decide) q1675 rfl rfl (by decide +kernel) dX4_dies_47 (fun u1 => ?_)
  refine v_iload C 3 rfl dX4_dies_50 ?_
  refine v_if_ge C 56 (by decide) dX4_dies_52 (fun _ => ?_) (fun _ => ?_)
  · refine v_aload_n C 0 rfl rfl dX4_dies_56 ?_
    refine v_getMa C 59 (by decide) (by decide) q1674 rfl dX4_dies_57 ?_
    refine v_iload C 3 rfl dX4_dies_60 ?_
    refine v_dup2 C rfl rfl dX4_dies_62 ?_
    refine v_chk (fun h2 => ?_)
    refine v_ialdM C h2 dX4_dies_63 ?_
    refine v_iload_n C 2 rfl rfl dX4_dies_64 ?_
    refine v_iadd C dX4_dies_65 ?_
    refine v_chk (fun h3 => ?_)
    refine v_iastM C h3 dX4_dies_66 (fun u4 => ?_)
    refine v_aload_n C 1 rfl rfl dX4_dies_67 ?_
    refine v_bipush C 31 (by decide) dX4_dies_68 ?_
    refine v_iload C 3 rfl dX4_dies_70 ?_
    refine v_iadd C dX4_dies_72 ?_
    refine v_aload_n C 1 rfl rfl dX4_dies_73 ?_
    refine v_bipush C 31 (by decide) dX4_dies_74 ?_
    refine v_iload C 3 rfl dX4_dies_76 ?_
    refine v_iadd C dX4_dies_78 ?_
    refine v_chk (fun h5 => ?_)
    refine v_ialdM C h5 dX4_dies_79 ?_
    refine v_iload_n C 2 rfl rfl dX4_dies_80 ?_
    refine v_icmp_ge C 88 (by decide) dX4_dies_81 (fun _ => ?_) (fun _ => ?_)
    · refine v_aload_n C 1 rfl rfl dX4_dies_88 ?_
      refine v_bipush C 31 (by decide) dX4_dies_89 ?_
      refine v_iload C 3 rfl dX4_dies_91 ?_
      refine v_iadd C dX4_dies_93 ?_
      refine v_chk (fun h6 => ?_)
      refine v_ialdM C h6 dX4_dies_94 ?_
      refine v_iload_n C 2 rfl rfl dX4_dies_95 ?_
      refine v_isub C dX4_dies_96 ?_
      refine v_chk (fun h7 => ?_)
      refine v_iastM C h7 dX4_dies_97 (fun u8 => ?_)
      exact v_vretM C dX4_dies_98
    · refine v_iconst C 0 (by decide) dX4_dies_84 ?_
      refine v_goto C 97 (by decide) dX4_dies_85 ?_
      refine v_chk (fun h6 => ?_)
      refine v_iastM C h6 dX4_dies_97 (fun u7 => ?_)
      exact v_vretM C dX4_dies_98
  · exact v_vretM C dX4_dies_55
def f4_dies (p1 : Nat) (p2 : Int32) (u : MS) : Option (Unit × MS) :=
  mb (f4_saleOf p1 p2 u) fun r2 u1 =>
  mchk (inbM (13 + p2) p1) <|
  mlet (u1.2.1 p1 (13 + p2).toNatClampNeg) fun v4 =>
  mchk (inbM 1 p1) <|
  mchk (inbM 1 p1) <|
  mlet (mA u1 p1 (1 : Int32).toNatClampNeg ((u1.2.1 p1 (1 : Int32).toNatClampNeg) ||| (1 <<< (p2 &&& 31)))) fun u7 =>
  mchk (inbM 2 p1) <|
  mchk (inbM 2 p1) <|
  mlet (mA u7 p1 (2 : Int32).toNatClampNeg ((u7.2.1 p1 (2 : Int32).toNatClampNeg) + 1)) fun u10 =>
  if r2 = 0 then
    f4_dies_46 p1 p2 r2 v4 (u10.1 60) 1 u10
  else
    f4_dies_46 p1 p2 r2 v4 (u10.1 60) 0 u10
theorem ct4_dies (t : TT) (g : GM) (l : Launch) (p1 : Nat) (p2 : Int32) (u : MS) : CtM mkU t g l yX4_dies cX4_dies 5 none LV_dies [.ref g.1, .ref (g.2 p1), .int p2] u (f4_dies p1 p2 u) := by
  refine ctM_of [(0, .ref g.1), (1, .ref (g.2 p1)), (2, .int p2)] rfl (Nat.le_of_ble_eq_true rfl) rfl (fun p e s m args below meth c C => ?_)
  unfold f4_dies
  refine v_aload_n C 0 rfl rfl dX4_dies_0 ?_
  refine v_aload_n C 1 rfl rfl dX4_dies_1 ?_
  refine v_iload_n C 2 rfl rfl dX4_dies_2 ?_
  refine v_callVM C [.ref (g.2 p1), .int p2] [] (ct4_saleOf t g l p1 p2 u) (cw4_saleOf C q2088 (by decide)) rfl rfl (Nat.le_of_ble_eq_true rfl) dX4_dies_3 (fun r2 u1 => ?_)
  refine v_istore_n C [(3, .int r2), (0, .ref g.1), (1, .ref (g.2 p1)), (2, .int p2)] rfl (by decide) rfl dX4_dies_6 ?_
  refine v_aload_n C 2 rfl rfl dX4_dies_7 ?_
  refine v_bipush C 13 (by decide) dX4_dies_8 ?_
  refine v_iload_n C 3 rfl rfl dX4_dies_10 ?_
  refine v_iadd C dX4_dies_11 ?_
  refine v_chk (fun h3 => ?_)
  refine v_ialdM C h3 dX4_dies_12 ?_
  refine v_topi (fun v4 => ?_)
  refine v_istore C [(4, .int v4), (3, .int r2), (0, .ref g.1), (1, .ref (g.2 p1)), (2, .int p2)] (by decide) rfl dX4_dies_13 ?_
  refine v_aload_n C 3 rfl rfl dX4_dies_15 ?_
  refine v_iconst C 1 (by decide) dX4_dies_16 ?_
  refine v_aload_n C 3 rfl rfl dX4_dies_17 ?_
  refine v_iconst C 1 (by decide) dX4_dies_18 ?_
  refine v_chk (fun h5 => ?_)
  refine v_ialdM C h5 dX4_dies_19 ?_
  refine v_iconst C 1 (by decide) dX4_dies_20 ?_
  refine v_iload_n C 4 rfl rfl dX4_dies_21 ?_
  refine v_ishl C dX4_dies_22 ?_
  refine v_ior C dX4_dies_23 ?_
  refine v_chk (fun h6 => ?_)
  refine v_iastM C h6 dX4_dies_24 (fun u7 => ?_)
  refine v_aload_n C 3 rfl rfl dX4_dies_25 ?_
  refine v_iconst C 2 (by decide) dX4_dies_26 ?_
  refine v_dup2 C rfl rfl dX4_dies_27 ?_
  refine v_chk (fun h8 => ?_)
  refine v_ialdM C h8 dX4_dies_28 ?_
  refine v_iconst C 1 (by decide) dX4_dies_29 ?_
  refine v_iadd C dX4_dies_30 ?_
  refine v_chk (fun h9 => ?_)
  refine v_iastM C h9 dX4_dies_31 (fun u10 => ?_)
  refine v_aload_n C 2 rfl rfl dX4_dies_32 ?_
  refine v_dup C rfl dX4_dies_33 ?_
  refine v_getMi C 60 (by decide) (by decide) q1675 rfl dX4_dies_34 ?_
  refine v_iload_n C 1 rfl rfl dX4_dies_37 ?_
  refine v_if_ne C 45 (by decide) dX4_dies_38 (fun _ => ?_) (fun _ => ?_)
  · refine v_iconst C 1 (by decide) dX4_dies_41 ?_
    refine v_goto C 46 (by decide) dX4_dies_42 ?_
    refine v_sub [2, 3, 1, 0] rfl ?_
    exact w4_dies_46 C p1 p2 r2 v4 (u10.1 60) 1 u10
  · refine v_iconst C 0 (by decide) dX4_dies_45 ?_
    refine v_sub [2, 3, 1, 0] rfl ?_
    exact w4_dies_46 C p1 p2 r2 v4 (u10.1 60) 0 u10
theorem cw4_dies {t : TT} {p : Program} {s : State} {m : MethodId} {args : Array Value} {meth : Method} {c : Code} {y0 : MethodName} {cc0 : ByteArray} {nL0 : Nat} {ret0 : Option FieldType} (C : Cx t p s m args meth c y0 cc0 nL0 ret0) {index lv : Nat} (hq : Cond.methodLink y0.cls index yX4_dies ∈ lw_all) (hR : LV_dies + 1 ≤ lv) : CallW (rmM lv) s args y0.cls RX4 index yX4_dies cX4_dies 5 none (ws_ yX4_dies cX4_dies 5 none) (rmM LV_dies) 0 0 2 :=
  cwV 2 C.2.2.2.2.1 (lw_V hq q2154 qs102 q127 q2155) rfl rfl rfl (by decide +kernel) ⟨hR, by show 8 + (5 + 11) + 100 * LV_dies ≤ 100 * lv; omega⟩
abbrev LV_finding : Nat := 3
def f4_finding_4 (p1 : Nat) (k : Int32 → Int32 → MS → Option (Int32 × MS)) (x2 : Int32) (x3 : Int32) (u : MS) : Option (Int32 × MS) :=
  if (u.1 4) ≤ x3 then
    some (x2, u)
  else
    mb (f4_isFound p1 x3 u) fun r2 u1 =>
    if r2 = 0 then
      k x2 (x3 + 1) u1
    else
      mb (f4_dies p1 x3 u1) fun _ u3 =>
      mchk (inbM 0 p1) <|
      mchk (inbM x3 64) <|
      mlet (mA u3 64 x3.toNatClampNeg (u3.2.1 p1 (0 : Int32).toNatClampNeg)) fun u6 =>
      k (x2 + 1) (x3 + 1) u6
theorem w4_finding_4 {p : Program} {e : Env} {s : State} {m : MethodId} {args : Array Value} {below : List Frame} {meth : Method} {c : Code} (C : Cx t p s m args meth c yX4_finding cX4_finding 4 (some .int)) (p1 : Nat) (n : Nat) (x2 : Int32) (x3 : Int32) (u : MS) : VM mkI t g p l e LV_finding s m args below meth c 4 4 [(0, .ref g.1), (1, .ref (g.2 p1)), (2, .int x2), (3, .int x3)] [] u (ml2 (f4_finding_4 p1) n x2 x3 u) := by
  refine vl2 (L := fun x2 x3 => [(0, .ref g.1), (1, .ref (g.2 p1)), (2, .int x2), (3, .int x3)]) (fun k hk x2 x3 u => ?_) n x2 x3 u
  unfold f4_finding_4
  refine v_iload_n C 3 rfl rfl dX4_finding_4 ?_
  refine v_aload_n C 0 rfl rfl dX4_finding_5 ?_
  refine v_getMi C 4 (by decide) (by decide) q1619 rfl dX4_finding_6 ?_
  refine v_icmp_ge C 48 (by decide) dX4_finding_9 (fun _ => ?_) (fun _ => ?_)
  · refine v_iload_n C 2 rfl rfl dX4_finding_48 ?_
    exact v_iretM C dX4_finding_49
  · refine v_aload_n C 0 rfl rfl dX4_finding_12 ?_
    refine v_aload_n C 1 rfl rfl dX4_finding_13 ?_
    refine v_iload_n C 3 rfl rfl dX4_finding_14 ?_
    refine v_callVM C [.ref (g.2 p1), .int x3] [] (ct4_isFound t g l p1 x3 u) (cw4_isFound C q2145 (by decide)) rfl rfl (Nat.le_of_ble_eq_true rfl) dX4_finding_15 (fun r2 u1 => ?_)
    refine v_if_ne C 24 (by decide) dX4_finding_18 (fun _ => ?_) (fun _ => ?_)
    · refine v_goto C 42 (by decide) dX4_finding_21 ?_
      refine v_iinc C 1 [(3, .int (x3 + 1)), (0, .ref g.1), (1, .ref (g.2 p1)), (2, .int x2)] 3 rfl (by decide) (by decide) rfl dX4_finding_42 ?_
      refine v_goto C 4 (by decide) dX4_finding_45 ?_
      refine v_sub [1, 2, 3, 0] rfl ?_
      exact hk x2 (x3 + 1) u1
    · refine v_aload_n C 0 rfl rfl dX4_finding_24 ?_
      refine v_aload_n C 1 rfl rfl dX4_finding_25 ?_
      refine v_iload_n C 3 rfl rfl dX4_finding_26 ?_
      refine v_callVM C [.ref (g.2 p1), .int x3] [] (ct4_dies t g l p1 x3 u1) (cw4_dies C q2152 (by decide)) rfl rfl (Nat.le_of_ble_eq_true rfl) dX4_finding_27 (fun _ u3 => ?_)
      refine v_aload_n C 0 rfl rfl dX4_finding_30 ?_
      refine v_getMa C 64 (by decide) (by decide) q1679 rfl dX4_finding_31 ?_
      refine v_iload_n C 3 rfl rfl dX4_finding_34 ?_
      refine v_aload_n C 1 rfl rfl dX4_finding_35 ?_
      refine v_iconst C 0 (by decide) dX4_finding_36 ?_
      refine v_chk (fun h4 => ?_)
      refine v_ialdM C h4 dX4_finding_37 ?_
      refine v_chk (fun h5 => ?_)
      refine v_iastM C h5 dX4_finding_38 (fun u6 => ?_)
      refine v_iinc C 1 [(2, .int (x2 + 1)), (0, .ref g.1), (1, .ref (g.2 p1)), (3, .int x3)] 2 rfl (by decide) (by decide) rfl dX4_finding_39 ?_
      refine v_iinc C 1 [(3, .int (x3 + 1)), (2, .int (x2 + 1)), (0, .ref g.1), (1, .ref (g.2 p1))] 3 rfl (by decide) (by decide) rfl dX4_finding_42 ?_
      refine v_goto C 4 (by decide) dX4_finding_45 ?_
      refine v_sub [2, 3, 1, 0] rfl ?_
      exact hk (x2 + 1) (x3 + 1) u6
def f4_finding (p1 : Nat) (u : MS) : Option (Int32 × MS) :=
  ml2 (f4_finding_4 p1) FUEL 0 0 u
theorem ct4_finding (t : TT) (g : GM) (l : Launch) (p1 : Nat) (u : MS) : CtM mkI t g l yX4_finding cX4_finding 4 (some .int) LV_finding [.ref g.1, .ref (g.2 p1)] u (f4_finding p1 u) := by
  refine ctM_of [(0, .ref g.1), (1, .ref (g.2 p1))] rfl (Nat.le_of_ble_eq_true rfl) rfl (fun p e s m args below meth c C => ?_)
  unfold f4_finding
  refine v_iconst C 0 (by decide) dX4_finding_0 ?_
  refine v_istore_n C [(2, .int 0), (0, .ref g.1), (1, .ref (g.2 p1))] rfl (by decide) rfl dX4_finding_1 ?_
  refine v_iconst C 0 (by decide) dX4_finding_2 ?_
  refine v_istore_n C [(3, .int 0), (2, .int 0), (0, .ref g.1), (1, .ref (g.2 p1))] rfl (by decide) rfl dX4_finding_3 ?_
  refine v_sub [2, 3, 1, 0] rfl ?_
  exact w4_finding_4 C p1 FUEL 0 0 u
theorem cw4_finding {t : TT} {p : Program} {s : State} {m : MethodId} {args : Array Value} {meth : Method} {c : Code} {y0 : MethodName} {cc0 : ByteArray} {nL0 : Nat} {ret0 : Option FieldType} (C : Cx t p s m args meth c y0 cc0 nL0 ret0) {index lv : Nat} (hq : Cond.methodLink y0.cls index yX4_finding ∈ lw_all) (hR : LV_finding + 1 ≤ lv) : CallW (rmM lv) s args y0.cls RX4 index yX4_finding cX4_finding 4 (some .int) (ws_ yX4_finding cX4_finding 4 (some .int)) (rmM LV_finding) 0 0 1 :=
  cwV 1 C.2.2.2.2.1 (lw_V hq q2143 qs100 q127 q2144) rfl rfl rfl (by decide +kernel) ⟨hR, by show 8 + (4 + 11) + 100 * LV_finding ≤ 100 * lv; omega⟩
abbrev LV_plays : Nat := 5
def f4_plays_3 (p1 : Nat) (p2 : Int32) (p3 : Int32) (k : Int32 → MS → Option (Unit × MS)) (x4 : Int32) (u : MS) : Option (Unit × MS) :=
  if (p2 + p3) ≤ x4 then
    some ((), u)
  else
    mb (f4_writing p1 u) fun r2 u1 =>
    mb (f4_finding p1 u1) fun r4 u3 =>
    if 30 ≤ x4 then
      mchk (inbM 0 p1) <|
      mchk (inbM 0 p1) <|
      mlet (mA u3 p1 (0 : Int32).toNatClampNeg ((u3.2.1 p1 (0 : Int32).toNatClampNeg) + 1)) fun u7 =>
      k (x4 + 1) u7
    else
      mchk (inbM x4 67) <|
      mlet (mA u3 67 x4.toNatClampNeg r2) fun u6 =>
      mchk (inbM x4 66) <|
      mlet (mA u6 66 x4.toNatClampNeg r4) fun u8 =>
      mb (f4_listOf p1 u8) fun r10 u9 =>
      mchk (inbM x4 65) <|
      mlet (mA u9 65 x4.toNatClampNeg r10) fun u12 =>
      mchk (inbM 0 p1) <|
      mchk (inbM 0 p1) <|
      mlet (mA u12 p1 (0 : Int32).toNatClampNeg ((u12.2.1 p1 (0 : Int32).toNatClampNeg) + 1)) fun u15 =>
      k (x4 + 1) u15
theorem w4_plays_3 {p : Program} {e : Env} {s : State} {m : MethodId} {args : Array Value} {below : List Frame} {meth : Method} {c : Code} (C : Cx t p s m args meth c yX4_plays cX4_plays 7 none) (p1 : Nat) (p2 : Int32) (p3 : Int32) (n : Nat) (x4 : Int32) (u : MS) : VM mkU t g p l e LV_plays s m args below meth c 7 3 [(0, .ref g.1), (1, .ref (g.2 p1)), (2, .int p2), (3, .int p3), (4, .int x4)] [] u (ml1 (f4_plays_3 p1 p2 p3) n x4 u) := by
  refine vl1 (L := fun x4 => [(0, .ref g.1), (1, .ref (g.2 p1)), (2, .int p2), (3, .int p3), (4, .int x4)]) (fun k hk x4 u => ?_) n x4 u
  unfold f4_plays_3
  refine v_iload C 4 rfl dX4_plays_3 ?_
  refine v_iload_n C 2 rfl rfl dX4_plays_5 ?_
  refine v_iload_n C 3 rfl rfl dX4_plays_6 ?_
  refine v_iadd C dX4_plays_7 ?_
  refine v_icmp_ge C 75 (by decide) dX4_plays_8 (fun _ => ?_) (fun _ => ?_)
  · exact v_vretM C dX4_plays_75
  · refine v_aload_n C 0 rfl rfl dX4_plays_11 ?_
    refine v_aload_n C 1 rfl rfl dX4_plays_12 ?_
    refine v_callVM C [.ref (g.2 p1)] [] (ct4_writing t g l p1 u) (cw4_writing C q2129 (by decide)) rfl rfl (Nat.le_of_ble_eq_true rfl) dX4_plays_13 (fun r2 u1 => ?_)
    refine v_istore C [(5, .int r2), (0, .ref g.1), (1, .ref (g.2 p1)), (2, .int p2), (3, .int p3), (4, .int x4)] (by decide) rfl dX4_plays_16 ?_
    refine v_aload_n C 1 rfl rfl dX4_plays_18 ?_
    refine v_aload_n C 2 rfl rfl dX4_plays_19 ?_
    refine v_callVM C [.ref (g.2 p1)] [] (ct4_finding t g l p1 u1) (cw4_finding C q2141 (by decide)) rfl rfl (Nat.le_of_ble_eq_true rfl) dX4_plays_20 (fun r4 u3 => ?_)
    refine v_istore C [(6, .int r4), (5, .int r2), (0, .ref g.1), (1, .ref (g.2 p1)), (2, .int p2), (3, .int p3), (4, .int x4)] (by decide) rfl dX4_plays_23 ?_
    refine v_iload C 6 rfl dX4_plays_25 ?_
    refine v_bipush C 30 (by decide) dX4_plays_27 ?_
    refine v_icmp_ge C 62 (by decide) dX4_plays_29 (fun _ => ?_) (fun _ => ?_)
    · refine v_aload_n C 3 rfl rfl dX4_plays_62 ?_
      refine v_iconst C 0 (by decide) dX4_plays_63 ?_
      refine v_dup2 C rfl rfl dX4_plays_64 ?_
      refine v_chk (fun h5 => ?_)
      refine v_ialdM C h5 dX4_plays_65 ?_
      refine v_iconst C 1 (by decide) dX4_plays_66 ?_
      refine v_iadd C dX4_plays_67 ?_
      refine v_chk (fun h6 => ?_)
      refine v_iastM C h6 dX4_plays_68 (fun u7 => ?_)
      refine v_iinc C 1 [(4, .int (x4 + 1)), (6, .int r4), (5, .int r2), (0, .ref g.1), (1, .ref (g.2 p1)), (2, .int p2), (3, .int p3)] 6 rfl (by decide) (by decide) rfl dX4_plays_69 ?_
      refine v_goto C 3 (by decide) dX4_plays_72 ?_
      refine v_sub [3, 4, 5, 6, 0] rfl ?_
      exact hk (x4 + 1) u7
    · refine v_aload_n C 2 rfl rfl dX4_plays_32 ?_
      refine v_getMa C 67 (by decide) (by decide) q1682 rfl dX4_plays_33 ?_
      refine v_iload C 6 rfl dX4_plays_36 ?_
      refine v_iload C 1 rfl dX4_plays_38 ?_
      refine v_chk (fun h5 => ?_)
      refine v_iastM C h5 dX4_plays_40 (fun u6 => ?_)
      refine v_aload_n C 2 rfl rfl dX4_plays_41 ?_
      refine v_getMa C 66 (by decide) (by decide) q1681 rfl dX4_plays_42 ?_
      refine v_iload C 6 rfl dX4_plays_45 ?_
      refine v_iload C 0 rfl dX4_plays_47 ?_
      refine v_chk (fun h7 => ?_)
      refine v_iastM C h7 dX4_plays_49 (fun u8 => ?_)
      refine v_aload_n C 2 rfl rfl dX4_plays_50 ?_
      refine v_getMa C 65 (by decide) (by decide) q1680 rfl dX4_plays_51 ?_
      refine v_iload C 6 rfl dX4_plays_54 ?_
      refine v_aload_n C 2 rfl rfl dX4_plays_56 ?_
      refine v_aload_n C 3 rfl rfl dX4_plays_57 ?_
      refine v_callVM C [.ref (g.2 p1)] [.int x4, .ref (g.2 65)] (ct4_listOf t g l p1 u8) (cw4_listOf C q2040 (by decide)) rfl rfl (Nat.le_of_ble_eq_true rfl) dX4_plays_58 (fun r10 u9 => ?_)
      refine v_chk (fun h11 => ?_)
      refine v_iastM C h11 dX4_plays_61 (fun u12 => ?_)
      refine v_aload_n C 3 rfl rfl dX4_plays_62 ?_
      refine v_iconst C 0 (by decide) dX4_plays_63 ?_
      refine v_dup2 C rfl rfl dX4_plays_64 ?_
      refine v_chk (fun h13 => ?_)
      refine v_ialdM C h13 dX4_plays_65 ?_
      refine v_iconst C 1 (by decide) dX4_plays_66 ?_
      refine v_iadd C dX4_plays_67 ?_
      refine v_chk (fun h14 => ?_)
      refine v_iastM C h14 dX4_plays_68 (fun u15 => ?_)
      refine v_iinc C 1 [(4, .int (x4 + 1)), (6, .int r4), (5, .int r2), (0, .ref g.1), (1, .ref (g.2 p1)), (2, .int p2), (3, .int p3)] 6 rfl (by decide) (by decide) rfl dX4_plays_69 ?_
      refine v_goto C 3 (by decide) dX4_plays_72 ?_
      refine v_sub [3, 4, 5, 6, 0] rfl ?_
      exact hk (x4 + 1) u15
def f4_plays (p1 : Nat) (p2 : Int32) (p3 : Int32) (u : MS) : Option (Unit × MS) :=
  ml1 (f4_plays_3 p1 p2 p3) FUEL p2 u
theorem ct4_plays (t : TT) (g : GM) (l : Launch) (p1 : Nat) (p2 : Int32) (p3 : Int32) (u : MS) : CtM mkU t g l yX4_plays cX4_plays 7 none LV_plays [.ref g.1, .ref (g.2 p1), .int p2, .int p3] u (f4_plays p1 p2 p3 u) := by
  refine ctM_of [(0, .ref g.1), (1, .ref (g.2 p1)), (2, .int p2), (3, .int p3)] rfl (Nat.le_of_ble_eq_true rfl) rfl (fun p e s m args below meth c C => ?_)
  unfold f4_plays
  refine v_iload_n C 2 rfl rfl dX4_plays_0 ?_
  refine v_istore C [(4, .int p2), (0, .ref g.1), (1, .ref (g.2 p1)), (2, .int p2), (3, .int p3)] (by decide) rfl dX4_plays_1 ?_
  refine v_sub [1, 2, 3, 4, 0] rfl ?_
  exact w4_plays_3 C p1 p2 p3 FUEL p2 u
theorem cw4_plays {t : TT} {p : Program} {s : State} {m : MethodId} {args : Array Value} {meth : Method} {c : Code} {y0 : MethodName} {cc0 : ByteArray} {nL0 : Nat} {ret0 : Option FieldType} (C : Cx t p s m args meth c y0 cc0 nL0 ret0) {index lv : Nat} (hq : Cond.methodLink y0.cls index yX4_plays ∈ lw_all) (hR : LV_plays + 1 ≤ lv) : CallW (rmM lv) s args y0.cls RX4 index yX4_plays cX4_plays 7 none (ws_ yX4_plays cX4_plays 7 none) (rmM LV_plays) 0 0 3 :=
  cwV 3 C.2.2.2.2.1 (lw_V hq q2127 qs96 q127 q2128) rfl rfl rfl (by decide +kernel) ⟨hR, by show 8 + (7 + 11) + 100 * LV_plays ≤ 100 * lv; omega⟩
abbrev LV_mornings : Nat := 6
def f4_mornings_28 (p1 : Int32) (u : MS) : Option (Int32 × MS) :=
  mb (f4_refuses 1 u) fun r2 u1 =>
  some (r2, u1)
theorem w4_mornings_28 {p : Program} {e : Env} {s : State} {m : MethodId} {args : Array Value} {below : List Frame} {meth : Method} {c : Code} (C : Cx t p s m args meth c yX4_mornings cX4_mornings 2 (some .int)) (p1 : Int32) (u : MS) : VM mkI t g p l e LV_mornings s m args below meth c 2 28 [(0, .ref g.1)] [] u (f4_mornings_28 p1 u) := by
  unfold f4_mornings_28
  refine v_aload_n C 0 rfl rfl dX4_mornings_28 ?_
  refine v_iconst C 1 (by decide) dX4_mornings_29 ?_
  refine v_callVM C [.int 1] [] (ct4_refuses t g l 1 u) (cw4_refuses C q2117 (by decide)) rfl rfl (Nat.le_of_ble_eq_true rfl) dX4_mornings_30 (fun r2 u1 => ?_)
  exact v_iretM C dX4_mornings_33
def f4_mornings (p1 : Int32) (u : MS) : Option (Int32 × MS) :=
  mlet (mS u 0 0) fun u1 =>
  mb (f4_within p1 1 20 u1) fun r3 u2 =>
  if r3 = 0 then
    f4_mornings_28 p1 u2
  else
    if ((u2.2.1 54 (0 : Int32).toNatClampNeg) + p1) ≤ 60 then
      mb (f4_keeps u2) fun _ u4 =>
      mlet (mS u4 62 0) fun u5 =>
      mb (f4_plays 54 30 p1 u5) fun _ u6 =>
      some ((u6.2.1 54 (0 : Int32).toNatClampNeg), u6)
    else
      f4_mornings_28 p1 u2
theorem ct4_mornings (t : TT) (g : GM) (l : Launch) (p1 : Int32) (u : MS) : CtM mkI t g l yX4_mornings cX4_mornings 2 (some .int) LV_mornings [.ref g.1, .int p1] u (f4_mornings p1 u) := by
  refine ctM_of [(0, .ref g.1), (1, .int p1)] rfl (Nat.le_of_ble_eq_true rfl) rfl (fun p e s m args below meth c C => ?_)
  unfold f4_mornings
  refine v_aload_n C 0 rfl rfl dX4_mornings_0 ?_
  refine v_iconst C 0 (by decide) dX4_mornings_1 ?_
  refine v_putMi C 0 (by decide) (by decide) q1615 rfl rfl (by decide +kernel) dX4_mornings_2 (fun u1 => ?_)
  refine v_iload_n C 1 rfl rfl dX4_mornings_5 ?_
  refine v_iconst C 1 (by decide) dX4_mornings_6 ?_
  refine v_bipush C 20 (by decide) dX4_mornings_7 ?_
  refine v_callSM C [.int p1, .int 1, .int 20] [] (ct4_within t g l p1 1 20 u1) (cw4_within C q2037 (by decide)) rfl rfl (Nat.le_of_ble_eq_true rfl) dX4_mornings_9 (fun r3 u2 => ?_)
  refine v_if_eq C 28 (by decide) dX4_mornings_12 (fun _ => ?_) (fun _ => ?_)
  · refine v_sub [0] rfl ?_
    exact w4_mornings_28 C p1 u2
  · refine v_aload_n C 0 rfl rfl dX4_mornings_15 ?_
    refine v_getMa C 54 (by decide) (by decide) q1669 rfl dX4_mornings_16 ?_
    refine v_iconst C 0 (by decide) dX4_mornings_19 ?_
    refine v_ialdM C (by decide) dX4_mornings_20 ?_
    refine v_iload_n C 1 rfl rfl dX4_mornings_21 ?_
    refine v_iadd C dX4_mornings_22 ?_
    refine v_bipush C 60 (by decide) dX4_mornings_23 ?_
    refine v_icmp_le C 34 (by decide) dX4_mornings_25 (fun _ => ?_) (fun _ => ?_)
    · refine v_aload_n C 0 rfl rfl dX4_mornings_34 ?_
      refine v_callVM C [] [] (ct4_keeps t g l u2) (cw4_keeps C q2121 (by decide)) rfl rfl (Nat.le_of_ble_eq_true rfl) dX4_mornings_35 (fun _ u4 => ?_)
      refine v_aload_n C 0 rfl rfl dX4_mornings_38 ?_
      refine v_iconst C 0 (by decide) dX4_mornings_39 ?_
      refine v_putMi C 62 (by decide) (by decide) q1677 rfl rfl (by decide +kernel) dX4_mornings_40 (fun u5 => ?_)
      refine v_aload_n C 0 rfl rfl dX4_mornings_43 ?_
      refine v_aload_n C 0 rfl rfl dX4_mornings_44 ?_
      refine v_getMa C 54 (by decide) (by decide) q1669 rfl dX4_mornings_45 ?_
      refine v_bipush C 30 (by decide) dX4_mornings_48 ?_
      refine v_iload_n C 1 rfl rfl dX4_mornings_50 ?_
      refine v_callVM C [.ref (g.2 54), .int 30, .int p1] [] (ct4_plays t g l 54 30 p1 u5) (cw4_plays C q2125 (by decide)) rfl rfl (Nat.le_of_ble_eq_true rfl) dX4_mornings_51 (fun _ u6 => ?_)
      refine v_aload_n C 0 rfl rfl dX4_mornings_54 ?_
      refine v_getMa C 54 (by decide) (by decide) q1669 rfl dX4_mornings_55 ?_
      refine v_iconst C 0 (by decide) dX4_mornings_58 ?_
      refine v_ialdM C (by decide) dX4_mornings_59 ?_
      exact v_iretM C dX4_mornings_60
    · refine v_sub [0] rfl ?_
      exact w4_mornings_28 C p1 u2
theorem cw4_mornings {t : TT} {p : Program} {s : State} {m : MethodId} {args : Array Value} {meth : Method} {c : Code} {y0 : MethodName} {cc0 : ByteArray} {nL0 : Nat} {ret0 : Option FieldType} (C : Cx t p s m args meth c y0 cc0 nL0 ret0) {index lv : Nat} (hq : Cond.methodLink y0.cls index yX4_mornings ∈ lw_all) (hR : LV_mornings + 1 ≤ lv) : CallW (rmM lv) s args y0.cls RX4 index yX4_mornings cX4_mornings 2 (some .int) (ws_ yX4_mornings cX4_mornings 2 (some .int)) (rmM LV_mornings) 0 0 1 :=
  cwV 1 C.2.2.2.2.1 (lw_V hq q2114 q2115 q127 q2116) rfl rfl rfl (by decide +kernel) ⟨hR, by show 8 + (2 + 11) + 100 * LV_mornings ≤ 100 * lv; omega⟩
abbrev LV_leads : Nat := 0
def f4_leads (p1 : Int32) (p2 : Int32) (u : MS) : Option (Int32 × MS) :=
  mchk (inbM p1 9) <|
  if (u.2.1 9 p1.toNatClampNeg) = p2 then
    mchk (inbM p1 10) <|
    some ((u.2.1 10 p1.toNatClampNeg), u)
  else
    mchk (inbM p1 10) <|
    if (u.2.1 10 p1.toNatClampNeg) = p2 then
      mchk (inbM p1 9) <|
      some ((u.2.1 9 p1.toNatClampNeg), u)
    else
      some (-1, u)
theorem ct4_leads (t : TT) (g : GM) (l : Launch) (p1 : Int32) (p2 : Int32) (u : MS) : CtM mkI t g l yX4_leads cX4_leads 3 (some .int) LV_leads [.ref g.1, .int p1, .int p2] u (f4_leads p1 p2 u) := by
  refine ctM_of [(0, .ref g.1), (1, .int p1), (2, .int p2)] rfl (Nat.le_of_ble_eq_true rfl) rfl (fun p e s m args below meth c C => ?_)
  unfold f4_leads
  refine v_aload_n C 0 rfl rfl dX4_leads_0 ?_
  refine v_getMa C 9 (by decide) (by decide) q1624 rfl dX4_leads_1 ?_
  refine v_iload_n C 1 rfl rfl dX4_leads_4 ?_
  refine v_chk (fun h1 => ?_)
  refine v_ialdM C h1 dX4_leads_5 ?_
  refine v_iload_n C 2 rfl rfl dX4_leads_6 ?_
  refine v_icmp_ne C 19 (by decide) dX4_leads_7 (fun _ => ?_) (fun _ => ?_)
  · refine v_aload_n C 0 rfl rfl dX4_leads_10 ?_
    refine v_getMa C 10 (by decide) (by decide) q1625 rfl dX4_leads_11 ?_
    refine v_iload_n C 1 rfl rfl dX4_leads_14 ?_
    refine v_chk (fun h2 => ?_)
    refine v_ialdM C h2 dX4_leads_15 ?_
    refine v_goto C 39 (by decide) dX4_leads_16 ?_
    exact v_iretM C dX4_leads_39
  · refine v_aload_n C 0 rfl rfl dX4_leads_19 ?_
    refine v_getMa C 10 (by decide) (by decide) q1625 rfl dX4_leads_20 ?_
    refine v_iload_n C 1 rfl rfl dX4_leads_23 ?_
    refine v_chk (fun h2 => ?_)
    refine v_ialdM C h2 dX4_leads_24 ?_
    refine v_iload_n C 2 rfl rfl dX4_leads_25 ?_
    refine v_icmp_ne C 38 (by decide) dX4_leads_26 (fun _ => ?_) (fun _ => ?_)
    · refine v_aload_n C 0 rfl rfl dX4_leads_29 ?_
      refine v_getMa C 9 (by decide) (by decide) q1624 rfl dX4_leads_30 ?_
      refine v_iload_n C 1 rfl rfl dX4_leads_33 ?_
      refine v_chk (fun h3 => ?_)
      refine v_ialdM C h3 dX4_leads_34 ?_
      refine v_goto C 39 (by decide) dX4_leads_35 ?_
      exact v_iretM C dX4_leads_39
    · refine v_iconst C (-1) (by decide) dX4_leads_38 ?_
      exact v_iretM C dX4_leads_39
theorem cw4_leads {t : TT} {p : Program} {s : State} {m : MethodId} {args : Array Value} {meth : Method} {c : Code} {y0 : MethodName} {cc0 : ByteArray} {nL0 : Nat} {ret0 : Option FieldType} (C : Cx t p s m args meth c y0 cc0 nL0 ret0) {index lv : Nat} (hq : Cond.methodLink y0.cls index yX4_leads ∈ lw_all) (hR : LV_leads + 1 ≤ lv) : CallW (rmM lv) s args y0.cls RX4 index yX4_leads cX4_leads 3 (some .int) (ws_ yX4_leads cX4_leads 3 (some .int)) (rmM LV_leads) 0 0 2 :=
  cwV 2 C.2.2.2.2.1 (lw_V hq q2162 qs103 q127 q2163) rfl rfl rfl (by decide +kernel) ⟨hR, by show 8 + (3 + 11) + 100 * LV_leads ≤ 100 * lv; omega⟩
abbrev LV_isPassable : Nat := 0
def f4_isPassable (p1 : Int32) (p2 : Int32) (u : MS) : Option (Int32 × MS) :=
  if p1 = (u.1 69) then
    rz 1 u
  else
    mchk (inbM p1 11) <|
    if (u.2.1 11 p1.toNatClampNeg) ≤ p2 then
      rz 0 u
    else
      rz 1 u
theorem ct4_isPassable (t : TT) (g : GM) (l : Launch) (p1 : Int32) (p2 : Int32) (u : MS) : CtM mkI t g l yX4_isPassable cX4_isPassable 3 (some .boolean) LV_isPassable [.ref g.1, .int p1, .int p2] u (f4_isPassable p1 p2 u) := by
  refine ctM_of [(0, .ref g.1), (1, .int p1), (2, .int p2)] rfl (Nat.le_of_ble_eq_true rfl) rfl (fun p e s m args below meth c C => ?_)
  unfold f4_isPassable
  refine v_iload_n C 1 rfl rfl dX4_isPassable_0 ?_
  refine v_aload_n C 0 rfl rfl dX4_isPassable_1 ?_
  refine v_getMi C 69 (by decide) (by decide) q1684 rfl dX4_isPassable_2 ?_
  refine v_icmp_eq C 18 (by decide) dX4_isPassable_5 (fun _ => ?_) (fun _ => ?_)
  · refine v_iconst C 1 (by decide) dX4_isPassable_18 ?_
    refine v_goto C 23 (by decide) dX4_isPassable_19 ?_
    exact v_zretM C dX4_isPassable_23
  · refine v_iload_n C 2 rfl rfl dX4_isPassable_8 ?_
    refine v_aload_n C 0 rfl rfl dX4_isPassable_9 ?_
    refine v_getMa C 11 (by decide) (by decide) q1626 rfl dX4_isPassable_10 ?_
    refine v_iload_n C 1 rfl rfl dX4_isPassable_13 ?_
    refine v_chk (fun h1 => ?_)
    refine v_ialdM C h1 dX4_isPassable_14 ?_
    refine v_icmp_ge C 22 (by decide) dX4_isPassable_15 (fun _ => ?_) (fun _ => ?_)
    · refine v_iconst C 0 (by decide) dX4_isPassable_22 ?_
      exact v_zretM C dX4_isPassable_23
    · refine v_iconst C 1 (by decide) dX4_isPassable_18 ?_
      refine v_goto C 23 (by decide) dX4_isPassable_19 ?_
      exact v_zretM C dX4_isPassable_23
theorem cw4_isPassable {t : TT} {p : Program} {s : State} {m : MethodId} {args : Array Value} {meth : Method} {c : Code} {y0 : MethodName} {cc0 : ByteArray} {nL0 : Nat} {ret0 : Option FieldType} (C : Cx t p s m args meth c y0 cc0 nL0 ret0) {index lv : Nat} (hq : Cond.methodLink y0.cls index yX4_isPassable ∈ lw_all) (hR : LV_isPassable + 1 ≤ lv) : CallW (rmM lv) s args y0.cls RX4 index yX4_isPassable cX4_isPassable 3 (some .boolean) (ws_ yX4_isPassable cX4_isPassable 3 (some .boolean)) (rmM LV_isPassable) 0 0 2 :=
  cwV 2 C.2.2.2.2.1 (lw_V hq q2166 qs104 q127 q2167) rfl rfl rfl (by decide +kernel) ⟨hR, by show 8 + (3 + 11) + 100 * LV_isPassable ≤ 100 * lv; omega⟩
abbrev LV_go : Nat := 2
def f4_go_97 (p1 : Int32) (p2 : Int32) (u : MS) : Option (Int32 × MS) :=
  mb (f4_refuses 1 u) fun r2 u1 =>
  some (r2, u1)
theorem w4_go_97 {p : Program} {e : Env} {s : State} {m : MethodId} {args : Array Value} {below : List Frame} {meth : Method} {c : Code} (C : Cx t p s m args meth c yX4_go cX4_go 4 (some .int)) (p1 : Int32) (p2 : Int32) (u : MS) : VM mkI t g p l e LV_go s m args below meth c 4 97 [(0, .ref g.1)] [] u (f4_go_97 p1 p2 u) := by
  unfold f4_go_97
  refine v_aload_n C 0 rfl rfl dX4_go_97 ?_
  refine v_iconst C 1 (by decide) dX4_go_98 ?_
  refine v_callVM C [.int 1] [] (ct4_refuses t g l 1 u) (cw4_refuses C q2117 (by decide)) rfl rfl (Nat.le_of_ble_eq_true rfl) dX4_go_99 (fun r2 u1 => ?_)
  exact v_iretM C dX4_go_102
def f4_go_31 (p1 : Int32) (p2 : Int32) (s1 : Int32) (u : MS) : Option (Int32 × MS) :=
  mb (f4_right s1 1 u) fun r2 u1 =>
  if r2 = 0 then
    some (0, u1)
  else
    mchk (inbM (22 + p1) 54) <|
    mb (f4_leads p2 (u1.2.1 54 (22 + p1).toNatClampNeg) u1) fun r5 u4 =>
    mb (f4_isDead 54 p1 u4) fun r7 u6 =>
    if r7 = 0 then
      mb (f4_isAway 54 p1 u6) fun r9 u8 =>
      if r9 = 0 then
        if r5 = (-1) then
          f4_go_97 p1 p2 u8
        else
          mb (f4_isPassable p2 (u8.2.1 54 (0 : Int32).toNatClampNeg) u8) fun r11 u10 =>
          if r11 = 0 then
            f4_go_97 p1 p2 u10
          else
            mb (f4_keeps u10) fun _ u12 =>
            mchk (inbM (22 + p1) 54) <|
            mlet (mA u12 54 (22 + p1).toNatClampNeg r5) fun u14 =>
            some (r5, u14)
      else
        f4_go_97 p1 p2 u8
    else
      f4_go_97 p1 p2 u6
theorem w4_go_31 {p : Program} {e : Env} {s : State} {m : MethodId} {args : Array Value} {below : List Frame} {meth : Method} {c : Code} (C : Cx t p s m args meth c yX4_go cX4_go 4 (some .int)) (p1 : Int32) (p2 : Int32) (s1 : Int32) (u : MS) : VM mkI t g p l e LV_go s m args below meth c 4 31 [(0, .ref g.1), (1, .int p1), (2, .int p2)] [.int s1, .ref g.1] u (f4_go_31 p1 p2 s1 u) := by
  unfold f4_go_31
  refine v_iconst C 1 (by decide) dX4_go_31 ?_
  refine v_callVM C [.int s1, .int 1] [] (ct4_right t g l s1 1 u) (cw4_right C q1894 (by decide)) rfl rfl (Nat.le_of_ble_eq_true rfl) dX4_go_32 (fun r2 u1 => ?_)
  refine v_if_ne C 40 (by decide) dX4_go_35 (fun _ => ?_) (fun _ => ?_)
  · refine v_iconst C 0 (by decide) dX4_go_38 ?_
    exact v_iretM C dX4_go_39
  · refine v_aload_n C 0 rfl rfl dX4_go_40 ?_
    refine v_iload_n C 2 rfl rfl dX4_go_41 ?_
    refine v_aload_n C 0 rfl rfl dX4_go_42 ?_
    refine v_getMa C 54 (by decide) (by decide) q1669 rfl dX4_go_43 ?_
    refine v_bipush C 22 (by decide) dX4_go_46 ?_
    refine v_iload_n C 1 rfl rfl dX4_go_48 ?_
    refine v_iadd C dX4_go_49 ?_
    refine v_chk (fun h3 => ?_)
    refine v_ialdM C h3 dX4_go_50 ?_
    refine v_callVM C [.int p2, .int (u1.2.1 54 (22 + p1).toNatClampNeg)] [] (ct4_leads t g l p2 (u1.2.1 54 (22 + p1).toNatClampNeg) u1) (cw4_leads C q2160 (by decide)) rfl rfl (Nat.le_of_ble_eq_true rfl) dX4_go_51 (fun r5 u4 => ?_)
    refine v_istore_n C [(3, .int r5), (0, .ref g.1), (1, .int p1), (2, .int p2)] rfl (by decide) rfl dX4_go_54 ?_
    refine v_aload_n C 1 rfl rfl dX4_go_55 ?_
    refine v_getMa C 54 (by decide) (by decide) q1669 rfl dX4_go_56 ?_
    refine v_iload_n C 2 rfl rfl dX4_go_59 ?_
    refine v_callSM C [.ref (g.2 54), .int p1] [] (ct4_isDead t g l 54 p1 u4) (cw4_isDead C q2149 (by decide)) rfl rfl (Nat.le_of_ble_eq_true rfl) dX4_go_60 (fun r7 u6 => ?_)
    refine v_if_ne C 97 (by decide) dX4_go_63 (fun _ => ?_) (fun _ => ?_)
    · refine v_aload_n C 1 rfl rfl dX4_go_66 ?_
      refine v_aload_n C 1 rfl rfl dX4_go_67 ?_
      refine v_getMa C 54 (by decide) (by decide) q1669 rfl dX4_go_68 ?_
      refine v_iload_n C 2 rfl rfl dX4_go_71 ?_
      refine v_callVM C [.ref (g.2 54), .int p1] [] (ct4_isAway t g l 54 p1 u6) (cw4_isAway C q2048 (by decide)) rfl rfl (Nat.le_of_ble_eq_true rfl) dX4_go_72 (fun r9 u8 => ?_)
      refine v_if_ne C 97 (by decide) dX4_go_75 (fun _ => ?_) (fun _ => ?_)
      · refine v_iload_n C 0 rfl rfl dX4_go_78 ?_
        refine v_iconst C (-1) (by decide) dX4_go_79 ?_
        refine v_icmp_eq C 97 (by decide) dX4_go_80 (fun _ => ?_) (fun _ => ?_)
        · refine v_sub [1] rfl ?_
          exact w4_go_97 C p1 p2 u8
        · refine v_aload_n C 1 rfl rfl dX4_go_83 ?_
          refine v_iload_n C 3 rfl rfl dX4_go_84 ?_
          refine v_aload_n C 1 rfl rfl dX4_go_85 ?_
          refine v_getMa C 54 (by decide) (by decide) q1669 rfl dX4_go_86 ?_
          refine v_iconst C 0 (by decide) dX4_go_89 ?_
          refine v_ialdM C (by decide) dX4_go_90 ?_
          refine v_callVM C [.int p2, .int (u8.2.1 54 (0 : Int32).toNatClampNeg)] [] (ct4_isPassable t g l p2 (u8.2.1 54 (0 : Int32).toNatClampNeg) u8) (cw4_isPassable C q2164 (by decide)) rfl rfl (Nat.le_of_ble_eq_true rfl) dX4_go_91 (fun r11 u10 => ?_)
          refine v_if_ne C 103 (by decide) dX4_go_94 (fun _ => ?_) (fun _ => ?_)
          · refine v_sub [1] rfl ?_
            exact w4_go_97 C p1 p2 u10
          · refine v_aload_n C 1 rfl rfl dX4_go_103 ?_
            refine v_callVM C [] [] (ct4_keeps t g l u10) (cw4_keeps C q2121 (by decide)) rfl rfl (Nat.le_of_ble_eq_true rfl) dX4_go_104 (fun _ u12 => ?_)
            refine v_aload_n C 1 rfl rfl dX4_go_107 ?_
            refine v_getMa C 54 (by decide) (by decide) q1669 rfl dX4_go_108 ?_
            refine v_bipush C 22 (by decide) dX4_go_111 ?_
            refine v_iload_n C 2 rfl rfl dX4_go_113 ?_
            refine v_iadd C dX4_go_114 ?_
            refine v_iload_n C 0 rfl rfl dX4_go_115 ?_
            refine v_chk (fun h13 => ?_)
            refine v_iastM C h13 dX4_go_116 (fun u14 => ?_)
            refine v_iload_n C 0 rfl rfl dX4_go_117 ?_
            exact v_iretM C dX4_go_118
      · refine v_sub [1] rfl ?_
        exact w4_go_97 C p1 p2 u8
    · refine v_sub [1] rfl ?_
      exact w4_go_97 C p1 p2 u6
def f4_go (p1 : Int32) (p2 : Int32) (u : MS) : Option (Int32 × MS) :=
  mlet (mS u 0 0) fun u1 =>
  mb (f4_isPerson p1 u1) fun r3 u2 =>
  if r3 = 0 then
    some (0, u2)
  else
    if p2 < 0 then
      f4_go_31 p1 p2 0 u2
    else
      if (u2.1 3) ≤ p2 then
        f4_go_31 p1 p2 0 u2
      else
        f4_go_31 p1 p2 1 u2
theorem ct4_go (t : TT) (g : GM) (l : Launch) (p1 : Int32) (p2 : Int32) (u : MS) : CtM mkI t g l yX4_go cX4_go 4 (some .int) LV_go [.ref g.1, .int p1, .int p2] u (f4_go p1 p2 u) := by
  refine ctM_of [(0, .ref g.1), (1, .int p1), (2, .int p2)] rfl (Nat.le_of_ble_eq_true rfl) rfl (fun p e s m args below meth c C => ?_)
  unfold f4_go
  refine v_aload_n C 0 rfl rfl dX4_go_0 ?_
  refine v_iconst C 0 (by decide) dX4_go_1 ?_
  refine v_putMi C 0 (by decide) (by decide) q1615 rfl rfl (by decide +kernel) dX4_go_2 (fun u1 => ?_)
  refine v_aload_n C 0 rfl rfl dX4_go_5 ?_
  refine v_iload_n C 1 rfl rfl dX4_go_6 ?_
  refine v_callVM C [.int p1] [] (ct4_isPerson t g l p1 u1) (cw4_isPerson C q2084 (by decide)) rfl rfl (Nat.le_of_ble_eq_true rfl) dX4_go_7 (fun r3 u2 => ?_)
  refine v_if_eq C 38 (by decide) dX4_go_10 (fun _ => ?_) (fun _ => ?_)
  · refine v_iconst C 0 (by decide) dX4_go_38 ?_
    exact v_iretM C dX4_go_39
  · refine v_aload_n C 0 rfl rfl dX4_go_13 ?_
    refine v_iload_n C 2 rfl rfl dX4_go_14 ?_
    refine v_if_lt C 30 (by decide) dX4_go_15 (fun _ => ?_) (fun _ => ?_)
    · refine v_iconst C 0 (by decide) dX4_go_30 ?_
      exact w4_go_31 C p1 p2 0 u2
    · refine v_iload_n C 2 rfl rfl dX4_go_18 ?_
      refine v_aload_n C 0 rfl rfl dX4_go_19 ?_
      refine v_getMi C 3 (by decide) (by decide) q1618 rfl dX4_go_20 ?_
      refine v_icmp_ge C 30 (by decide) dX4_go_23 (fun _ => ?_) (fun _ => ?_)
      · refine v_iconst C 0 (by decide) dX4_go_30 ?_
        exact w4_go_31 C p1 p2 0 u2
      · refine v_iconst C 1 (by decide) dX4_go_26 ?_
        refine v_goto C 31 (by decide) dX4_go_27 ?_
        exact w4_go_31 C p1 p2 1 u2
theorem cw4_go {t : TT} {p : Program} {s : State} {m : MethodId} {args : Array Value} {meth : Method} {c : Code} {y0 : MethodName} {cc0 : ByteArray} {nL0 : Nat} {ret0 : Option FieldType} (C : Cx t p s m args meth c y0 cc0 nL0 ret0) {index lv : Nat} (hq : Cond.methodLink y0.cls index yX4_go ∈ lw_all) (hR : LV_go + 1 ≤ lv) : CallW (rmM lv) s args y0.cls RX4 index yX4_go cX4_go 4 (some .int) (ws_ yX4_go cX4_go 4 (some .int)) (rmM LV_go) 0 0 2 :=
  cwV 2 C.2.2.2.2.1 (lw_V hq q2157 q2158 q127 q2159) rfl rfl rfl (by decide +kernel) ⟨hR, by show 8 + (4 + 11) + 100 * LV_go ≤ 100 * lv; omega⟩
abbrev LV_write : Nat := 2
def f4_write (p1 : Int32) (u : MS) : Option (Int32 × MS) :=
  mlet (mS u 0 0) fun u1 =>
  mb (f4_isPerson p1 u1) fun r3 u2 =>
  if r3 = 0 then
    rz 0 u2
  else
    mchk (inbM (4 + p1) 54) <|
    if (u2.2.1 54 (4 + p1).toNatClampNeg) = (-1) then
      mb (f4_keeps u2) fun _ u5 =>
      mb (f4_writes0 54 p1 (-2) u5) fun _ u6 =>
      rz 1 u6
    else
      mb (f4_refuses 1 u2) fun r6 u5 =>
      if r6 ≤ 0 then
        rz 0 u5
      else
        rz 1 u5
theorem ct4_write (t : TT) (g : GM) (l : Launch) (p1 : Int32) (u : MS) : CtM mkI t g l yX4_write cX4_write 2 (some .boolean) LV_write [.ref g.1, .int p1] u (f4_write p1 u) := by
  refine ctM_of [(0, .ref g.1), (1, .int p1)] rfl (Nat.le_of_ble_eq_true rfl) rfl (fun p e s m args below meth c C => ?_)
  unfold f4_write
  refine v_aload_n C 0 rfl rfl dX4_write_0 ?_
  refine v_iconst C 0 (by decide) dX4_write_1 ?_
  refine v_putMi C 0 (by decide) (by decide) q1615 rfl rfl (by decide +kernel) dX4_write_2 (fun u1 => ?_)
  refine v_aload_n C 0 rfl rfl dX4_write_5 ?_
  refine v_iload_n C 1 rfl rfl dX4_write_6 ?_
  refine v_callVM C [.int p1] [] (ct4_isPerson t g l p1 u1) (cw4_isPerson C q2084 (by decide)) rfl rfl (Nat.le_of_ble_eq_true rfl) dX4_write_7 (fun r3 u2 => ?_)
  refine v_if_ne C 15 (by decide) dX4_write_10 (fun _ => ?_) (fun _ => ?_)
  · refine v_iconst C 0 (by decide) dX4_write_13 ?_
    exact v_zretM C dX4_write_14
  · refine v_aload_n C 0 rfl rfl dX4_write_15 ?_
    refine v_getMa C 54 (by decide) (by decide) q1669 rfl dX4_write_16 ?_
    refine v_iconst C 4 (by decide) dX4_write_19 ?_
    refine v_iload_n C 1 rfl rfl dX4_write_20 ?_
    refine v_iadd C dX4_write_21 ?_
    refine v_chk (fun h4 => ?_)
    refine v_ialdM C h4 dX4_write_22 ?_
    refine v_iconst C (-1) (by decide) dX4_write_23 ?_
    refine v_icmp_eq C 41 (by decide) dX4_write_24 (fun _ => ?_) (fun _ => ?_)
    · refine v_aload_n C 0 rfl rfl dX4_write_41 ?_
      refine v_callVM C [] [] (ct4_keeps t g l u2) (cw4_keeps C q2121 (by decide)) rfl rfl (Nat.le_of_ble_eq_true rfl) dX4_write_42 (fun _ u5 => ?_)
      refine v_aload_n C 0 rfl rfl dX4_write_45 ?_
      refine v_aload_n C 0 rfl rfl dX4_write_46 ?_
      refine v_getMa C 54 (by decide) (by decide) q1669 rfl dX4_write_47 ?_
      refine v_iload_n C 1 rfl rfl dX4_write_50 ?_
      refine v_bipush C (-2) (by decide) dX4_write_51 ?_
      refine v_callVM C [.ref (g.2 54), .int p1, .int (-2)] [] (ct4_writes0 t g l 54 p1 (-2) u5) (cw4_writes0 C q2137 (by decide)) rfl rfl (Nat.le_of_ble_eq_true rfl) dX4_write_53 (fun _ u6 => ?_)
      refine v_iconst C 1 (by decide) dX4_write_56 ?_
      exact v_zretM C dX4_write_57
    · refine v_aload_n C 0 rfl rfl dX4_write_27 ?_
      refine v_iconst C 1 (by decide) dX4_write_28 ?_
      refine v_callVM C [.int 1] [] (ct4_refuses t g l 1 u2) (cw4_refuses C q2117 (by decide)) rfl rfl (Nat.le_of_ble_eq_true rfl) dX4_write_29 (fun r6 u5 => ?_)
      refine v_if_le C 39 (by decide) dX4_write_32 (fun _ => ?_) (fun _ => ?_)
      · refine v_iconst C 0 (by decide) dX4_write_39 ?_
        exact v_zretM C dX4_write_40
      · refine v_iconst C 1 (by decide) dX4_write_35 ?_
        refine v_goto C 40 (by decide) dX4_write_36 ?_
        exact v_zretM C dX4_write_40
theorem cw4_write {t : TT} {p : Program} {s : State} {m : MethodId} {args : Array Value} {meth : Method} {c : Code} {y0 : MethodName} {cc0 : ByteArray} {nL0 : Nat} {ret0 : Option FieldType} (C : Cx t p s m args meth c y0 cc0 nL0 ret0) {index lv : Nat} (hq : Cond.methodLink y0.cls index yX4_write ∈ lw_all) (hR : LV_write + 1 ≤ lv) : CallW (rmM lv) s args y0.cls RX4 index yX4_write cX4_write 2 (some .boolean) (ws_ yX4_write cX4_write 2 (some .boolean)) (rmM LV_write) 0 0 1 :=
  cwV 1 C.2.2.2.2.1 (lw_V hq q2169 q2170 q127 q2171) rfl rfl rfl (by decide +kernel) ⟨hR, by show 8 + (2 + 11) + 100 * LV_write ≤ 100 * lv; omega⟩
abbrev LV_strike : Nat := 2
def f4_strike_38 (p1 : Int32) (u : MS) : Option (Int32 × MS) :=
  mb (f4_refuses 1 u) fun r2 u1 =>
  some (r2, u1)
theorem w4_strike_38 {p : Program} {e : Env} {s : State} {m : MethodId} {args : Array Value} {below : List Frame} {meth : Method} {c : Code} (C : Cx t p s m args meth c yX4_strike cX4_strike 3 (some .int)) (p1 : Int32) (u : MS) : VM mkI t g p l e LV_strike s m args below meth c 3 38 [(0, .ref g.1)] [] u (f4_strike_38 p1 u) := by
  unfold f4_strike_38
  refine v_aload_n C 0 rfl rfl dX4_strike_38 ?_
  refine v_iconst C 1 (by decide) dX4_strike_39 ?_
  refine v_callVM C [.int 1] [] (ct4_refuses t g l 1 u) (cw4_refuses C q2117 (by decide)) rfl rfl (Nat.le_of_ble_eq_true rfl) dX4_strike_40 (fun r2 u1 => ?_)
  exact v_iretM C dX4_strike_43
def f4_strike (p1 : Int32) (u : MS) : Option (Int32 × MS) :=
  mlet (mS u 0 0) fun u1 =>
  mb (f4_isPerson p1 u1) fun r3 u2 =>
  if r3 = 0 then
    some (0, u2)
  else
    mchk (inbM (4 + p1) 54) <|
    if (u2.2.1 54 (4 + p1).toNatClampNeg) = (-1) then
      f4_strike_38 p1 u2
    else
      mb (f4_isDead 54 p1 u2) fun r6 u5 =>
      if r6 = 0 then
        mb (f4_keeps u5) fun _ u7 =>
        mchk (inbM (13 + p1) 54) <|
        mlet (u7.2.1 54 (13 + p1).toNatClampNeg) fun v9 =>
        mchk (inbM (4 + p1) 54) <|
        mlet (mA u7 54 (4 + p1).toNatClampNeg (-1)) fun u11 =>
        mchk (inbM (13 + p1) 54) <|
        mlet (mA u11 54 (13 + p1).toNatClampNeg (-1)) fun u13 =>
        some (v9, u13)
      else
        f4_strike_38 p1 u5
theorem ct4_strike (t : TT) (g : GM) (l : Launch) (p1 : Int32) (u : MS) : CtM mkI t g l yX4_strike cX4_strike 3 (some .int) LV_strike [.ref g.1, .int p1] u (f4_strike p1 u) := by
  refine ctM_of [(0, .ref g.1), (1, .int p1)] rfl (Nat.le_of_ble_eq_true rfl) rfl (fun p e s m args below meth c C => ?_)
  unfold f4_strike
  refine v_aload_n C 0 rfl rfl dX4_strike_0 ?_
  refine v_iconst C 0 (by decide) dX4_strike_1 ?_
  refine v_putMi C 0 (by decide) (by decide) q1615 rfl rfl (by decide +kernel) dX4_strike_2 (fun u1 => ?_)
  refine v_aload_n C 0 rfl rfl dX4_strike_5 ?_
  refine v_iload_n C 1 rfl rfl dX4_strike_6 ?_
  refine v_callVM C [.int p1] [] (ct4_isPerson t g l p1 u1) (cw4_isPerson C q2084 (by decide)) rfl rfl (Nat.le_of_ble_eq_true rfl) dX4_strike_7 (fun r3 u2 => ?_)
  refine v_if_ne C 15 (by decide) dX4_strike_10 (fun _ => ?_) (fun _ => ?_)
  · refine v_iconst C 0 (by decide) dX4_strike_13 ?_
    exact v_iretM C dX4_strike_14
  · refine v_aload_n C 0 rfl rfl dX4_strike_15 ?_
    refine v_getMa C 54 (by decide) (by decide) q1669 rfl dX4_strike_16 ?_
    refine v_iconst C 4 (by decide) dX4_strike_19 ?_
    refine v_iload_n C 1 rfl rfl dX4_strike_20 ?_
    refine v_iadd C dX4_strike_21 ?_
    refine v_chk (fun h4 => ?_)
    refine v_ialdM C h4 dX4_strike_22 ?_
    refine v_iconst C (-1) (by decide) dX4_strike_23 ?_
    refine v_icmp_eq C 38 (by decide) dX4_strike_24 (fun _ => ?_) (fun _ => ?_)
    · refine v_sub [0] rfl ?_
      exact w4_strike_38 C p1 u2
    · refine v_aload_n C 0 rfl rfl dX4_strike_27 ?_
      refine v_getMa C 54 (by decide) (by decide) q1669 rfl dX4_strike_28 ?_
      refine v_iload_n C 1 rfl rfl dX4_strike_31 ?_
      refine v_callSM C [.ref (g.2 54), .int p1] [] (ct4_isDead t g l 54 p1 u2) (cw4_isDead C q2149 (by decide)) rfl rfl (Nat.le_of_ble_eq_true rfl) dX4_strike_32 (fun r6 u5 => ?_)
      refine v_if_eq C 44 (by decide) dX4_strike_35 (fun _ => ?_) (fun _ => ?_)
      · refine v_aload_n C 0 rfl rfl dX4_strike_44 ?_
        refine v_callVM C [] [] (ct4_keeps t g l u5) (cw4_keeps C q2121 (by decide)) rfl rfl (Nat.le_of_ble_eq_true rfl) dX4_strike_45 (fun _ u7 => ?_)
        refine v_aload_n C 0 rfl rfl dX4_strike_48 ?_
        refine v_getMa C 54 (by decide) (by decide) q1669 rfl dX4_strike_49 ?_
        refine v_bipush C 13 (by decide) dX4_strike_52 ?_
        refine v_iload_n C 1 rfl rfl dX4_strike_54 ?_
        refine v_iadd C dX4_strike_55 ?_
        refine v_chk (fun h8 => ?_)
        refine v_ialdM C h8 dX4_strike_56 ?_
        refine v_topi (fun v9 => ?_)
        refine v_istore_n C [(2, .int v9), (0, .ref g.1), (1, .int p1)] rfl (by decide) rfl dX4_strike_57 ?_
        refine v_aload_n C 1 rfl rfl dX4_strike_58 ?_
        refine v_getMa C 54 (by decide) (by decide) q1669 rfl dX4_strike_59 ?_
        refine v_iconst C 4 (by decide) dX4_strike_62 ?_
        refine v_iload_n C 2 rfl rfl dX4_strike_63 ?_
        refine v_iadd C dX4_strike_64 ?_
        refine v_iconst C (-1) (by decide) dX4_strike_65 ?_
        refine v_chk (fun h10 => ?_)
        refine v_iastM C h10 dX4_strike_66 (fun u11 => ?_)
        refine v_aload_n C 1 rfl rfl dX4_strike_67 ?_
        refine v_getMa C 54 (by decide) (by decide) q1669 rfl dX4_strike_68 ?_
        refine v_bipush C 13 (by decide) dX4_strike_71 ?_
        refine v_iload_n C 2 rfl rfl dX4_strike_73 ?_
        refine v_iadd C dX4_strike_74 ?_
        refine v_iconst C (-1) (by decide) dX4_strike_75 ?_
        refine v_chk (fun h12 => ?_)
        refine v_iastM C h12 dX4_strike_76 (fun u13 => ?_)
        refine v_iload_n C 0 rfl rfl dX4_strike_77 ?_
        exact v_iretM C dX4_strike_78
      · refine v_sub [0] rfl ?_
        exact w4_strike_38 C p1 u5
theorem cw4_strike {t : TT} {p : Program} {s : State} {m : MethodId} {args : Array Value} {meth : Method} {c : Code} {y0 : MethodName} {cc0 : ByteArray} {nL0 : Nat} {ret0 : Option FieldType} (C : Cx t p s m args meth c y0 cc0 nL0 ret0) {index lv : Nat} (hq : Cond.methodLink y0.cls index yX4_strike ∈ lw_all) (hR : LV_strike + 1 ≤ lv) : CallW (rmM lv) s args y0.cls RX4 index yX4_strike cX4_strike 3 (some .int) (ws_ yX4_strike cX4_strike 3 (some .int)) (rmM LV_strike) 0 0 1 :=
  cwV 1 C.2.2.2.2.1 (lw_V hq q2173 q2174 q127 q2175) rfl rfl rfl (by decide +kernel) ⟨hR, by show 8 + (3 + 11) + 100 * LV_strike ≤ 100 * lv; omega⟩
abbrev LV_open : Nat := 1
def f4_open_20 (p1 : Int32) (s0 : Int32) (u : MS) : Option (Int32 × MS) :=
  if s0 = p1 then
    mb (f4_refuses 1 u) fun r2 u1 =>
    if r2 ≤ 0 then
      rz 0 u1
    else
      rz 1 u1
  else
    mb (f4_keeps u) fun _ u1 =>
    if p1 = 0 then
      mlet (mA u1 54 (3 : Int32).toNatClampNeg 0) fun u2 =>
      rz 1 u2
    else
      mlet (mA u1 54 (3 : Int32).toNatClampNeg 1) fun u2 =>
      rz 1 u2
theorem w4_open_20 {p : Program} {e : Env} {s : State} {m : MethodId} {args : Array Value} {below : List Frame} {meth : Method} {c : Code} (C : Cx t p s m args meth c yX4_open cX4_open 2 (some .boolean)) (p1 : Int32) (s0 : Int32) (u : MS) : VM mkI t g p l e LV_open s m args below meth c 2 20 [(0, .ref g.1), (1, .int p1)] [.int s0] u (f4_open_20 p1 s0 u) := by
  unfold f4_open_20
  refine v_iload_n C 1 rfl rfl dX4_open_20 ?_
  refine v_icmp_ne C 38 (by decide) dX4_open_21 (fun _ => ?_) (fun _ => ?_)
  · refine v_aload_n C 0 rfl rfl dX4_open_24 ?_
    refine v_iconst C 1 (by decide) dX4_open_25 ?_
    refine v_callVM C [.int 1] [] (ct4_refuses t g l 1 u) (cw4_refuses C q2117 (by decide)) rfl rfl (Nat.le_of_ble_eq_true rfl) dX4_open_26 (fun r2 u1 => ?_)
    refine v_if_le C 36 (by decide) dX4_open_29 (fun _ => ?_) (fun _ => ?_)
    · refine v_iconst C 0 (by decide) dX4_open_36 ?_
      exact v_zretM C dX4_open_37
    · refine v_iconst C 1 (by decide) dX4_open_32 ?_
      refine v_goto C 37 (by decide) dX4_open_33 ?_
      exact v_zretM C dX4_open_37
  · refine v_aload_n C 0 rfl rfl dX4_open_38 ?_
    refine v_callVM C [] [] (ct4_keeps t g l u) (cw4_keeps C q2121 (by decide)) rfl rfl (Nat.le_of_ble_eq_true rfl) dX4_open_39 (fun _ u1 => ?_)
    refine v_aload_n C 0 rfl rfl dX4_open_42 ?_
    refine v_getMa C 54 (by decide) (by decide) q1669 rfl dX4_open_43 ?_
    refine v_iconst C 3 (by decide) dX4_open_46 ?_
    refine v_iload_n C 1 rfl rfl dX4_open_47 ?_
    refine v_if_eq C 55 (by decide) dX4_open_48 (fun _ => ?_) (fun _ => ?_)
    · refine v_iconst C 0 (by decide) dX4_open_55 ?_
      refine v_iastM C (by decide) dX4_open_56 (fun u2 => ?_)
      refine v_iconst C 1 (by decide) dX4_open_57 ?_
      exact v_zretM C dX4_open_58
    · refine v_iconst C 1 (by decide) dX4_open_51 ?_
      refine v_goto C 56 (by decide) dX4_open_52 ?_
      refine v_iastM C (by decide) dX4_open_56 (fun u2 => ?_)
      refine v_iconst C 1 (by decide) dX4_open_57 ?_
      exact v_zretM C dX4_open_58
def f4_open (p1 : Int32) (u : MS) : Option (Int32 × MS) :=
  mlet (mS u 0 0) fun u1 =>
  if (u1.2.1 54 (3 : Int32).toNatClampNeg) = 1 then
    f4_open_20 p1 1 u1
  else
    f4_open_20 p1 0 u1
theorem ct4_open (t : TT) (g : GM) (l : Launch) (p1 : Int32) (u : MS) : CtM mkI t g l yX4_open cX4_open 2 (some .boolean) LV_open [.ref g.1, .int p1] u (f4_open p1 u) := by
  refine ctM_of [(0, .ref g.1), (1, .int p1)] rfl (Nat.le_of_ble_eq_true rfl) rfl (fun p e s m args below meth c C => ?_)
  unfold f4_open
  refine v_aload_n C 0 rfl rfl dX4_open_0 ?_
  refine v_iconst C 0 (by decide) dX4_open_1 ?_
  refine v_putMi C 0 (by decide) (by decide) q1615 rfl rfl (by decide +kernel) dX4_open_2 (fun u1 => ?_)
  refine v_aload_n C 0 rfl rfl dX4_open_5 ?_
  refine v_getMa C 54 (by decide) (by decide) q1669 rfl dX4_open_6 ?_
  refine v_iconst C 3 (by decide) dX4_open_9 ?_
  refine v_ialdM C (by decide) dX4_open_10 ?_
  refine v_iconst C 1 (by decide) dX4_open_11 ?_
  refine v_icmp_ne C 19 (by decide) dX4_open_12 (fun _ => ?_) (fun _ => ?_)
  · refine v_iconst C 1 (by decide) dX4_open_15 ?_
    refine v_goto C 20 (by decide) dX4_open_16 ?_
    exact w4_open_20 C p1 1 u1
  · refine v_iconst C 0 (by decide) dX4_open_19 ?_
    exact w4_open_20 C p1 0 u1
theorem cw4_open {t : TT} {p : Program} {s : State} {m : MethodId} {args : Array Value} {meth : Method} {c : Code} {y0 : MethodName} {cc0 : ByteArray} {nL0 : Nat} {ret0 : Option FieldType} (C : Cx t p s m args meth c y0 cc0 nL0 ret0) {index lv : Nat} (hq : Cond.methodLink y0.cls index yX4_open ∈ lw_all) (hR : LV_open + 1 ≤ lv) : CallW (rmM lv) s args y0.cls RX4 index yX4_open cX4_open 2 (some .boolean) (ws_ yX4_open cX4_open 2 (some .boolean)) (rmM LV_open) 0 0 1 :=
  cwV 1 C.2.2.2.2.1 (lw_V hq q2177 q2178 q127 q2179) rfl rfl rfl (by decide +kernel) ⟨hR, by show 8 + (2 + 11) + 100 * LV_open ≤ 100 * lv; omega⟩
abbrev LV_begins : Nat := 1
def f4_begins_45 (k : Int32 → MS → Option (Unit × MS)) (x1 : Int32) (u : MS) : Option (Unit × MS) :=
  if 3 ≤ x1 then
    some ((), u)
  else
    mchk (inbM x1 59) <|
    mlet (mA u 59 x1.toNatClampNeg 0) fun u2 =>
    k (x1 + 1) u2
theorem w4_begins_45 {p : Program} {e : Env} {s : State} {m : MethodId} {args : Array Value} {below : List Frame} {meth : Method} {c : Code} (C : Cx t p s m args meth c yX4_begins cX4_begins 2 none) (n : Nat) (x1 : Int32) (u : MS) : VM mkU t g p l e LV_begins s m args below meth c 2 45 [(0, .ref g.1), (1, .int x1)] [] u (ml1 (f4_begins_45) n x1 u) := by
  refine vl1 (L := fun x1 => [(0, .ref g.1), (1, .int x1)]) (fun k hk x1 u => ?_) n x1 u
  unfold f4_begins_45
  refine v_iload_n C 1 rfl rfl dX4_begins_45 ?_
  refine v_iconst C 3 (by decide) dX4_begins_46 ?_
  refine v_icmp_ge C 63 (by decide) dX4_begins_47 (fun _ => ?_) (fun _ => ?_)
  · exact v_vretM C dX4_begins_63
  · refine v_aload_n C 0 rfl rfl dX4_begins_50 ?_
    refine v_getMa C 59 (by decide) (by decide) q1674 rfl dX4_begins_51 ?_
    refine v_iload_n C 1 rfl rfl dX4_begins_54 ?_
    refine v_iconst C 0 (by decide) dX4_begins_55 ?_
    refine v_chk (fun h1 => ?_)
    refine v_iastM C h1 dX4_begins_56 (fun u2 => ?_)
    refine v_iinc C 1 [(1, .int (x1 + 1)), (0, .ref g.1)] 1 rfl (by decide) (by decide) rfl dX4_begins_57 ?_
    refine v_goto C 45 (by decide) dX4_begins_60 ?_
    refine v_sub [1, 0] rfl ?_
    exact hk (x1 + 1) u2
def f4_begins_24 (k : Int32 → MS → Option (Unit × MS)) (x1 : Int32) (u : MS) : Option (Unit × MS) :=
  if 9 ≤ x1 then
    ml1 (f4_begins_45) FUEL 0 u
  else
    mchk (inbM x1 64) <|
    mlet (mA u 64 x1.toNatClampNeg (-1)) fun u2 =>
    k (x1 + 1) u2
theorem w4_begins_24 {p : Program} {e : Env} {s : State} {m : MethodId} {args : Array Value} {below : List Frame} {meth : Method} {c : Code} (C : Cx t p s m args meth c yX4_begins cX4_begins 2 none) (n : Nat) (x1 : Int32) (u : MS) : VM mkU t g p l e LV_begins s m args below meth c 2 24 [(0, .ref g.1), (1, .int x1)] [] u (ml1 (f4_begins_24) n x1 u) := by
  refine vl1 (L := fun x1 => [(0, .ref g.1), (1, .int x1)]) (fun k hk x1 u => ?_) n x1 u
  unfold f4_begins_24
  refine v_iload_n C 1 rfl rfl dX4_begins_24 ?_
  refine v_bipush C 9 (by decide) dX4_begins_25 ?_
  refine v_icmp_ge C 43 (by decide) dX4_begins_27 (fun _ => ?_) (fun _ => ?_)
  · refine v_iconst C 0 (by decide) dX4_begins_43 ?_
    refine v_istore_n C [(1, .int 0), (0, .ref g.1)] rfl (by decide) rfl dX4_begins_44 ?_
    refine v_sub [1, 0] rfl ?_
    exact w4_begins_45 C FUEL 0 u
  · refine v_aload_n C 0 rfl rfl dX4_begins_30 ?_
    refine v_getMa C 64 (by decide) (by decide) q1679 rfl dX4_begins_31 ?_
    refine v_iload_n C 1 rfl rfl dX4_begins_34 ?_
    refine v_iconst C (-1) (by decide) dX4_begins_35 ?_
    refine v_chk (fun h1 => ?_)
    refine v_iastM C h1 dX4_begins_36 (fun u2 => ?_)
    refine v_iinc C 1 [(1, .int (x1 + 1)), (0, .ref g.1)] 1 rfl (by decide) (by decide) rfl dX4_begins_37 ?_
    refine v_goto C 24 (by decide) dX4_begins_40 ?_
    refine v_sub [1, 0] rfl ?_
    exact hk (x1 + 1) u2
def f4_begins (u : MS) : Option (Unit × MS) :=
  mb (f4_copies 54 68 u) fun _ u1 =>
  mlet (mS u1 62 0) fun u2 =>
  mlet (mS u2 60 0) fun u3 =>
  ml1 (f4_begins_24) FUEL 0 u3
theorem ct4_begins (t : TT) (g : GM) (l : Launch) (u : MS) : CtM mkU t g l yX4_begins cX4_begins 2 none LV_begins [.ref g.1] u (f4_begins u) := by
  refine ctM_of [(0, .ref g.1)] rfl (Nat.le_of_ble_eq_true rfl) rfl (fun p e s m args below meth c C => ?_)
  unfold f4_begins
  refine v_aload_n C 0 rfl rfl dX4_begins_0 ?_
  refine v_aload_n C 0 rfl rfl dX4_begins_1 ?_
  refine v_getMa C 54 (by decide) (by decide) q1669 rfl dX4_begins_2 ?_
  refine v_aload_n C 0 rfl rfl dX4_begins_5 ?_
  refine v_getMa C 68 (by decide) (by decide) q1683 rfl dX4_begins_6 ?_
  refine v_callVM C [.ref (g.2 54), .ref (g.2 68)] [] (ct4_copies t g l 54 68 u) (cw4_copies C q2021 (by decide)) rfl rfl (Nat.le_of_ble_eq_true rfl) dX4_begins_9 (fun _ u1 => ?_)
  refine v_aload_n C 0 rfl rfl dX4_begins_12 ?_
  refine v_iconst C 0 (by decide) dX4_begins_13 ?_
  refine v_putMi C 62 (by decide) (by decide) q1677 rfl rfl (by decide +kernel) dX4_begins_14 (fun u2 => ?_)
  refine v_aload_n C 0 rfl rfl dX4_begins_17 ?_
  refine v_iconst C 0 (by decide) dX4_begins_18 ?_
  refine v_putMi C 60 (by decide) (by decide) q1675 rfl rfl (by decide +kernel) dX4_begins_19 (fun u3 => ?_)
  refine v_iconst C 0 (by decide) dX4_begins_22 ?_
  refine v_istore_n C [(1, .int 0), (0, .ref g.1)] rfl (by decide) rfl dX4_begins_23 ?_
  refine v_sub [1, 0] rfl ?_
  exact w4_begins_24 C FUEL 0 u3
theorem cw4_begins {t : TT} {p : Program} {s : State} {m : MethodId} {args : Array Value} {meth : Method} {c : Code} {y0 : MethodName} {cc0 : ByteArray} {nL0 : Nat} {ret0 : Option FieldType} (C : Cx t p s m args meth c y0 cc0 nL0 ret0) {index lv : Nat} (hq : Cond.methodLink y0.cls index yX4_begins ∈ lw_all) (hR : LV_begins + 1 ≤ lv) : CallW (rmM lv) s args y0.cls RX4 index yX4_begins cX4_begins 2 none (ws_ yX4_begins cX4_begins 2 none) (rmM LV_begins) 0 0 0 :=
  cwV 0 C.2.2.2.2.1 (lw_V hq q2190 qs106 q127 q2191) rfl rfl rfl (by decide +kernel) ⟨hR, by show 8 + (2 + 11) + 100 * LV_begins ≤ 100 * lv; omega⟩
abbrev LV_mornings0 : Nat := 1
def f4_mornings0 (u : MS) : Option (Int32 × MS) :=
  mb (f4_lesser 30 (60 - (u.2.1 54 (0 : Int32).toNatClampNeg)) u) fun r2 u1 =>
  some (r2, u1)
theorem ct4_mornings0 (t : TT) (g : GM) (l : Launch) (u : MS) : CtM mkI t g l yX4_mornings0 cX4_mornings0 1 (some .int) LV_mornings0 [.ref g.1] u (f4_mornings0 u) := by
  refine ctM_of [(0, .ref g.1)] rfl (Nat.le_of_ble_eq_true rfl) rfl (fun p e s m args below meth c C => ?_)
  unfold f4_mornings0
  refine v_bipush C 30 (by decide) dX4_mornings0_0 ?_
  refine v_bipush C 60 (by decide) dX4_mornings0_2 ?_
  refine v_aload_n C 0 rfl rfl dX4_mornings0_4 ?_
  refine v_getMa C 54 (by decide) (by decide) q1669 rfl dX4_mornings0_5 ?_
  refine v_iconst C 0 (by decide) dX4_mornings0_8 ?_
  refine v_ialdM C (by decide) dX4_mornings0_9 ?_
  refine v_isub C dX4_mornings0_10 ?_
  refine v_callSM C [.int 30, .int (60 - (u.2.1 54 (0 : Int32).toNatClampNeg))] [] (ct4_lesser t g l 30 (60 - (u.2.1 54 (0 : Int32).toNatClampNeg)) u) (cw4_lesser C q2092 (by decide)) rfl rfl (Nat.le_of_ble_eq_true rfl) dX4_mornings0_11 (fun r2 u1 => ?_)
  exact v_iretM C dX4_mornings0_14
theorem cw4_mornings0 {t : TT} {p : Program} {s : State} {m : MethodId} {args : Array Value} {meth : Method} {c : Code} {y0 : MethodName} {cc0 : ByteArray} {nL0 : Nat} {ret0 : Option FieldType} (C : Cx t p s m args meth c y0 cc0 nL0 ret0) {index lv : Nat} (hq : Cond.methodLink y0.cls index yX4_mornings0 ∈ lw_all) (hR : LV_mornings0 + 1 ≤ lv) : CallW (rmM lv) s args y0.cls RX4 index yX4_mornings0 cX4_mornings0 1 (some .int) (ws_ yX4_mornings0 cX4_mornings0 1 (some .int)) (rmM LV_mornings0) 0 0 0 :=
  cwV 0 C.2.2.2.2.1 (lw_V hq q2194 qs107 q127 q2195) rfl rfl rfl (by decide +kernel) ⟨hR, by show 8 + (1 + 11) + 100 * LV_mornings0 ≤ 100 * lv; omega⟩
abbrev LV_playsAll : Nat := 6
def f4_playsAll (u : MS) : Option (Unit × MS) :=
  mb (f4_begins u) fun _ u1 =>
  mb (f4_mornings0 u1) fun r3 u2 =>
  mb (f4_plays 68 0 r3 u2) fun _ u4 =>
  some ((), u4)
theorem ct4_playsAll (t : TT) (g : GM) (l : Launch) (u : MS) : CtM mkU t g l yX4_playsAll cX4_playsAll 1 none LV_playsAll [.ref g.1] u (f4_playsAll u) := by
  refine ctM_of [(0, .ref g.1)] rfl (Nat.le_of_ble_eq_true rfl) rfl (fun p e s m args below meth c C => ?_)
  unfold f4_playsAll
  refine v_aload_n C 0 rfl rfl dX4_playsAll_0 ?_
  refine v_callVM C [] [] (ct4_begins t g l u) (cw4_begins C q2188 (by decide)) rfl rfl (Nat.le_of_ble_eq_true rfl) dX4_playsAll_1 (fun _ u1 => ?_)
  refine v_aload_n C 0 rfl rfl dX4_playsAll_4 ?_
  refine v_aload_n C 0 rfl rfl dX4_playsAll_5 ?_
  refine v_getMa C 68 (by decide) (by decide) q1683 rfl dX4_playsAll_6 ?_
  refine v_iconst C 0 (by decide) dX4_playsAll_9 ?_
  refine v_aload_n C 0 rfl rfl dX4_playsAll_10 ?_
  refine v_callVM C [] [.int 0, .ref (g.2 68), .ref g.1] (ct4_mornings0 t g l u1) (cw4_mornings0 C q2192 (by decide)) rfl rfl (Nat.le_of_ble_eq_true rfl) dX4_playsAll_11 (fun r3 u2 => ?_)
  refine v_callVM C [.ref (g.2 68), .int 0, .int r3] [] (ct4_plays t g l 68 0 r3 u2) (cw4_plays C q2125 (by decide)) rfl rfl (Nat.le_of_ble_eq_true rfl) dX4_playsAll_14 (fun _ u4 => ?_)
  exact v_vretM C dX4_playsAll_17
theorem cw4_playsAll {t : TT} {p : Program} {s : State} {m : MethodId} {args : Array Value} {meth : Method} {c : Code} {y0 : MethodName} {cc0 : ByteArray} {nL0 : Nat} {ret0 : Option FieldType} (C : Cx t p s m args meth c y0 cc0 nL0 ret0) {index lv : Nat} (hq : Cond.methodLink y0.cls index yX4_playsAll ∈ lw_all) (hR : LV_playsAll + 1 ≤ lv) : CallW (rmM lv) s args y0.cls RX4 index yX4_playsAll cX4_playsAll 1 none (ws_ yX4_playsAll cX4_playsAll 1 none) (rmM LV_playsAll) 0 0 0 :=
  cwV 0 C.2.2.2.2.1 (lw_V hq q2186 qs105 q127 q2187) rfl rfl rfl (by decide +kernel) ⟨hR, by show 8 + (1 + 11) + 100 * LV_playsAll ≤ 100 * lv; omega⟩
abbrev LV_when : Nat := 7
def f4_when (p1 : Int32) (p2 : Int32) (u : MS) : Option (Int32 × MS) :=
  mlet (mS u 0 0) fun u1 =>
  mb (f4_isPerson p1 u1) fun r3 u2 =>
  if r3 = 0 then
    some (0, u2)
  else
    mb (f4_isWhat p2 1 u2) fun r5 u4 =>
    if r5 = 0 then
      some (0, u4)
    else
      mb (f4_playsAll u4) fun _ u6 =>
      if p2 = 0 then
        mchk (inbM (4 + p1) 68) <|
        some ((u6.2.1 68 (4 + p1).toNatClampNeg), u6)
      else
        mchk (inbM (13 + p1) 68) <|
        some ((u6.2.1 68 (13 + p1).toNatClampNeg), u6)
theorem ct4_when (t : TT) (g : GM) (l : Launch) (p1 : Int32) (p2 : Int32) (u : MS) : CtM mkI t g l yX4_when cX4_when 3 (some .int) LV_when [.ref g.1, .int p1, .int p2] u (f4_when p1 p2 u) := by
  refine ctM_of [(0, .ref g.1), (1, .int p1), (2, .int p2)] rfl (Nat.le_of_ble_eq_true rfl) rfl (fun p e s m args below meth c C => ?_)
  unfold f4_when
  refine v_aload_n C 0 rfl rfl dX4_when_0 ?_
  refine v_iconst C 0 (by decide) dX4_when_1 ?_
  refine v_putMi C 0 (by decide) (by decide) q1615 rfl rfl (by decide +kernel) dX4_when_2 (fun u1 => ?_)
  refine v_aload_n C 0 rfl rfl dX4_when_5 ?_
  refine v_iload_n C 1 rfl rfl dX4_when_6 ?_
  refine v_callVM C [.int p1] [] (ct4_isPerson t g l p1 u1) (cw4_isPerson C q2084 (by decide)) rfl rfl (Nat.le_of_ble_eq_true rfl) dX4_when_7 (fun r3 u2 => ?_)
  refine v_if_eq C 22 (by decide) dX4_when_10 (fun _ => ?_) (fun _ => ?_)
  · refine v_iconst C 0 (by decide) dX4_when_22 ?_
    exact v_iretM C dX4_when_23
  · refine v_aload_n C 0 rfl rfl dX4_when_13 ?_
    refine v_iload_n C 2 rfl rfl dX4_when_14 ?_
    refine v_iconst C 1 (by decide) dX4_when_15 ?_
    refine v_callVM C [.int p2, .int 1] [] (ct4_isWhat t g l p2 1 u2) (cw4_isWhat C q2064 (by decide)) rfl rfl (Nat.le_of_ble_eq_true rfl) dX4_when_16 (fun r5 u4 => ?_)
    refine v_if_ne C 24 (by decide) dX4_when_19 (fun _ => ?_) (fun _ => ?_)
    · refine v_iconst C 0 (by decide) dX4_when_22 ?_
      exact v_iretM C dX4_when_23
    · refine v_aload_n C 0 rfl rfl dX4_when_24 ?_
      refine v_callVM C [] [] (ct4_playsAll t g l u4) (cw4_playsAll C q2184 (by decide)) rfl rfl (Nat.le_of_ble_eq_true rfl) dX4_when_25 (fun _ u6 => ?_)
      refine v_iload_n C 2 rfl rfl dX4_when_28 ?_
      refine v_if_ne C 43 (by decide) dX4_when_29 (fun _ => ?_) (fun _ => ?_)
      · refine v_aload_n C 0 rfl rfl dX4_when_32 ?_
        refine v_getMa C 68 (by decide) (by decide) q1683 rfl dX4_when_33 ?_
        refine v_iconst C 4 (by decide) dX4_when_36 ?_
        refine v_iload_n C 1 rfl rfl dX4_when_37 ?_
        refine v_iadd C dX4_when_38 ?_
        refine v_chk (fun h7 => ?_)
        refine v_ialdM C h7 dX4_when_39 ?_
        refine v_goto C 52 (by decide) dX4_when_40 ?_
        exact v_iretM C dX4_when_52
      · refine v_aload_n C 0 rfl rfl dX4_when_43 ?_
        refine v_getMa C 68 (by decide) (by decide) q1683 rfl dX4_when_44 ?_
        refine v_bipush C 13 (by decide) dX4_when_47 ?_
        refine v_iload_n C 1 rfl rfl dX4_when_49 ?_
        refine v_iadd C dX4_when_50 ?_
        refine v_chk (fun h7 => ?_)
        refine v_ialdM C h7 dX4_when_51 ?_
        exact v_iretM C dX4_when_52
theorem cw4_when {t : TT} {p : Program} {s : State} {m : MethodId} {args : Array Value} {meth : Method} {c : Code} {y0 : MethodName} {cc0 : ByteArray} {nL0 : Nat} {ret0 : Option FieldType} (C : Cx t p s m args meth c y0 cc0 nL0 ret0) {index lv : Nat} (hq : Cond.methodLink y0.cls index yX4_when ∈ lw_all) (hR : LV_when + 1 ≤ lv) : CallW (rmM lv) s args y0.cls RX4 index yX4_when cX4_when 3 (some .int) (ws_ yX4_when cX4_when 3 (some .int)) (rmM LV_when) 0 0 2 :=
  cwV 2 C.2.2.2.2.1 (lw_V hq q2181 q2182 q127 q2183) rfl rfl rfl (by decide +kernel) ⟨hR, by show 8 + (3 + 11) + 100 * LV_when ≤ 100 * lv; omega⟩
abbrev LV_found : Nat := 7
def f4_found (p1 : Int32) (u : MS) : Option (Int32 × MS) :=
  mlet (mS u 0 0) fun u1 =>
  mb (f4_isPerson p1 u1) fun r3 u2 =>
  if r3 = 0 then
    some (0, u2)
  else
    mb (f4_playsAll u2) fun _ u4 =>
    mchk (inbM p1 64) <|
    some ((u4.2.1 64 p1.toNatClampNeg), u4)
theorem ct4_found (t : TT) (g : GM) (l : Launch) (p1 : Int32) (u : MS) : CtM mkI t g l yX4_found cX4_found 2 (some .int) LV_found [.ref g.1, .int p1] u (f4_found p1 u) := by
  refine ctM_of [(0, .ref g.1), (1, .int p1)] rfl (Nat.le_of_ble_eq_true rfl) rfl (fun p e s m args below meth c C => ?_)
  unfold f4_found
  refine v_aload_n C 0 rfl rfl dX4_found_0 ?_
  refine v_iconst C 0 (by decide) dX4_found_1 ?_
  refine v_putMi C 0 (by decide) (by decide) q1615 rfl rfl (by decide +kernel) dX4_found_2 (fun u1 => ?_)
  refine v_aload_n C 0 rfl rfl dX4_found_5 ?_
  refine v_iload_n C 1 rfl rfl dX4_found_6 ?_
  refine v_callVM C [.int p1] [] (ct4_isPerson t g l p1 u1) (cw4_isPerson C q2084 (by decide)) rfl rfl (Nat.le_of_ble_eq_true rfl) dX4_found_7 (fun r3 u2 => ?_)
  refine v_if_ne C 15 (by decide) dX4_found_10 (fun _ => ?_) (fun _ => ?_)
  · refine v_iconst C 0 (by decide) dX4_found_13 ?_
    exact v_iretM C dX4_found_14
  · refine v_aload_n C 0 rfl rfl dX4_found_15 ?_
    refine v_callVM C [] [] (ct4_playsAll t g l u2) (cw4_playsAll C q2184 (by decide)) rfl rfl (Nat.le_of_ble_eq_true rfl) dX4_found_16 (fun _ u4 => ?_)
    refine v_aload_n C 0 rfl rfl dX4_found_19 ?_
    refine v_getMa C 64 (by decide) (by decide) q1679 rfl dX4_found_20 ?_
    refine v_iload_n C 1 rfl rfl dX4_found_23 ?_
    refine v_chk (fun h5 => ?_)
    refine v_ialdM C h5 dX4_found_24 ?_
    exact v_iretM C dX4_found_25
theorem cw4_found {t : TT} {p : Program} {s : State} {m : MethodId} {args : Array Value} {meth : Method} {c : Code} {y0 : MethodName} {cc0 : ByteArray} {nL0 : Nat} {ret0 : Option FieldType} (C : Cx t p s m args meth c y0 cc0 nL0 ret0) {index lv : Nat} (hq : Cond.methodLink y0.cls index yX4_found ∈ lw_all) (hR : LV_found + 1 ≤ lv) : CallW (rmM lv) s args y0.cls RX4 index yX4_found cX4_found 2 (some .int) (ws_ yX4_found cX4_found 2 (some .int)) (rmM LV_found) 0 0 1 :=
  cwV 1 C.2.2.2.2.1 (lw_V hq q2197 q2198 q127 q2199) rfl rfl rfl (by decide +kernel) ⟨hR, by show 8 + (2 + 11) + 100 * LV_found ≤ 100 * lv; omega⟩
abbrev LV_next : Nat := 7
def f4_next_15 (p1 : Int32) (s1 : Int32) (u : MS) : Option (Int32 × MS) :=
  mb (f4_right s1 1 u) fun r2 u1 =>
  if r2 = 0 then
    some (0, u1)
  else
    mb (f4_playsAll u1) fun _ u3 =>
    if (u3.1 62) ≤ p1 then
      some (-1, u3)
    else
      mchk (inbM p1 63) <|
      some ((u3.2.1 63 p1.toNatClampNeg), u3)
theorem w4_next_15 {p : Program} {e : Env} {s : State} {m : MethodId} {args : Array Value} {below : List Frame} {meth : Method} {c : Code} (C : Cx t p s m args meth c yX4_next cX4_next 2 (some .int)) (p1 : Int32) (s1 : Int32) (u : MS) : VM mkI t g p l e LV_next s m args below meth c 2 15 [(0, .ref g.1), (1, .int p1)] [.int s1, .ref g.1] u (f4_next_15 p1 s1 u) := by
  unfold f4_next_15
  refine v_iconst C 1 (by decide) dX4_next_15 ?_
  refine v_callVM C [.int s1, .int 1] [] (ct4_right t g l s1 1 u) (cw4_right C q1894 (by decide)) rfl rfl (Nat.le_of_ble_eq_true rfl) dX4_next_16 (fun r2 u1 => ?_)
  refine v_if_ne C 24 (by decide) dX4_next_19 (fun _ => ?_) (fun _ => ?_)
  · refine v_iconst C 0 (by decide) dX4_next_22 ?_
    exact v_iretM C dX4_next_23
  · refine v_aload_n C 0 rfl rfl dX4_next_24 ?_
    refine v_callVM C [] [] (ct4_playsAll t g l u1) (cw4_playsAll C q2184 (by decide)) rfl rfl (Nat.le_of_ble_eq_true rfl) dX4_next_25 (fun _ u3 => ?_)
    refine v_iload_n C 1 rfl rfl dX4_next_28 ?_
    refine v_aload_n C 0 rfl rfl dX4_next_29 ?_
    refine v_getMi C 62 (by decide) (by decide) q1677 rfl dX4_next_30 ?_
    refine v_icmp_ge C 45 (by decide) dX4_next_33 (fun _ => ?_) (fun _ => ?_)
    · refine v_iconst C (-1) (by decide) dX4_next_45 ?_
      exact v_iretM C dX4_next_46
    · refine v_aload_n C 0 rfl rfl dX4_next_36 ?_
      refine v_getMa C 63 (by decide) (by decide) q1678 rfl dX4_next_37 ?_
      refine v_iload_n C 1 rfl rfl dX4_next_40 ?_
      refine v_chk (fun h4 => ?_)
      refine v_ialdM C h4 dX4_next_41 ?_
      refine v_goto C 46 (by decide) dX4_next_42 ?_
      exact v_iretM C dX4_next_46
def f4_next (p1 : Int32) (u : MS) : Option (Int32 × MS) :=
  mlet (mS u 0 0) fun u1 =>
  if p1 < 0 then
    f4_next_15 p1 0 u1
  else
    f4_next_15 p1 1 u1
theorem ct4_next (t : TT) (g : GM) (l : Launch) (p1 : Int32) (u : MS) : CtM mkI t g l yX4_next cX4_next 2 (some .int) LV_next [.ref g.1, .int p1] u (f4_next p1 u) := by
  refine ctM_of [(0, .ref g.1), (1, .int p1)] rfl (Nat.le_of_ble_eq_true rfl) rfl (fun p e s m args below meth c C => ?_)
  unfold f4_next
  refine v_aload_n C 0 rfl rfl dX4_next_0 ?_
  refine v_iconst C 0 (by decide) dX4_next_1 ?_
  refine v_putMi C 0 (by decide) (by decide) q1615 rfl rfl (by decide +kernel) dX4_next_2 (fun u1 => ?_)
  refine v_aload_n C 0 rfl rfl dX4_next_5 ?_
  refine v_iload_n C 1 rfl rfl dX4_next_6 ?_
  refine v_if_lt C 14 (by decide) dX4_next_7 (fun _ => ?_) (fun _ => ?_)
  · refine v_iconst C 0 (by decide) dX4_next_14 ?_
    exact w4_next_15 C p1 0 u1
  · refine v_iconst C 1 (by decide) dX4_next_10 ?_
    refine v_goto C 15 (by decide) dX4_next_11 ?_
    exact w4_next_15 C p1 1 u1
theorem cw4_next {t : TT} {p : Program} {s : State} {m : MethodId} {args : Array Value} {meth : Method} {c : Code} {y0 : MethodName} {cc0 : ByteArray} {nL0 : Nat} {ret0 : Option FieldType} (C : Cx t p s m args meth c y0 cc0 nL0 ret0) {index lv : Nat} (hq : Cond.methodLink y0.cls index yX4_next ∈ lw_all) (hR : LV_next + 1 ≤ lv) : CallW (rmM lv) s args y0.cls RX4 index yX4_next cX4_next 2 (some .int) (ws_ yX4_next cX4_next 2 (some .int)) (rmM LV_next) 0 0 1 :=
  cwV 1 C.2.2.2.2.1 (lw_V hq q2201 q2202 q127 q2203) rfl rfl rfl (by decide +kernel) ⟨hR, by show 8 + (2 + 11) + 100 * LV_next ≤ 100 * lv; omega⟩
abbrev LV_owes : Nat := 6
def f4_owes (p1 : Int32) (p2 : Int32) (u : MS) : Option (Int32 × MS) :=
  mlet (mS u 0 0) fun u1 =>
  mb (f4_isMaster p1 u1) fun r3 u2 =>
  if r3 = 0 then
    some (0, u2)
  else
    mb (f4_within p2 0 30 u2) fun r5 u4 =>
    mb (f4_right r5 2 u4) fun r7 u6 =>
    if r7 = 0 then
      some (0, u6)
    else
      mb (f4_begins u6) fun _ u8 =>
      mb (f4_mornings0 u8) fun r10 u9 =>
      mb (f4_lesser p2 r10 u9) fun r12 u11 =>
      mb (f4_plays 68 0 r12 u11) fun _ u13 =>
      mchk (inbM (31 + p1) 68) <|
      some ((u13.2.1 68 (31 + p1).toNatClampNeg), u13)
theorem ct4_owes (t : TT) (g : GM) (l : Launch) (p1 : Int32) (p2 : Int32) (u : MS) : CtM mkI t g l yX4_owes cX4_owes 3 (some .int) LV_owes [.ref g.1, .int p1, .int p2] u (f4_owes p1 p2 u) := by
  refine ctM_of [(0, .ref g.1), (1, .int p1), (2, .int p2)] rfl (Nat.le_of_ble_eq_true rfl) rfl (fun p e s m args below meth c C => ?_)
  unfold f4_owes
  refine v_aload_n C 0 rfl rfl dX4_owes_0 ?_
  refine v_iconst C 0 (by decide) dX4_owes_1 ?_
  refine v_putMi C 0 (by decide) (by decide) q1615 rfl rfl (by decide +kernel) dX4_owes_2 (fun u1 => ?_)
  refine v_aload_n C 0 rfl rfl dX4_owes_5 ?_
  refine v_iload_n C 1 rfl rfl dX4_owes_6 ?_
  refine v_callVM C [.int p1] [] (ct4_isMaster t g l p1 u1) (cw4_isMaster C q2060 (by decide)) rfl rfl (Nat.le_of_ble_eq_true rfl) dX4_owes_7 (fun r3 u2 => ?_)
  refine v_if_eq C 28 (by decide) dX4_owes_10 (fun _ => ?_) (fun _ => ?_)
  · refine v_iconst C 0 (by decide) dX4_owes_28 ?_
    exact v_iretM C dX4_owes_29
  · refine v_aload_n C 0 rfl rfl dX4_owes_13 ?_
    refine v_iload_n C 2 rfl rfl dX4_owes_14 ?_
    refine v_iconst C 0 (by decide) dX4_owes_15 ?_
    refine v_bipush C 30 (by decide) dX4_owes_16 ?_
    refine v_callSM C [.int p2, .int 0, .int 30] [.ref g.1] (ct4_within t g l p2 0 30 u2) (cw4_within C q2037 (by decide)) rfl rfl (Nat.le_of_ble_eq_true rfl) dX4_owes_18 (fun r5 u4 => ?_)
    refine v_iconst C 2 (by decide) dX4_owes_21 ?_
    refine v_callVM C [.int r5, .int 2] [] (ct4_right t g l r5 2 u4) (cw4_right C q1894 (by decide)) rfl rfl (Nat.le_of_ble_eq_true rfl) dX4_owes_22 (fun r7 u6 => ?_)
    refine v_if_ne C 30 (by decide) dX4_owes_25 (fun _ => ?_) (fun _ => ?_)
    · refine v_iconst C 0 (by decide) dX4_owes_28 ?_
      exact v_iretM C dX4_owes_29
    · refine v_aload_n C 0 rfl rfl dX4_owes_30 ?_
      refine v_callVM C [] [] (ct4_begins t g l u6) (cw4_begins C q2188 (by decide)) rfl rfl (Nat.le_of_ble_eq_true rfl) dX4_owes_31 (fun _ u8 => ?_)
      refine v_aload_n C 0 rfl rfl dX4_owes_34 ?_
      refine v_aload_n C 0 rfl rfl dX4_owes_35 ?_
      refine v_getMa C 68 (by decide) (by decide) q1683 rfl dX4_owes_36 ?_
      refine v_iconst C 0 (by decide) dX4_owes_39 ?_
      refine v_iload_n C 2 rfl rfl dX4_owes_40 ?_
      refine v_aload_n C 0 rfl rfl dX4_owes_41 ?_
      refine v_callVM C [] [.int p2, .int 0, .ref (g.2 68), .ref g.1] (ct4_mornings0 t g l u8) (cw4_mornings0 C q2192 (by decide)) rfl rfl (Nat.le_of_ble_eq_true rfl) dX4_owes_42 (fun r10 u9 => ?_)
      refine v_callSM C [.int p2, .int r10] [.int 0, .ref (g.2 68), .ref g.1] (ct4_lesser t g l p2 r10 u9) (cw4_lesser C q2092 (by decide)) rfl rfl (Nat.le_of_ble_eq_true rfl) dX4_owes_45 (fun r12 u11 => ?_)
      refine v_callVM C [.ref (g.2 68), .int 0, .int r12] [] (ct4_plays t g l 68 0 r12 u11) (cw4_plays C q2125 (by decide)) rfl rfl (Nat.le_of_ble_eq_true rfl) dX4_owes_48 (fun _ u13 => ?_)
      refine v_aload_n C 0 rfl rfl dX4_owes_51 ?_
      refine v_getMa C 68 (by decide) (by decide) q1683 rfl dX4_owes_52 ?_
      refine v_bipush C 31 (by decide) dX4_owes_55 ?_
      refine v_iload_n C 1 rfl rfl dX4_owes_57 ?_
      refine v_iadd C dX4_owes_58 ?_
      refine v_chk (fun h14 => ?_)
      refine v_ialdM C h14 dX4_owes_59 ?_
      exact v_iretM C dX4_owes_60
theorem cw4_owes {t : TT} {p : Program} {s : State} {m : MethodId} {args : Array Value} {meth : Method} {c : Code} {y0 : MethodName} {cc0 : ByteArray} {nL0 : Nat} {ret0 : Option FieldType} (C : Cx t p s m args meth c y0 cc0 nL0 ret0) {index lv : Nat} (hq : Cond.methodLink y0.cls index yX4_owes ∈ lw_all) (hR : LV_owes + 1 ≤ lv) : CallW (rmM lv) s args y0.cls RX4 index yX4_owes cX4_owes 3 (some .int) (ws_ yX4_owes cX4_owes 3 (some .int)) (rmM LV_owes) 0 0 2 :=
  cwV 2 C.2.2.2.2.1 (lw_V hq q2205 q2206 q127 q2207) rfl rfl rfl (by decide +kernel) ⟨hR, by show 8 + (3 + 11) + 100 * LV_owes ≤ 100 * lv; omega⟩
abbrev LV_orThrown : Nat := 0
def f4_orThrown (u : MS) : Option (Int32 × MS) :=
  if (u.1 0) = 0 then
    some (-1, u)
  else
    some (0, u)
theorem ct4_orThrown (t : TT) (g : GM) (l : Launch) (u : MS) : CtM mkI t g l yX4_orThrown cX4_orThrown 1 (some .int) LV_orThrown [.ref g.1] u (f4_orThrown u) := by
  refine ctM_of [(0, .ref g.1)] rfl (Nat.le_of_ble_eq_true rfl) rfl (fun p e s m args below meth c C => ?_)
  unfold f4_orThrown
  refine v_aload_n C 0 rfl rfl dX4_orThrown_0 ?_
  refine v_getMi C 0 (by decide) (by decide) q1615 rfl dX4_orThrown_1 ?_
  refine v_if_ne C 11 (by decide) dX4_orThrown_4 (fun _ => ?_) (fun _ => ?_)
  · refine v_iconst C (-1) (by decide) dX4_orThrown_7 ?_
    refine v_goto C 12 (by decide) dX4_orThrown_8 ?_
    exact v_iretM C dX4_orThrown_12
  · refine v_iconst C 0 (by decide) dX4_orThrown_11 ?_
    exact v_iretM C dX4_orThrown_12
theorem cw4_orThrown {t : TT} {p : Program} {s : State} {m : MethodId} {args : Array Value} {meth : Method} {c : Code} {y0 : MethodName} {cc0 : ByteArray} {nL0 : Nat} {ret0 : Option FieldType} (C : Cx t p s m args meth c y0 cc0 nL0 ret0) {index lv : Nat} (hq : Cond.methodLink y0.cls index yX4_orThrown ∈ lw_all) (hR : LV_orThrown + 1 ≤ lv) : CallW (rmM lv) s args y0.cls RX4 index yX4_orThrown cX4_orThrown 1 (some .int) (ws_ yX4_orThrown cX4_orThrown 1 (some .int)) (rmM LV_orThrown) 0 0 0 :=
  cwV 0 C.2.2.2.2.1 (lw_V hq q2214 qs108 q127 q2215) rfl rfl rfl (by decide +kernel) ⟨hR, by show 8 + (1 + 11) + 100 * LV_orThrown ≤ 100 * lv; omega⟩
abbrev LV_instead : Nat := 7
def f4_instead_67 (p1 : Int32) (k : Int32 → Int32 → MS → Option (Int32 × MS)) (x2 : Int32) (x3 : Int32) (u : MS) : Option (Int32 × MS) :=
  if (u.1 62) ≤ x3 then
    some (-1, u)
  else
    if x2 ≤ x3 then
      mchk (inbM x3 63) <|
      some ((u.2.1 63 x3.toNatClampNeg), u)
    else
      mchk (inbM x3 63) <|
      mchk (inbM x3 70) <|
      if (u.2.1 63 x3.toNatClampNeg) = (u.2.1 70 x3.toNatClampNeg) then
        k x2 (x3 + 1) u
      else
        mchk (inbM x3 63) <|
        some ((u.2.1 63 x3.toNatClampNeg), u)
theorem w4_instead_67 {p : Program} {e : Env} {s : State} {m : MethodId} {args : Array Value} {below : List Frame} {meth : Method} {c : Code} (C : Cx t p s m args meth c yX4_instead cX4_instead 4 (some .int)) (p1 : Int32) (n : Nat) (x2 : Int32) (x3 : Int32) (u : MS) : VM mkI t g p l e LV_instead s m args below meth c 4 67 [(0, .ref g.1), (2, .int x2), (3, .int x3)] [] u (ml2 (f4_instead_67 p1) n x2 x3 u) := by
  refine vl2 (L := fun x2 x3 => [(0, .ref g.1), (2, .int x2), (3, .int x3)]) (fun k hk x2 x3 u => ?_) n x2 x3 u
  unfold f4_instead_67
  refine v_iload_n C 2 rfl rfl dX4_instead_67 ?_
  refine v_aload_n C 0 rfl rfl dX4_instead_68 ?_
  refine v_getMi C 62 (by decide) (by decide) q1677 rfl dX4_instead_69 ?_
  refine v_icmp_ge C 108 (by decide) dX4_instead_72 (fun _ => ?_) (fun _ => ?_)
  · refine v_iconst C (-1) (by decide) dX4_instead_108 ?_
    exact v_iretM C dX4_instead_109
  · refine v_iload_n C 2 rfl rfl dX4_instead_75 ?_
    refine v_iload_n C 1 rfl rfl dX4_instead_76 ?_
    refine v_icmp_ge C 95 (by decide) dX4_instead_77 (fun _ => ?_) (fun _ => ?_)
    · refine v_aload_n C 0 rfl rfl dX4_instead_95 ?_
      refine v_getMa C 63 (by decide) (by decide) q1678 rfl dX4_instead_96 ?_
      refine v_iload_n C 2 rfl rfl dX4_instead_99 ?_
      refine v_chk (fun h1 => ?_)
      refine v_ialdM C h1 dX4_instead_100 ?_
      exact v_iretM C dX4_instead_101
    · refine v_aload_n C 0 rfl rfl dX4_instead_80 ?_
      refine v_getMa C 63 (by decide) (by decide) q1678 rfl dX4_instead_81 ?_
      refine v_iload_n C 2 rfl rfl dX4_instead_84 ?_
      refine v_chk (fun h1 => ?_)
      refine v_ialdM C h1 dX4_instead_85 ?_
      refine v_aload_n C 0 rfl rfl dX4_instead_86 ?_
      refine v_getMa C 70 (by decide) (by decide) q1685 rfl dX4_instead_87 ?_
      refine v_iload_n C 2 rfl rfl dX4_instead_90 ?_
      refine v_chk (fun h2 => ?_)
      refine v_ialdM C h2 dX4_instead_91 ?_
      refine v_icmp_eq C 102 (by decide) dX4_instead_92 (fun _ => ?_) (fun _ => ?_)
      · refine v_iinc C 1 [(3, .int (x3 + 1)), (0, .ref g.1), (2, .int x2)] 2 rfl (by decide) (by decide) rfl dX4_instead_102 ?_
        refine v_goto C 67 (by decide) dX4_instead_105 ?_
        refine v_sub [1, 2, 0] rfl ?_
        exact hk x2 (x3 + 1) u
      · refine v_aload_n C 0 rfl rfl dX4_instead_95 ?_
        refine v_getMa C 63 (by decide) (by decide) q1678 rfl dX4_instead_96 ?_
        refine v_iload_n C 2 rfl rfl dX4_instead_99 ?_
        refine v_chk (fun h3 => ?_)
        refine v_ialdM C h3 dX4_instead_100 ?_
        exact v_iretM C dX4_instead_101
def f4_instead_25 (p1 : Int32) (u : MS) : Option (Int32 × MS) :=
  mb (f4_orThrown u) fun r2 u1 =>
  some (r2, u1)
theorem w4_instead_25 {p : Program} {e : Env} {s : State} {m : MethodId} {args : Array Value} {below : List Frame} {meth : Method} {c : Code} (C : Cx t p s m args meth c yX4_instead cX4_instead 4 (some .int)) (p1 : Int32) (u : MS) : VM mkI t g p l e LV_instead s m args below meth c 4 25 [(0, .ref g.1)] [] u (f4_instead_25 p1 u) := by
  unfold f4_instead_25
  refine v_aload_n C 0 rfl rfl dX4_instead_25 ?_
  refine v_callVM C [] [] (ct4_orThrown t g l u) (cw4_orThrown C q2212 (by decide)) rfl rfl (Nat.le_of_ble_eq_true rfl) dX4_instead_26 (fun r2 u1 => ?_)
  exact v_iretM C dX4_instead_29
def f4_instead (p1 : Int32) (u : MS) : Option (Int32 × MS) :=
  mlet (mS u 0 0) fun u1 =>
  mb (f4_isPerson p1 u1) fun r3 u2 =>
  if r3 = 0 then
    f4_instead_25 p1 u2
  else
    mchk (inbM (4 + p1) 54) <|
    if (u2.2.1 54 (4 + p1).toNatClampNeg) = (-1) then
      mb (f4_playsAll u2) fun _ u5 =>
      mb (f4_copies 63 70 u5) fun _ u6 =>
      mlet (u6.1 62) fun v7 =>
      mlet (mS u6 61 p1) fun u8 =>
      mb (f4_playsAll u8) fun _ u9 =>
      mlet (mS u9 61 (-1)) fun u10 =>
      ml2 (f4_instead_67 p1) FUEL v7 0 u10
    else
      f4_instead_25 p1 u2
theorem ct4_instead (t : TT) (g : GM) (l : Launch) (p1 : Int32) (u : MS) : CtM mkI t g l yX4_instead cX4_instead 4 (some .int) LV_instead [.ref g.1, .int p1] u (f4_instead p1 u) := by
  refine ctM_of [(0, .ref g.1), (1, .int p1)] rfl (Nat.le_of_ble_eq_true rfl) rfl (fun p e s m args below meth c C => ?_)
  unfold f4_instead
  refine v_aload_n C 0 rfl rfl dX4_instead_0 ?_
  refine v_iconst C 0 (by decide) dX4_instead_1 ?_
  refine v_putMi C 0 (by decide) (by decide) q1615 rfl rfl (by decide +kernel) dX4_instead_2 (fun u1 => ?_)
  refine v_aload_n C 0 rfl rfl dX4_instead_5 ?_
  refine v_iload_n C 1 rfl rfl dX4_instead_6 ?_
  refine v_callVM C [.int p1] [] (ct4_isPerson t g l p1 u1) (cw4_isPerson C q2084 (by decide)) rfl rfl (Nat.le_of_ble_eq_true rfl) dX4_instead_7 (fun r3 u2 => ?_)
  refine v_if_eq C 25 (by decide) dX4_instead_10 (fun _ => ?_) (fun _ => ?_)
  · refine v_sub [0] rfl ?_
    exact w4_instead_25 C p1 u2
  · refine v_aload_n C 0 rfl rfl dX4_instead_13 ?_
    refine v_getMa C 54 (by decide) (by decide) q1669 rfl dX4_instead_14 ?_
    refine v_iconst C 4 (by decide) dX4_instead_17 ?_
    refine v_iload_n C 1 rfl rfl dX4_instead_18 ?_
    refine v_iadd C dX4_instead_19 ?_
    refine v_chk (fun h4 => ?_)
    refine v_ialdM C h4 dX4_instead_20 ?_
    refine v_iconst C (-1) (by decide) dX4_instead_21 ?_
    refine v_icmp_eq C 30 (by decide) dX4_instead_22 (fun _ => ?_) (fun _ => ?_)
    · refine v_aload_n C 0 rfl rfl dX4_instead_30 ?_
      refine v_callVM C [] [] (ct4_playsAll t g l u2) (cw4_playsAll C q2184 (by decide)) rfl rfl (Nat.le_of_ble_eq_true rfl) dX4_instead_31 (fun _ u5 => ?_)
      refine v_aload_n C 0 rfl rfl dX4_instead_34 ?_
      refine v_aload_n C 0 rfl rfl dX4_instead_35 ?_
      refine v_getMa C 63 (by decide) (by decide) q1678 rfl dX4_instead_36 ?_
      refine v_aload_n C 0 rfl rfl dX4_instead_39 ?_
      refine v_getMa C 70 (by decide) (by decide) q1685 rfl dX4_instead_40 ?_
      refine v_callVM C [.ref (g.2 63), .ref (g.2 70)] [] (ct4_copies t g l 63 70 u5) (cw4_copies C q2021 (by decide)) rfl rfl (Nat.le_of_ble_eq_true rfl) dX4_instead_43 (fun _ u6 => ?_)
      refine v_aload_n C 0 rfl rfl dX4_instead_46 ?_
      refine v_getMi C 62 (by decide) (by decide) q1677 rfl dX4_instead_47 ?_
      refine v_topi (fun v7 => ?_)
      refine v_istore_n C [(2, .int v7), (0, .ref g.1), (1, .int p1)] rfl (by decide) rfl dX4_instead_50 ?_
      refine v_aload_n C 1 rfl rfl dX4_instead_51 ?_
      refine v_iload_n C 2 rfl rfl dX4_instead_52 ?_
      refine v_putMi C 61 (by decide) (by decide) q1676 rfl rfl (by decide +kernel) dX4_instead_53 (fun u8 => ?_)
      refine v_aload_n C 1 rfl rfl dX4_instead_56 ?_
      refine v_callVM C [] [] (ct4_playsAll t g l u8) (cw4_playsAll C q2184 (by decide)) rfl rfl (Nat.le_of_ble_eq_true rfl) dX4_instead_57 (fun _ u9 => ?_)
      refine v_aload_n C 1 rfl rfl dX4_instead_60 ?_
      refine v_iconst C (-1) (by decide) dX4_instead_61 ?_
      refine v_putMi C 61 (by decide) (by decide) q1676 rfl rfl (by decide +kernel) dX4_instead_62 (fun u10 => ?_)
      refine v_iconst C 0 (by decide) dX4_instead_65 ?_
      refine v_istore_n C [(3, .int 0), (2, .int v7), (0, .ref g.1), (1, .int p1)] rfl (by decide) rfl dX4_instead_66 ?_
      refine v_sub [2, 1, 0] rfl ?_
      exact w4_instead_67 C p1 FUEL v7 0 u10
    · refine v_sub [0] rfl ?_
      exact w4_instead_25 C p1 u2
theorem cw4_instead {t : TT} {p : Program} {s : State} {m : MethodId} {args : Array Value} {meth : Method} {c : Code} {y0 : MethodName} {cc0 : ByteArray} {nL0 : Nat} {ret0 : Option FieldType} (C : Cx t p s m args meth c y0 cc0 nL0 ret0) {index lv : Nat} (hq : Cond.methodLink y0.cls index yX4_instead ∈ lw_all) (hR : LV_instead + 1 ≤ lv) : CallW (rmM lv) s args y0.cls RX4 index yX4_instead cX4_instead 4 (some .int) (ws_ yX4_instead cX4_instead 4 (some .int)) (rmM LV_instead) 0 0 1 :=
  cwV 1 C.2.2.2.2.1 (lw_V hq q2209 q2210 q127 q2211) rfl rfl rfl (by decide +kernel) ⟨hR, by show 8 + (4 + 11) + 100 * LV_instead ≤ 100 * lv; omega⟩
abbrev LV_worst : Nat := 7
def f4_worst_27 (p1 : Int32) (k : Int32 → Int32 → Int32 → MS → Option (Int32 × MS)) (x2 : Int32) (x3 : Int32) (x4 : Int32) (u : MS) : Option (Int32 × MS) :=
  mb (f4_mornings0 u) fun r2 u1 =>
  if r2 ≤ x4 then
    if p1 = 0 then
      some (x2, u1)
    else
      some (x3, u1)
  else
    mchk (inbM x4 66) <|
    if x3 < (u1.2.1 66 x4.toNatClampNeg) then
      mlet ((u1.2.1 54 (0 : Int32).toNatClampNeg) + x4) fun v4 =>
      mchk (inbM x4 66) <|
      mlet (u1.2.1 66 x4.toNatClampNeg) fun v6 =>
      k v4 v6 (x4 + 1) u1
    else
      k x2 x3 (x4 + 1) u1
theorem w4_worst_27 {p : Program} {e : Env} {s : State} {m : MethodId} {args : Array Value} {below : List Frame} {meth : Method} {c : Code} (C : Cx t p s m args meth c yX4_worst cX4_worst 5 (some .int)) (p1 : Int32) (n : Nat) (x2 : Int32) (x3 : Int32) (x4 : Int32) (u : MS) : VM mkI t g p l e LV_worst s m args below meth c 5 27 [(0, .ref g.1), (1, .int p1), (2, .int x2), (3, .int x3), (4, .int x4)] [] u (ml3 (f4_worst_27 p1) n x2 x3 x4 u) := by
  refine vl3 (L := fun x2 x3 x4 => [(0, .ref g.1), (1, .int p1), (2, .int x2), (3, .int x3), (4, .int x4)]) (fun k hk x2 x3 x4 u => ?_) n x2 x3 x4 u
  unfold f4_worst_27
  refine v_iload C 4 rfl dX4_worst_27 ?_
  refine v_aload_n C 0 rfl rfl dX4_worst_29 ?_
  refine v_callVM C [] [.int x4] (ct4_mornings0 t g l u) (cw4_mornings0 C q2192 (by decide)) rfl rfl (Nat.le_of_ble_eq_true rfl) dX4_worst_30 (fun r2 u1 => ?_)
  refine v_icmp_ge C 74 (by decide) dX4_worst_33 (fun _ => ?_) (fun _ => ?_)
  · refine v_iload_n C 1 rfl rfl dX4_worst_74 ?_
    refine v_if_ne C 82 (by decide) dX4_worst_75 (fun _ => ?_) (fun _ => ?_)
    · refine v_iload_n C 2 rfl rfl dX4_worst_78 ?_
      refine v_goto C 83 (by decide) dX4_worst_79 ?_
      exact v_iretM C dX4_worst_83
    · refine v_iload_n C 3 rfl rfl dX4_worst_82 ?_
      exact v_iretM C dX4_worst_83
  · refine v_aload_n C 0 rfl rfl dX4_worst_36 ?_
    refine v_getMa C 66 (by decide) (by decide) q1681 rfl dX4_worst_37 ?_
    refine v_iload C 4 rfl dX4_worst_40 ?_
    refine v_chk (fun h3 => ?_)
    refine v_ialdM C h3 dX4_worst_42 ?_
    refine v_iload_n C 3 rfl rfl dX4_worst_43 ?_
    refine v_icmp_gt C 50 (by decide) dX4_worst_44 (fun _ => ?_) (fun _ => ?_)
    · refine v_aload_n C 0 rfl rfl dX4_worst_50 ?_
      refine v_getMa C 54 (by decide) (by decide) q1669 rfl dX4_worst_51 ?_
      refine v_iconst C 0 (by decide) dX4_worst_54 ?_
      refine v_ialdM C (by decide) dX4_worst_55 ?_
      refine v_iload C 4 rfl dX4_worst_56 ?_
      refine v_iadd C dX4_worst_58 ?_
      refine v_topi (fun v4 => ?_)
      refine v_istore_n C [(2, .int v4), (0, .ref g.1), (1, .int p1), (3, .int x3), (4, .int x4)] rfl (by decide) rfl dX4_worst_59 ?_
      refine v_aload_n C 1 rfl rfl dX4_worst_60 ?_
      refine v_getMa C 66 (by decide) (by decide) q1681 rfl dX4_worst_61 ?_
      refine v_iload C 4 rfl dX4_worst_64 ?_
      refine v_chk (fun h5 => ?_)
      refine v_ialdM C h5 dX4_worst_66 ?_
      refine v_topi (fun v6 => ?_)
      refine v_istore_n C [(3, .int v6), (2, .int v4), (0, .ref g.1), (1, .int p1), (4, .int x4)] rfl (by decide) rfl dX4_worst_67 ?_
      refine v_iinc C 1 [(4, .int (x4 + 1)), (3, .int v6), (2, .int v4), (0, .ref g.1), (1, .int p1)] 4 rfl (by decide) (by decide) rfl dX4_worst_68 ?_
      refine v_goto C 27 (by decide) dX4_worst_71 ?_
      refine v_sub [3, 4, 2, 1, 0] rfl ?_
      exact hk v4 v6 (x4 + 1) u1
    · refine v_goto C 68 (by decide) dX4_worst_47 ?_
      refine v_iinc C 1 [(4, .int (x4 + 1)), (0, .ref g.1), (1, .int p1), (2, .int x2), (3, .int x3)] 4 rfl (by decide) (by decide) rfl dX4_worst_68 ?_
      refine v_goto C 27 (by decide) dX4_worst_71 ?_
      refine v_sub [1, 2, 3, 4, 0] rfl ?_
      exact hk x2 x3 (x4 + 1) u1
def f4_worst (p1 : Int32) (u : MS) : Option (Int32 × MS) :=
  mlet (mS u 0 0) fun u1 =>
  mb (f4_isWhat p1 1 u1) fun r3 u2 =>
  if r3 = 0 then
    some (0, u2)
  else
    mb (f4_playsAll u2) fun _ u4 =>
    ml3 (f4_worst_27 p1) FUEL (-1) 0 0 u4
theorem ct4_worst (t : TT) (g : GM) (l : Launch) (p1 : Int32) (u : MS) : CtM mkI t g l yX4_worst cX4_worst 5 (some .int) LV_worst [.ref g.1, .int p1] u (f4_worst p1 u) := by
  refine ctM_of [(0, .ref g.1), (1, .int p1)] rfl (Nat.le_of_ble_eq_true rfl) rfl (fun p e s m args below meth c C => ?_)
  unfold f4_worst
  refine v_aload_n C 0 rfl rfl dX4_worst_0 ?_
  refine v_iconst C 0 (by decide) dX4_worst_1 ?_
  refine v_putMi C 0 (by decide) (by decide) q1615 rfl rfl (by decide +kernel) dX4_worst_2 (fun u1 => ?_)
  refine v_aload_n C 0 rfl rfl dX4_worst_5 ?_
  refine v_iload_n C 1 rfl rfl dX4_worst_6 ?_
  refine v_iconst C 1 (by decide) dX4_worst_7 ?_
  refine v_callVM C [.int p1, .int 1] [] (ct4_isWhat t g l p1 1 u1) (cw4_isWhat C q2064 (by decide)) rfl rfl (Nat.le_of_ble_eq_true rfl) dX4_worst_8 (fun r3 u2 => ?_)
  refine v_if_ne C 16 (by decide) dX4_worst_11 (fun _ => ?_) (fun _ => ?_)
  · refine v_iconst C 0 (by decide) dX4_worst_14 ?_
    exact v_iretM C dX4_worst_15
  · refine v_aload_n C 0 rfl rfl dX4_worst_16 ?_
    refine v_callVM C [] [] (ct4_playsAll t g l u2) (cw4_playsAll C q2184 (by decide)) rfl rfl (Nat.le_of_ble_eq_true rfl) dX4_worst_17 (fun _ u4 => ?_)
    refine v_iconst C (-1) (by decide) dX4_worst_20 ?_
    refine v_istore_n C [(2, .int (-1)), (0, .ref g.1), (1, .int p1)] rfl (by decide) rfl dX4_worst_21 ?_
    refine v_iconst C 0 (by decide) dX4_worst_22 ?_
    refine v_istore_n C [(3, .int 0), (2, .int (-1)), (0, .ref g.1), (1, .int p1)] rfl (by decide) rfl dX4_worst_23 ?_
    refine v_iconst C 0 (by decide) dX4_worst_24 ?_
    refine v_istore C [(4, .int 0), (3, .int 0), (2, .int (-1)), (0, .ref g.1), (1, .int p1)] (by decide) rfl dX4_worst_25 ?_
    refine v_sub [3, 4, 2, 1, 0] rfl ?_
    exact w4_worst_27 C p1 FUEL (-1) 0 0 u4
theorem cw4_worst {t : TT} {p : Program} {s : State} {m : MethodId} {args : Array Value} {meth : Method} {c : Code} {y0 : MethodName} {cc0 : ByteArray} {nL0 : Nat} {ret0 : Option FieldType} (C : Cx t p s m args meth c y0 cc0 nL0 ret0) {index lv : Nat} (hq : Cond.methodLink y0.cls index yX4_worst ∈ lw_all) (hR : LV_worst + 1 ≤ lv) : CallW (rmM lv) s args y0.cls RX4 index yX4_worst cX4_worst 5 (some .int) (ws_ yX4_worst cX4_worst 5 (some .int)) (rmM LV_worst) 0 0 1 :=
  cwV 1 C.2.2.2.2.1 (lw_V hq q2217 q2218 q127 q2219) rfl rfl rfl (by decide +kernel) ⟨hR, by show 8 + (5 + 11) + 100 * LV_worst ≤ 100 * lv; omega⟩
abbrev LV_idle : Nat := 7
def f4_idle_11 (k : Int32 → MS → Option (Int32 × MS)) (x1 : Int32) (u : MS) : Option (Int32 × MS) :=
  mb (f4_mornings0 u) fun r2 u1 =>
  if r2 ≤ x1 then
    some (-1, u1)
  else
    mchk (inbM x1 67) <|
    if (u1.2.1 67 x1.toNatClampNeg) = 0 then
      some (((u1.2.1 54 (0 : Int32).toNatClampNeg) + x1), u1)
    else
      k (x1 + 1) u1
theorem w4_idle_11 {p : Program} {e : Env} {s : State} {m : MethodId} {args : Array Value} {below : List Frame} {meth : Method} {c : Code} (C : Cx t p s m args meth c yX4_idle cX4_idle 2 (some .int)) (n : Nat) (x1 : Int32) (u : MS) : VM mkI t g p l e LV_idle s m args below meth c 2 11 [(0, .ref g.1), (1, .int x1)] [] u (ml1 (f4_idle_11) n x1 u) := by
  refine vl1 (L := fun x1 => [(0, .ref g.1), (1, .int x1)]) (fun k hk x1 u => ?_) n x1 u
  unfold f4_idle_11
  refine v_iload_n C 1 rfl rfl dX4_idle_11 ?_
  refine v_aload_n C 0 rfl rfl dX4_idle_12 ?_
  refine v_callVM C [] [.int x1] (ct4_mornings0 t g l u) (cw4_mornings0 C q2192 (by decide)) rfl rfl (Nat.le_of_ble_eq_true rfl) dX4_idle_13 (fun r2 u1 => ?_)
  refine v_icmp_ge C 43 (by decide) dX4_idle_16 (fun _ => ?_) (fun _ => ?_)
  · refine v_iconst C (-1) (by decide) dX4_idle_43 ?_
    exact v_iretM C dX4_idle_44
  · refine v_aload_n C 0 rfl rfl dX4_idle_19 ?_
    refine v_getMa C 67 (by decide) (by decide) q1682 rfl dX4_idle_20 ?_
    refine v_iload_n C 1 rfl rfl dX4_idle_23 ?_
    refine v_chk (fun h3 => ?_)
    refine v_ialdM C h3 dX4_idle_24 ?_
    refine v_if_ne C 37 (by decide) dX4_idle_25 (fun _ => ?_) (fun _ => ?_)
    · refine v_aload_n C 0 rfl rfl dX4_idle_28 ?_
      refine v_getMa C 54 (by decide) (by decide) q1669 rfl dX4_idle_29 ?_
      refine v_iconst C 0 (by decide) dX4_idle_32 ?_
      refine v_ialdM C (by decide) dX4_idle_33 ?_
      refine v_iload_n C 1 rfl rfl dX4_idle_34 ?_
      refine v_iadd C dX4_idle_35 ?_
      exact v_iretM C dX4_idle_36
    · refine v_iinc C 1 [(1, .int (x1 + 1)), (0, .ref g.1)] 1 rfl (by decide) (by decide) rfl dX4_idle_37 ?_
      refine v_goto C 11 (by decide) dX4_idle_40 ?_
      refine v_sub [1, 0] rfl ?_
      exact hk (x1 + 1) u1
def f4_idle (u : MS) : Option (Int32 × MS) :=
  mlet (mS u 0 0) fun u1 =>
  mb (f4_playsAll u1) fun _ u2 =>
  ml1 (f4_idle_11) FUEL 0 u2
theorem ct4_idle (t : TT) (g : GM) (l : Launch) (u : MS) : CtM mkI t g l yX4_idle cX4_idle 2 (some .int) LV_idle [.ref g.1] u (f4_idle u) := by
  refine ctM_of [(0, .ref g.1)] rfl (Nat.le_of_ble_eq_true rfl) rfl (fun p e s m args below meth c C => ?_)
  unfold f4_idle
  refine v_aload_n C 0 rfl rfl dX4_idle_0 ?_
  refine v_iconst C 0 (by decide) dX4_idle_1 ?_
  refine v_putMi C 0 (by decide) (by decide) q1615 rfl rfl (by decide +kernel) dX4_idle_2 (fun u1 => ?_)
  refine v_aload_n C 0 rfl rfl dX4_idle_5 ?_
  refine v_callVM C [] [] (ct4_playsAll t g l u1) (cw4_playsAll C q2184 (by decide)) rfl rfl (Nat.le_of_ble_eq_true rfl) dX4_idle_6 (fun _ u2 => ?_)
  refine v_iconst C 0 (by decide) dX4_idle_9 ?_
  refine v_istore_n C [(1, .int 0), (0, .ref g.1)] rfl (by decide) rfl dX4_idle_10 ?_
  refine v_sub [1, 0] rfl ?_
  exact w4_idle_11 C FUEL 0 u2
theorem cw4_idle {t : TT} {p : Program} {s : State} {m : MethodId} {args : Array Value} {meth : Method} {c : Code} {y0 : MethodName} {cc0 : ByteArray} {nL0 : Nat} {ret0 : Option FieldType} (C : Cx t p s m args meth c y0 cc0 nL0 ret0) {index lv : Nat} (hq : Cond.methodLink y0.cls index yX4_idle ∈ lw_all) (hR : LV_idle + 1 ≤ lv) : CallW (rmM lv) s args y0.cls RX4 index yX4_idle cX4_idle 2 (some .int) (ws_ yX4_idle cX4_idle 2 (some .int)) (rmM LV_idle) 0 0 0 :=
  cwV 0 C.2.2.2.2.1 (lw_V hq q2221 q2222 q127 q2223) rfl rfl rfl (by decide +kernel) ⟨hR, by show 8 + (2 + 11) + 100 * LV_idle ≤ 100 * lv; omega⟩
abbrev LV_richest : Nat := 7
def f4_richest_15 (k : Int32 → Int32 → Int32 → MS → Option (Int32 × MS)) (x1 : Int32) (x2 : Int32) (x3 : Int32) (u : MS) : Option (Int32 × MS) :=
  if (u.1 1) ≤ x3 then
    some (x1, u)
  else
    mchk (inbM x3 59) <|
    if x2 < (u.2.1 59 x3.toNatClampNeg) then
      mchk (inbM x3 59) <|
      mlet (u.2.1 59 x3.toNatClampNeg) fun v3 =>
      k x3 v3 (x3 + 1) u
    else
      k x1 x2 (x3 + 1) u
theorem w4_richest_15 {p : Program} {e : Env} {s : State} {m : MethodId} {args : Array Value} {below : List Frame} {meth : Method} {c : Code} (C : Cx t p s m args meth c yX4_richest cX4_richest 4 (some .int)) (n : Nat) (x1 : Int32) (x2 : Int32) (x3 : Int32) (u : MS) : VM mkI t g p l e LV_richest s m args below meth c 4 15 [(0, .ref g.1), (1, .int x1), (2, .int x2), (3, .int x3)] [] u (ml3 (f4_richest_15) n x1 x2 x3 u) := by
  refine vl3 (L := fun x1 x2 x3 => [(0, .ref g.1), (1, .int x1), (2, .int x2), (3, .int x3)]) (fun k hk x1 x2 x3 u => ?_) n x1 x2 x3 u
  unfold f4_richest_15
  refine v_iload_n C 3 rfl rfl dX4_richest_15 ?_
  refine v_aload_n C 0 rfl rfl dX4_richest_16 ?_
  refine v_getMi C 1 (by decide) (by decide) q1616 rfl dX4_richest_17 ?_
  refine v_icmp_ge C 51 (by decide) dX4_richest_20 (fun _ => ?_) (fun _ => ?_)
  · refine v_iload_n C 1 rfl rfl dX4_richest_51 ?_
    exact v_iretM C dX4_richest_52
  · refine v_aload_n C 0 rfl rfl dX4_richest_23 ?_
    refine v_getMa C 59 (by decide) (by decide) q1674 rfl dX4_richest_24 ?_
    refine v_iload_n C 3 rfl rfl dX4_richest_27 ?_
    refine v_chk (fun h1 => ?_)
    refine v_ialdM C h1 dX4_richest_28 ?_
    refine v_iload_n C 2 rfl rfl dX4_richest_29 ?_
    refine v_icmp_gt C 36 (by decide) dX4_richest_30 (fun _ => ?_) (fun _ => ?_)
    · refine v_iload_n C 3 rfl rfl dX4_richest_36 ?_
      refine v_istore_n C [(1, .int x3), (0, .ref g.1), (2, .int x2), (3, .int x3)] rfl (by decide) rfl dX4_richest_37 ?_
      refine v_aload_n C 1 rfl rfl dX4_richest_38 ?_
      refine v_getMa C 59 (by decide) (by decide) q1674 rfl dX4_richest_39 ?_
      refine v_iload_n C 3 rfl rfl dX4_richest_42 ?_
      refine v_chk (fun h2 => ?_)
      refine v_ialdM C h2 dX4_richest_43 ?_
      refine v_topi (fun v3 => ?_)
      refine v_istore_n C [(2, .int v3), (1, .int x3), (0, .ref g.1), (3, .int x3)] rfl (by decide) rfl dX4_richest_44 ?_
      refine v_iinc C 1 [(3, .int (x3 + 1)), (2, .int v3), (1, .int x3), (0, .ref g.1)] 3 rfl (by decide) (by decide) rfl dX4_richest_45 ?_
      refine v_goto C 15 (by decide) dX4_richest_48 ?_
      refine v_sub [3, 2, 1, 0] rfl ?_
      exact hk x3 v3 (x3 + 1) u
    · refine v_goto C 45 (by decide) dX4_richest_33 ?_
      refine v_iinc C 1 [(3, .int (x3 + 1)), (0, .ref g.1), (1, .int x1), (2, .int x2)] 3 rfl (by decide) (by decide) rfl dX4_richest_45 ?_
      refine v_goto C 15 (by decide) dX4_richest_48 ?_
      refine v_sub [1, 2, 3, 0] rfl ?_
      exact hk x1 x2 (x3 + 1) u
def f4_richest (u : MS) : Option (Int32 × MS) :=
  mlet (mS u 0 0) fun u1 =>
  mb (f4_playsAll u1) fun _ u2 =>
  ml3 (f4_richest_15) FUEL (-1) 0 0 u2
theorem ct4_richest (t : TT) (g : GM) (l : Launch) (u : MS) : CtM mkI t g l yX4_richest cX4_richest 4 (some .int) LV_richest [.ref g.1] u (f4_richest u) := by
  refine ctM_of [(0, .ref g.1)] rfl (Nat.le_of_ble_eq_true rfl) rfl (fun p e s m args below meth c C => ?_)
  unfold f4_richest
  refine v_aload_n C 0 rfl rfl dX4_richest_0 ?_
  refine v_iconst C 0 (by decide) dX4_richest_1 ?_
  refine v_putMi C 0 (by decide) (by decide) q1615 rfl rfl (by decide +kernel) dX4_richest_2 (fun u1 => ?_)
  refine v_aload_n C 0 rfl rfl dX4_richest_5 ?_
  refine v_callVM C [] [] (ct4_playsAll t g l u1) (cw4_playsAll C q2184 (by decide)) rfl rfl (Nat.le_of_ble_eq_true rfl) dX4_richest_6 (fun _ u2 => ?_)
  refine v_iconst C (-1) (by decide) dX4_richest_9 ?_
  refine v_istore_n C [(1, .int (-1)), (0, .ref g.1)] rfl (by decide) rfl dX4_richest_10 ?_
  refine v_iconst C 0 (by decide) dX4_richest_11 ?_
  refine v_istore_n C [(2, .int 0), (1, .int (-1)), (0, .ref g.1)] rfl (by decide) rfl dX4_richest_12 ?_
  refine v_iconst C 0 (by decide) dX4_richest_13 ?_
  refine v_istore_n C [(3, .int 0), (2, .int 0), (1, .int (-1)), (0, .ref g.1)] rfl (by decide) rfl dX4_richest_14 ?_
  refine v_sub [3, 2, 1, 0] rfl ?_
  exact w4_richest_15 C FUEL (-1) 0 0 u2
theorem cw4_richest {t : TT} {p : Program} {s : State} {m : MethodId} {args : Array Value} {meth : Method} {c : Code} {y0 : MethodName} {cc0 : ByteArray} {nL0 : Nat} {ret0 : Option FieldType} (C : Cx t p s m args meth c y0 cc0 nL0 ret0) {index lv : Nat} (hq : Cond.methodLink y0.cls index yX4_richest ∈ lw_all) (hR : LV_richest + 1 ≤ lv) : CallW (rmM lv) s args y0.cls RX4 index yX4_richest cX4_richest 4 (some .int) (ws_ yX4_richest cX4_richest 4 (some .int)) (rmM LV_richest) 0 0 0 :=
  cwV 0 C.2.2.2.2.1 (lw_V hq q2225 q2226 q127 q2227) rfl rfl rfl (by decide +kernel) ⟨hR, by show 8 + (4 + 11) + 100 * LV_richest ≤ 100 * lv; omega⟩
abbrev LV_stay : Nat := 7
def f4_stay_72 (p1 : Int32) (p2 : Int32) (k : Int32 → Int32 → MS → Option (Int32 × MS)) (x3 : Int32) (x4 : Int32) (u : MS) : Option (Int32 × MS) :=
  mb (f4_mornings0 u) fun r2 u1 =>
  if ((u.2.1 54 (0 : Int32).toNatClampNeg) + r2) ≤ x4 then
    some (-1, u1)
  else
    if x4 < x3 then
      k x3 (x4 + 1) u1
    else
      mchk (inbM p2 8) <|
      if (((u1.2.1 8 p2.toNatClampNeg) + x4) - x3) < 10 then
        k x3 (x4 + 1) u1
      else
        some (x4, u1)
theorem w4_stay_72 {p : Program} {e : Env} {s : State} {m : MethodId} {args : Array Value} {below : List Frame} {meth : Method} {c : Code} (C : Cx t p s m args meth c yX4_stay cX4_stay 5 (some .int)) (p1 : Int32) (p2 : Int32) (n : Nat) (x3 : Int32) (x4 : Int32) (u : MS) : VM mkI t g p l e LV_stay s m args below meth c 5 72 [(0, .ref g.1), (2, .int p2), (3, .int x3), (4, .int x4)] [] u (ml2 (f4_stay_72 p1 p2) n x3 x4 u) := by
  refine vl2 (L := fun x3 x4 => [(0, .ref g.1), (2, .int p2), (3, .int x3), (4, .int x4)]) (fun k hk x3 x4 u => ?_) n x3 x4 u
  unfold f4_stay_72
  refine v_iload C 3 rfl dX4_stay_72 ?_
  refine v_aload_n C 0 rfl rfl dX4_stay_74 ?_
  refine v_getMa C 54 (by decide) (by decide) q1669 rfl dX4_stay_75 ?_
  refine v_iconst C 0 (by decide) dX4_stay_78 ?_
  refine v_ialdM C (by decide) dX4_stay_79 ?_
  refine v_aload_n C 0 rfl rfl dX4_stay_80 ?_
  refine v_callVM C [] [.int (u.2.1 54 (0 : Int32).toNatClampNeg), .int x4] (ct4_mornings0 t g l u) (cw4_mornings0 C q2192 (by decide)) rfl rfl (Nat.le_of_ble_eq_true rfl) dX4_stay_81 (fun r2 u1 => ?_)
  refine v_iadd C dX4_stay_84 ?_
  refine v_icmp_ge C 119 (by decide) dX4_stay_85 (fun _ => ?_) (fun _ => ?_)
  · refine v_iconst C (-1) (by decide) dX4_stay_119 ?_
    exact v_iretM C dX4_stay_120
  · refine v_iload C 3 rfl dX4_stay_88 ?_
    refine v_iload_n C 2 rfl rfl dX4_stay_90 ?_
    refine v_icmp_lt C 113 (by decide) dX4_stay_91 (fun _ => ?_) (fun _ => ?_)
    · refine v_iinc C 1 [(4, .int (x4 + 1)), (0, .ref g.1), (2, .int p2), (3, .int x3)] 3 rfl (by decide) (by decide) rfl dX4_stay_113 ?_
      refine v_goto C 72 (by decide) dX4_stay_116 ?_
      refine v_sub [1, 2, 3, 0] rfl ?_
      exact hk x3 (x4 + 1) u1
    · refine v_aload_n C 0 rfl rfl dX4_stay_94 ?_
      refine v_getMa C 8 (by decide) (by decide) q1623 rfl dX4_stay_95 ?_
      refine v_iload_n C 1 rfl rfl dX4_stay_98 ?_
      refine v_chk (fun h3 => ?_)
      refine v_ialdM C h3 dX4_stay_99 ?_
      refine v_iload C 3 rfl dX4_stay_100 ?_
      refine v_iadd C dX4_stay_102 ?_
      refine v_iload_n C 2 rfl rfl dX4_stay_103 ?_
      refine v_isub C dX4_stay_104 ?_
      refine v_bipush C 10 (by decide) dX4_stay_105 ?_
      refine v_icmp_lt C 113 (by decide) dX4_stay_107 (fun _ => ?_) (fun _ => ?_)
      · refine v_iinc C 1 [(4, .int (x4 + 1)), (0, .ref g.1), (2, .int p2), (3, .int x3)] 3 rfl (by decide) (by decide) rfl dX4_stay_113 ?_
        refine v_goto C 72 (by decide) dX4_stay_116 ?_
        refine v_sub [1, 2, 3, 0] rfl ?_
        exact hk x3 (x4 + 1) u1
      · refine v_iload C 3 rfl dX4_stay_110 ?_
        exact v_iretM C dX4_stay_112
def f4_stay (p1 : Int32) (p2 : Int32) (u : MS) : Option (Int32 × MS) :=
  mlet (mS u 0 0) fun u1 =>
  mb (f4_isPerson p1 u1) fun r3 u2 =>
  if r3 = 0 then
    some (0, u2)
  else
    mb (f4_isPlace p2 u2) fun r5 u4 =>
    if r5 = 0 then
      some (0, u4)
    else
      mb (f4_playsAll u4) fun _ u6 =>
      mchk (inbM (4 + p1) 68) <|
      mlet (u6.2.1 68 (4 + p1).toNatClampNeg) fun v8 =>
      mb (f4_isDead 54 p1 u6) fun r10 u9 =>
      if r10 = 0 then
        mchk (inbM p2 8) <|
        if (u9.2.1 8 p2.toNatClampNeg) = (-1) then
          some (-1, u9)
        else
          if v8 = (-1) then
            some (-1, u9)
          else
            mlet (u9.2.1 54 (0 : Int32).toNatClampNeg) fun v12 =>
            ml2 (f4_stay_72 p1 p2) FUEL v8 v12 u9
      else
        some (-1, u9)
theorem ct4_stay (t : TT) (g : GM) (l : Launch) (p1 : Int32) (p2 : Int32) (u : MS) : CtM mkI t g l yX4_stay cX4_stay 5 (some .int) LV_stay [.ref g.1, .int p1, .int p2] u (f4_stay p1 p2 u) := by
  refine ctM_of [(0, .ref g.1), (1, .int p1), (2, .int p2)] rfl (Nat.le_of_ble_eq_true rfl) rfl (fun p e s m args below meth c C => ?_)
  unfold f4_stay
  refine v_aload_n C 0 rfl rfl dX4_stay_0 ?_
  refine v_iconst C 0 (by decide) dX4_stay_1 ?_
  refine v_putMi C 0 (by decide) (by decide) q1615 rfl rfl (by decide +kernel) dX4_stay_2 (fun u1 => ?_)
  refine v_aload_n C 0 rfl rfl dX4_stay_5 ?_
  refine v_iload_n C 1 rfl rfl dX4_stay_6 ?_
  refine v_callVM C [.int p1] [] (ct4_isPerson t g l p1 u1) (cw4_isPerson C q2084 (by decide)) rfl rfl (Nat.le_of_ble_eq_true rfl) dX4_stay_7 (fun r3 u2 => ?_)
  refine v_if_eq C 21 (by decide) dX4_stay_10 (fun _ => ?_) (fun _ => ?_)
  · refine v_iconst C 0 (by decide) dX4_stay_21 ?_
    exact v_iretM C dX4_stay_22
  · refine v_aload_n C 0 rfl rfl dX4_stay_13 ?_
    refine v_iload_n C 2 rfl rfl dX4_stay_14 ?_
    refine v_callVM C [.int p2] [] (ct4_isPlace t g l p2 u2) (cw4_isPlace C q2076 (by decide)) rfl rfl (Nat.le_of_ble_eq_true rfl) dX4_stay_15 (fun r5 u4 => ?_)
    refine v_if_ne C 23 (by decide) dX4_stay_18 (fun _ => ?_) (fun _ => ?_)
    · refine v_iconst C 0 (by decide) dX4_stay_21 ?_
      exact v_iretM C dX4_stay_22
    · refine v_aload_n C 0 rfl rfl dX4_stay_23 ?_
      refine v_callVM C [] [] (ct4_playsAll t g l u4) (cw4_playsAll C q2184 (by decide)) rfl rfl (Nat.le_of_ble_eq_true rfl) dX4_stay_24 (fun _ u6 => ?_)
      refine v_aload_n C 0 rfl rfl dX4_stay_27 ?_
      refine v_getMa C 68 (by decide) (by decide) q1683 rfl dX4_stay_28 ?_
      refine v_iconst C 4 (by decide) dX4_stay_31 ?_
      refine v_iload_n C 1 rfl rfl dX4_stay_32 ?_
      refine v_iadd C dX4_stay_33 ?_
      refine v_chk (fun h7 => ?_)
      refine v_ialdM C h7 dX4_stay_34 ?_
      refine v_topi (fun v8 => ?_)
      refine v_istore_n C [(3, .int v8), (0, .ref g.1), (1, .int p1), (2, .int p2)] rfl (by decide) rfl dX4_stay_35 ?_
      refine v_aload_n C 1 rfl rfl dX4_stay_36 ?_
      refine v_getMa C 54 (by decide) (by decide) q1669 rfl dX4_stay_37 ?_
      refine v_iload_n C 2 rfl rfl dX4_stay_40 ?_
      refine v_callSM C [.ref (g.2 54), .int p1] [] (ct4_isDead t g l 54 p1 u6) (cw4_isDead C q2149 (by decide)) rfl rfl (Nat.le_of_ble_eq_true rfl) dX4_stay_41 (fun r10 u9 => ?_)
      refine v_if_ne C 62 (by decide) dX4_stay_44 (fun _ => ?_) (fun _ => ?_)
      · refine v_aload_n C 1 rfl rfl dX4_stay_47 ?_
        refine v_getMa C 8 (by decide) (by decide) q1623 rfl dX4_stay_48 ?_
        refine v_iload_n C 3 rfl rfl dX4_stay_51 ?_
        refine v_chk (fun h11 => ?_)
        refine v_ialdM C h11 dX4_stay_52 ?_
        refine v_iconst C (-1) (by decide) dX4_stay_53 ?_
        refine v_icmp_eq C 62 (by decide) dX4_stay_54 (fun _ => ?_) (fun _ => ?_)
        · refine v_iconst C (-1) (by decide) dX4_stay_62 ?_
          exact v_iretM C dX4_stay_63
        · refine v_iload_n C 0 rfl rfl dX4_stay_57 ?_
          refine v_iconst C (-1) (by decide) dX4_stay_58 ?_
          refine v_icmp_ne C 64 (by decide) dX4_stay_59 (fun _ => ?_) (fun _ => ?_)
          · refine v_iconst C (-1) (by decide) dX4_stay_62 ?_
            exact v_iretM C dX4_stay_63
          · refine v_aload_n C 1 rfl rfl dX4_stay_64 ?_
            refine v_getMa C 54 (by decide) (by decide) q1669 rfl dX4_stay_65 ?_
            refine v_iconst C 0 (by decide) dX4_stay_68 ?_
            refine v_ialdM C (by decide) dX4_stay_69 ?_
            refine v_topi (fun v12 => ?_)
            refine v_istore C [(4, .int v12), (3, .int v8), (0, .ref g.1), (1, .int p1), (2, .int p2)] (by decide) rfl dX4_stay_70 ?_
            refine v_sub [2, 4, 1, 0] rfl ?_
            exact w4_stay_72 C p1 p2 FUEL v8 v12 u9
      · refine v_iconst C (-1) (by decide) dX4_stay_62 ?_
        exact v_iretM C dX4_stay_63
theorem cw4_stay {t : TT} {p : Program} {s : State} {m : MethodId} {args : Array Value} {meth : Method} {c : Code} {y0 : MethodName} {cc0 : ByteArray} {nL0 : Nat} {ret0 : Option FieldType} (C : Cx t p s m args meth c y0 cc0 nL0 ret0) {index lv : Nat} (hq : Cond.methodLink y0.cls index yX4_stay ∈ lw_all) (hR : LV_stay + 1 ≤ lv) : CallW (rmM lv) s args y0.cls RX4 index yX4_stay cX4_stay 5 (some .int) (ws_ yX4_stay cX4_stay 5 (some .int)) (rmM LV_stay) 0 0 2 :=
  cwV 2 C.2.2.2.2.1 (lw_V hq q2229 q2230 q127 q2231) rfl rfl rfl (by decide +kernel) ⟨hR, by show 8 + (5 + 11) + 100 * LV_stay ≤ 100 * lv; omega⟩
end
