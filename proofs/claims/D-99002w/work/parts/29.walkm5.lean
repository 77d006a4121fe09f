/-! walks of WhiteBoardModel, printed by tools/gen.py -/
set_option maxRecDepth 100000
section
variable {t : TT} {g : GM} {l : Launch}
abbrev LV_bargain : Nat := 2
def f4_bargain_191 (p1 : Int32) (p2 : Int32) (p3 : Int32) (k91 : Int32 → Int32 → Int32 → Int32 → Int32 → MS → Option (Int32 × MS)) (x4 : Int32) (x5 : Int32) (x6 : Int32) (x7 : Int32) (x8 : Int32) (x9 : Int32) (x10 : Int32) (u : MS) : Option (Int32 × MS) :=
  if x7 = (-1) then
    mlet ((10 * x9) + x10) fun v1 =>
    k91 x4 x5 (x6 + 1) v1 (x8 + 1) u
  else
    k91 x4 x5 (x6 + 1) x7 (x8 + 1) u
theorem w4_bargain_191 {p : Program} {e : Env} {s : State} {m : MethodId} {args : Array Value} {below : List Frame} {meth : Method} {c : Code} (C : Cx t p s m args meth c yX4_bargain cX4_bargain 11 (some .int)) (p1 : Int32) (p2 : Int32) (p3 : Int32) (k91 : Int32 → Int32 → Int32 → Int32 → Int32 → MS → Option (Int32 × MS)) (hk91 : ∀ (x4 : Int32) (x5 : Int32) (x6 : Int32) (x7 : Int32) (x8 : Int32) (u : MS), VM mkI t g p l e LV_bargain s m args below meth c 11 91 [(0, .ref g.1), (1, .int p1), (2, .int p2), (3, .int p3), (4, .int x4), (5, .int x5), (6, .int x6), (7, .int x7), (8, .int x8)] [] u (k91 x4 x5 x6 x7 x8 u)) (x4 : Int32) (x5 : Int32) (x6 : Int32) (x7 : Int32) (x8 : Int32) (x9 : Int32) (x10 : Int32) (u : MS) : VM mkI t g p l e LV_bargain s m args below meth c 11 191 [(0, .ref g.1), (1, .int p1), (2, .int p2), (3, .int p3), (4, .int x4), (5, .int x5), (6, .int x6), (7, .int x7), (8, .int x8), (9, .int x9), (10, .int x10)] [] u (f4_bargain_191 p1 p2 p3 k91 x4 x5 x6 x7 x8 x9 x10 u) := by
  unfold f4_bargain_191
  refine v_iinc C 1 [(6, .int (x6 + 1)), (0, .ref g.1), (1, .int p1), (2, .int p2), (3, .int p3), (4, .int x4), (5, .int x5), (7, .int x7), (8, .int x8), (9, .int x9), (10, .int x10)] 6 rfl (by decide) (by decide) rfl dX4_bargain_191 ?_
  refine v_iload C 7 rfl dX4_bargain_194 ?_
  refine v_iconst C (-1) (by decide) dX4_bargain_196 ?_
  refine v_icmp_ne C 210 (by decide) dX4_bargain_197 (fun _ => ?_) (fun _ => ?_)
  · refine v_bipush C 10 (by decide) dX4_bargain_200 ?_
    refine v_iload C 9 rfl dX4_bargain_202 ?_
    refine v_imul C dX4_bargain_204 ?_
    refine v_iload C 10 rfl dX4_bargain_205 ?_
    refine v_iadd C dX4_bargain_207 ?_
    refine v_topi (fun v1 => ?_)
    refine v_istore C [(7, .int v1), (6, .int (x6 + 1)), (0, .ref g.1), (1, .int p1), (2, .int p2), (3, .int p3), (4, .int x4), (5, .int x5), (8, .int x8), (9, .int x9), (10, .int x10)] (by decide) rfl dX4_bargain_208 ?_
    refine v_iinc C 1 [(8, .int (x8 + 1)), (7, .int v1), (6, .int (x6 + 1)), (0, .ref g.1), (1, .int p1), (2, .int p2), (3, .int p3), (4, .int x4), (5, .int x5), (9, .int x9), (10, .int x10)] 8 rfl (by decide) (by decide) rfl dX4_bargain_210 ?_
    refine v_goto C 91 (by decide) dX4_bargain_213 ?_
    refine v_sub [3, 4, 5, 6, 7, 8, 2, 1, 0] rfl ?_
    exact hk91 x4 x5 (x6 + 1) v1 (x8 + 1) u
  · refine v_iinc C 1 [(8, .int (x8 + 1)), (6, .int (x6 + 1)), (0, .ref g.1), (1, .int p1), (2, .int p2), (3, .int p3), (4, .int x4), (5, .int x5), (7, .int x7), (9, .int x9), (10, .int x10)] 8 rfl (by decide) (by decide) rfl dX4_bargain_210 ?_
    refine v_goto C 91 (by decide) dX4_bargain_213 ?_
    refine v_sub [2, 3, 4, 5, 6, 7, 1, 8, 0] rfl ?_
    exact hk91 x4 x5 (x6 + 1) x7 (x8 + 1) u
def f4_bargain_157 (p1 : Int32) (p2 : Int32) (p3 : Int32) (k91 : Int32 → Int32 → Int32 → Int32 → Int32 → MS → Option (Int32 × MS)) (x4 : Int32) (x5 : Int32) (x6 : Int32) (x7 : Int32) (x8 : Int32) (x9 : Int32) (x10 : Int32) (u : MS) : Option (Int32 × MS) :=
  if x5 = 1 then
    mb (f4_gains p2 p1 (1 - x10) x9 u) fun r2 u1 =>
    mb (f4_gains p2 p1 x10 x9 u1) fun r4 u3 =>
    if r2 ≤ r4 then
      f4_bargain_191 p1 p2 p3 k91 x4 x5 x6 x7 x8 x9 x10 u3
    else
      k91 x4 x5 x6 x7 (x8 + 1) u3
  else
    f4_bargain_191 p1 p2 p3 k91 x4 x5 x6 x7 x8 x9 x10 u
theorem w4_bargain_157 {p : Program} {e : Env} {s : State} {m : MethodId} {args : Array Value} {below : List Frame} {meth : Method} {c : Code} (C : Cx t p s m args meth c yX4_bargain cX4_bargain 11 (some .int)) (p1 : Int32) (p2 : Int32) (p3 : Int32) (k91 : Int32 → Int32 → Int32 → Int32 → Int32 → MS → Option (Int32 × MS)) (hk91 : ∀ (x4 : Int32) (x5 : Int32) (x6 : Int32) (x7 : Int32) (x8 : Int32) (u : MS), VM mkI t g p l e LV_bargain s m args below meth c 11 91 [(0, .ref g.1), (1, .int p1), (2, .int p2), (3, .int p3), (4, .int x4), (5, .int x5), (6, .int x6), (7, .int x7), (8, .int x8)] [] u (k91 x4 x5 x6 x7 x8 u)) (x4 : Int32) (x5 : Int32) (x6 : Int32) (x7 : Int32) (x8 : Int32) (x9 : Int32) (x10 : Int32) (u : MS) : VM mkI t g p l e LV_bargain s m args below meth c 11 157 [(0, .ref g.1), (1, .int p1), (2, .int p2), (3, .int p3), (4, .int x4), (5, .int x5), (6, .int x6), (7, .int x7), (8, .int x8), (9, .int x9), (10, .int x10)] [] u (f4_bargain_157 p1 p2 p3 k91 x4 x5 x6 x7 x8 x9 x10 u) := by
  unfold f4_bargain_157
  refine v_iload C 5 rfl dX4_bargain_157 ?_
  refine v_iconst C 1 (by decide) dX4_bargain_159 ?_
  refine v_icmp_ne C 191 (by decide) dX4_bargain_160 (fun _ => ?_) (fun _ => ?_)
  · refine v_aload_n C 0 rfl rfl dX4_bargain_163 ?_
    refine v_iload_n C 2 rfl rfl dX4_bargain_164 ?_
    refine v_iload_n C 1 rfl rfl dX4_bargain_165 ?_
    refine v_iconst C 1 (by decide) dX4_bargain_166 ?_
    refine v_iload C 10 rfl dX4_bargain_167 ?_
    refine v_isub C dX4_bargain_169 ?_
    refine v_iload C 9 rfl dX4_bargain_170 ?_
    refine v_callVM C [.int p2, .int p1, .int (1 - x10), .int x9] [] (ct4_gains t g l p2 p1 (1 - x10) x9 u) (cw4_gains C q2308 (by decide)) rfl rfl (Nat.le_of_ble_eq_true rfl) dX4_bargain_172 (fun r2 u1 => ?_)
    refine v_aload_n C 0 rfl rfl dX4_bargain_175 ?_
    refine v_iload_n C 2 rfl rfl dX4_bargain_176 ?_
    refine v_iload_n C 1 rfl rfl dX4_bargain_177 ?_
    refine v_iload C 10 rfl dX4_bargain_178 ?_
    refine v_iload C 9 rfl dX4_bargain_180 ?_
    refine v_callVM C [.int p2, .int p1, .int x10, .int x9] [.int r2] (ct4_gains t g l p2 p1 x10 x9 u1) (cw4_gains C q2308 (by decide)) rfl rfl (Nat.le_of_ble_eq_true rfl) dX4_bargain_182 (fun r4 u3 => ?_)
    refine v_icmp_le C 191 (by decide) dX4_bargain_185 (fun _ => ?_) (fun _ => ?_)
    · exact w4_bargain_191 C p1 p2 p3 k91 hk91 x4 x5 x6 x7 x8 x9 x10 u3
    · refine v_goto C 210 (by decide) dX4_bargain_188 ?_
      refine v_iinc C 1 [(8, .int (x8 + 1)), (0, .ref g.1), (1, .int p1), (2, .int p2), (3, .int p3), (4, .int x4), (5, .int x5), (6, .int x6), (7, .int x7), (9, .int x9), (10, .int x10)] 8 rfl (by decide) (by decide) rfl dX4_bargain_210 ?_
      refine v_goto C 91 (by decide) dX4_bargain_213 ?_
      refine v_sub [1, 2, 3, 4, 5, 6, 7, 8, 0] rfl ?_
      exact hk91 x4 x5 x6 x7 (x8 + 1) u3
  · exact w4_bargain_191 C p1 p2 p3 k91 hk91 x4 x5 x6 x7 x8 x9 x10 u
def f4_bargain_91 (p1 : Int32) (p2 : Int32) (p3 : Int32) (k : Int32 → Int32 → Int32 → Int32 → Int32 → MS → Option (Int32 × MS)) (x4 : Int32) (x5 : Int32) (x6 : Int32) (x7 : Int32) (x8 : Int32) (u : MS) : Option (Int32 × MS) :=
  if 4 ≤ x8 then
    if p3 = 0 then
      some (x6, u)
    else
      some (x7, u)
  else
    mlet (x8 / 2) fun v2 =>
    mlet (x8 - x8 / 2 * 2) fun v4 =>
    if x4 < v2 then
      k x4 x5 x6 x7 (x8 + 1) u
    else
      if v4 ≤ x5 then
        if x4 = 1 then
          mb (f4_gains p1 p2 (1 - v2) v4 u) fun r6 u5 =>
          mb (f4_gains p1 p2 v2 v4 u5) fun r8 u7 =>
          if r8 < r6 then
            k x4 x5 x6 x7 (x8 + 1) u7
          else
            f4_bargain_157 p1 p2 p3 k x4 x5 x6 x7 x8 v2 v4 u7
        else
          f4_bargain_157 p1 p2 p3 k x4 x5 x6 x7 x8 v2 v4 u
      else
        k x4 x5 x6 x7 (x8 + 1) u
theorem w4_bargain_91 {p : Program} {e : Env} {s : State} {m : MethodId} {args : Array Value} {below : List Frame} {meth : Method} {c : Code} (C : Cx t p s m args meth c yX4_bargain cX4_bargain 11 (some .int)) (p1 : Int32) (p2 : Int32) (p3 : Int32) (n : Nat) (x4 : Int32) (x5 : Int32) (x6 : Int32) (x7 : Int32) (x8 : Int32) (u : MS) : VM mkI t g p l e LV_bargain s m args below meth c 11 91 [(0, .ref g.1), (1, .int p1), (2, .int p2), (3, .int p3), (4, .int x4), (5, .int x5), (6, .int x6), (7, .int x7), (8, .int x8)] [] u (ml5 (f4_bargain_91 p1 p2 p3) n x4 x5 x6 x7 x8 u) := by
  refine vl5 (L := fun x4 x5 x6 x7 x8 => [(0, .ref g.1), (1, .int p1), (2, .int p2), (3, .int p3), (4, .int x4), (5, .int x5), (6, .int x6), (7, .int x7), (8, .int x8)]) (fun k hk x4 x5 x6 x7 x8 u => ?_) n x4 x5 x6 x7 x8 u
  unfold f4_bargain_91
  refine v_iload C 8 rfl dX4_bargain_91 ?_
  refine v_iconst C 4 (by decide) dX4_bargain_93 ?_
  refine v_icmp_ge C 216 (by decide) dX4_bargain_94 (fun _ => ?_) (fun _ => ?_)
  · refine v_iload_n C 3 rfl rfl dX4_bargain_216 ?_
    refine v_if_ne C 225 (by decide) dX4_bargain_217 (fun _ => ?_) (fun _ => ?_)
    · refine v_iload C 6 rfl dX4_bargain_220 ?_
      refine v_goto C 227 (by decide) dX4_bargain_222 ?_
      exact v_iretM C dX4_bargain_227
    · refine v_iload C 7 rfl dX4_bargain_225 ?_
      exact v_iretM C dX4_bargain_227
  · refine v_iload C 8 rfl dX4_bargain_97 ?_
    refine v_iconst C 2 (by decide) dX4_bargain_99 ?_
    refine v_idiv C (by decide) dX4_bargain_100 ?_
    refine v_topi (fun v2 => ?_)
    refine v_istore C [(9, .int v2), (0, .ref g.1), (1, .int p1), (2, .int p2), (3, .int p3), (4, .int x4), (5, .int x5), (6, .int x6), (7, .int x7), (8, .int x8)] (by decide) rfl dX4_bargain_101 ?_
    refine v_iload C 9 rfl dX4_bargain_103 ?_
    refine v_iconst C 2 (by decide) dX4_bargain_105 ?_
    refine v_irem C (by decide) dX4_bargain_106 ?_
    refine v_topi (fun v4 => ?_)
    refine v_istore C [(10, .int v4), (9, .int v2), (0, .ref g.1), (1, .int p1), (2, .int p2), (3, .int p3), (4, .int x4), (5, .int x5), (6, .int x6), (7, .int x7), (8, .int x8)] (by decide) rfl dX4_bargain_107 ?_
    refine v_iload C 1 rfl dX4_bargain_109 ?_
    refine v_iload C 6 rfl dX4_bargain_111 ?_
    refine v_icmp_gt C 210 (by decide) dX4_bargain_113 (fun _ => ?_) (fun _ => ?_)
    · refine v_iinc C 1 [(8, .int (x8 + 1)), (10, .int v4), (9, .int v2), (0, .ref g.1), (1, .int p1), (2, .int p2), (3, .int p3), (4, .int x4), (5, .int x5), (6, .int x6), (7, .int x7)] 10 rfl (by decide) (by decide) rfl dX4_bargain_210 ?_
      refine v_goto C 91 (by decide) dX4_bargain_213 ?_
      refine v_sub [3, 4, 5, 6, 7, 8, 9, 10, 0] rfl ?_
      exact hk x4 x5 x6 x7 (x8 + 1) u
    · refine v_iload C 0 rfl dX4_bargain_116 ?_
      refine v_iload C 7 rfl dX4_bargain_118 ?_
      refine v_icmp_le C 126 (by decide) dX4_bargain_120 (fun _ => ?_) (fun _ => ?_)
      · refine v_iload C 6 rfl dX4_bargain_126 ?_
        refine v_iconst C 1 (by decide) dX4_bargain_128 ?_
        refine v_icmp_ne C 157 (by decide) dX4_bargain_129 (fun _ => ?_) (fun _ => ?_)
        · refine v_aload_n C 2 rfl rfl dX4_bargain_132 ?_
          refine v_iload_n C 3 rfl rfl dX4_bargain_133 ?_
          refine v_iload_n C 4 rfl rfl dX4_bargain_134 ?_
          refine v_iconst C 1 (by decide) dX4_bargain_135 ?_
          refine v_iload C 1 rfl dX4_bargain_136 ?_
          refine v_isub C dX4_bargain_138 ?_
          refine v_iload C 0 rfl dX4_bargain_139 ?_
          refine v_callVM C [.int p1, .int p2, .int (1 - v2), .int v4] [] (ct4_gains t g l p1 p2 (1 - v2) v4 u) (cw4_gains C q2308 (by decide)) rfl rfl (Nat.le_of_ble_eq_true rfl) dX4_bargain_141 (fun r6 u5 => ?_)
          refine v_aload_n C 2 rfl rfl dX4_bargain_144 ?_
          refine v_iload_n C 3 rfl rfl dX4_bargain_145 ?_
          refine v_iload_n C 4 rfl rfl dX4_bargain_146 ?_
          refine v_iload C 1 rfl dX4_bargain_147 ?_
          refine v_iload C 0 rfl dX4_bargain_149 ?_
          refine v_callVM C [.int p1, .int p2, .int v2, .int v4] [.int r6] (ct4_gains t g l p1 p2 v2 v4 u5) (cw4_gains C q2308 (by decide)) rfl rfl (Nat.le_of_ble_eq_true rfl) dX4_bargain_151 (fun r8 u7 => ?_)
          refine v_icmp_gt C 210 (by decide) dX4_bargain_154 (fun _ => ?_) (fun _ => ?_)
          · refine v_iinc C 1 [(8, .int (x8 + 1)), (10, .int v4), (9, .int v2), (0, .ref g.1), (1, .int p1), (2, .int p2), (3, .int p3), (4, .int x4), (5, .int x5), (6, .int x6), (7, .int x7)] 10 rfl (by decide) (by decide) rfl dX4_bargain_210 ?_
            refine v_goto C 91 (by decide) dX4_bargain_213 ?_
            refine v_sub [3, 4, 5, 6, 7, 8, 9, 10, 0] rfl ?_
            exact hk x4 x5 x6 x7 (x8 + 1) u7
          · refine v_sub [2, 3, 4, 5, 6, 7, 8, 9, 10, 1, 0] rfl ?_
            exact w4_bargain_157 C p1 p2 p3 k hk x4 x5 x6 x7 x8 v2 v4 u7
        · refine v_sub [2, 3, 4, 5, 6, 7, 8, 9, 10, 1, 0] rfl ?_
          exact w4_bargain_157 C p1 p2 p3 k hk x4 x5 x6 x7 x8 v2 v4 u
      · refine v_goto C 210 (by decide) dX4_bargain_123 ?_
        refine v_iinc C 1 [(8, .int (x8 + 1)), (10, .int v4), (9, .int v2), (0, .ref g.1), (1, .int p1), (2, .int p2), (3, .int p3), (4, .int x4), (5, .int x5), (6, .int x6), (7, .int x7)] 10 rfl (by decide) (by decide) rfl dX4_bargain_210 ?_
        refine v_goto C 91 (by decide) dX4_bargain_213 ?_
        refine v_sub [3, 4, 5, 6, 7, 8, 9, 10, 0] rfl ?_
        exact hk x4 x5 x6 x7 (x8 + 1) u
def f4_bargain_64 (p1 : Int32) (p2 : Int32) (p3 : Int32) (s0 : Int32) (u : MS) : Option (Int32 × MS) :=
  mb (f4_friendOf0 p2 u) fun r2 u1 =>
  if r2 = (-1) then
    ml5 (f4_bargain_91 p1 p2 p3) FUEL s0 0 0 (-1) 0 u1
  else
    ml5 (f4_bargain_91 p1 p2 p3) FUEL s0 1 0 (-1) 0 u1
theorem w4_bargain_64 {p : Program} {e : Env} {s : State} {m : MethodId} {args : Array Value} {below : List Frame} {meth : Method} {c : Code} (C : Cx t p s m args meth c yX4_bargain cX4_bargain 11 (some .int)) (p1 : Int32) (p2 : Int32) (p3 : Int32) (s0 : Int32) (u : MS) : VM mkI t g p l e LV_bargain s m args below meth c 11 64 [(0, .ref g.1), (1, .int p1), (2, .int p2), (3, .int p3)] [.int s0] u (f4_bargain_64 p1 p2 p3 s0 u) := by
  unfold f4_bargain_64
  refine v_istore C [(4, .int s0), (0, .ref g.1), (1, .int p1), (2, .int p2), (3, .int p3)] (by decide) rfl dX4_bargain_64 ?_
  refine v_aload_n C 1 rfl rfl dX4_bargain_66 ?_
  refine v_iload_n C 3 rfl rfl dX4_bargain_67 ?_
  refine v_callVM C [.int p2] [] (ct4_friendOf0 t g l p2 u) (cw4_friendOf0 C q2304 (by decide)) rfl rfl (Nat.le_of_ble_eq_true rfl) dX4_bargain_68 (fun r2 u1 => ?_)
  refine v_iconst C (-1) (by decide) dX4_bargain_71 ?_
  refine v_icmp_ne C 79 (by decide) dX4_bargain_72 (fun _ => ?_) (fun _ => ?_)
  · refine v_iconst C 0 (by decide) dX4_bargain_75 ?_
    refine v_goto C 80 (by decide) dX4_bargain_76 ?_
    refine v_istore C [(5, .int 0), (4, .int s0), (0, .ref g.1), (1, .int p1), (2, .int p2), (3, .int p3)] (by decide) rfl dX4_bargain_80 ?_
    refine v_iconst C 0 (by decide) dX4_bargain_82 ?_
    refine v_istore C [(6, .int 0), (5, .int 0), (4, .int s0), (0, .ref g.1), (1, .int p1), (2, .int p2), (3, .int p3)] (by decide) rfl dX4_bargain_83 ?_
    refine v_iconst C (-1) (by decide) dX4_bargain_85 ?_
    refine v_istore C [(7, .int (-1)), (6, .int 0), (5, .int 0), (4, .int s0), (0, .ref g.1), (1, .int p1), (2, .int p2), (3, .int p3)] (by decide) rfl dX4_bargain_86 ?_
    refine v_iconst C 0 (by decide) dX4_bargain_88 ?_
    refine v_istore C [(8, .int 0), (7, .int (-1)), (6, .int 0), (5, .int 0), (4, .int s0), (0, .ref g.1), (1, .int p1), (2, .int p2), (3, .int p3)] (by decide) rfl dX4_bargain_89 ?_
    refine v_sub [5, 6, 7, 8, 4, 3, 2, 1, 0] rfl ?_
    exact w4_bargain_91 C p1 p2 p3 FUEL s0 0 0 (-1) 0 u1
  · refine v_iconst C 1 (by decide) dX4_bargain_79 ?_
    refine v_istore C [(5, .int 1), (4, .int s0), (0, .ref g.1), (1, .int p1), (2, .int p2), (3, .int p3)] (by decide) rfl dX4_bargain_80 ?_
    refine v_iconst C 0 (by decide) dX4_bargain_82 ?_
    refine v_istore C [(6, .int 0), (5, .int 1), (4, .int s0), (0, .ref g.1), (1, .int p1), (2, .int p2), (3, .int p3)] (by decide) rfl dX4_bargain_83 ?_
    refine v_iconst C (-1) (by decide) dX4_bargain_85 ?_
    refine v_istore C [(7, .int (-1)), (6, .int 0), (5, .int 1), (4, .int s0), (0, .ref g.1), (1, .int p1), (2, .int p2), (3, .int p3)] (by decide) rfl dX4_bargain_86 ?_
    refine v_iconst C 0 (by decide) dX4_bargain_88 ?_
    refine v_istore C [(8, .int 0), (7, .int (-1)), (6, .int 0), (5, .int 1), (4, .int s0), (0, .ref g.1), (1, .int p1), (2, .int p2), (3, .int p3)] (by decide) rfl dX4_bargain_89 ?_
    refine v_sub [5, 6, 7, 8, 4, 3, 2, 1, 0] rfl ?_
    exact w4_bargain_91 C p1 p2 p3 FUEL s0 1 0 (-1) 0 u1
def f4_bargain_41 (p1 : Int32) (p2 : Int32) (p3 : Int32) (s1 : Int32) (u : MS) : Option (Int32 × MS) :=
  mb (f4_right s1 2 u) fun r2 u1 =>
  if r2 = 0 then
    some (0, u1)
  else
    mb (f4_friendOf0 p1 u1) fun r4 u3 =>
    if r4 = (-1) then
      f4_bargain_64 p1 p2 p3 0 u3
    else
      f4_bargain_64 p1 p2 p3 1 u3
theorem w4_bargain_41 {p : Program} {e : Env} {s : State} {m : MethodId} {args : Array Value} {below : List Frame} {meth : Method} {c : Code} (C : Cx t p s m args meth c yX4_bargain cX4_bargain 11 (some .int)) (p1 : Int32) (p2 : Int32) (p3 : Int32) (s1 : Int32) (u : MS) : VM mkI t g p l e LV_bargain s m args below meth c 11 41 [(0, .ref g.1), (1, .int p1), (2, .int p2), (3, .int p3)] [.int s1, .ref g.1] u (f4_bargain_41 p1 p2 p3 s1 u) := by
  unfold f4_bargain_41
  refine v_iconst C 2 (by decide) dX4_bargain_41 ?_
  refine v_callVM C [.int s1, .int 2] [] (ct4_right t g l s1 2 u) (cw4_right C q1894 (by decide)) rfl rfl (Nat.le_of_ble_eq_true rfl) dX4_bargain_42 (fun r2 u1 => ?_)
  refine v_if_ne C 50 (by decide) dX4_bargain_45 (fun _ => ?_) (fun _ => ?_)
  · refine v_iconst C 0 (by decide) dX4_bargain_48 ?_
    exact v_iretM C dX4_bargain_49
  · refine v_aload_n C 0 rfl rfl dX4_bargain_50 ?_
    refine v_iload_n C 1 rfl rfl dX4_bargain_51 ?_
    refine v_callVM C [.int p1] [] (ct4_friendOf0 t g l p1 u1) (cw4_friendOf0 C q2304 (by decide)) rfl rfl (Nat.le_of_ble_eq_true rfl) dX4_bargain_52 (fun r4 u3 => ?_)
    refine v_iconst C (-1) (by decide) dX4_bargain_55 ?_
    refine v_icmp_ne C 63 (by decide) dX4_bargain_56 (fun _ => ?_) (fun _ => ?_)
    · refine v_iconst C 0 (by decide) dX4_bargain_59 ?_
      refine v_goto C 64 (by decide) dX4_bargain_60 ?_
      exact w4_bargain_64 C p1 p2 p3 0 u3
    · refine v_iconst C 1 (by decide) dX4_bargain_63 ?_
      exact w4_bargain_64 C p1 p2 p3 1 u3
def f4_bargain (p1 : Int32) (p2 : Int32) (p3 : Int32) (u : MS) : Option (Int32 × MS) :=
  mlet (mS u 0 0) fun u1 =>
  mb (f4_isMaster p1 u1) fun r3 u2 =>
  if r3 = 0 then
    some (0, u2)
  else
    mb (f4_isMaster p2 u2) fun r5 u4 =>
    if r5 = 0 then
      some (0, u4)
    else
      mb (f4_isWhat p3 1 u4) fun r7 u6 =>
      if r7 = 0 then
        some (0, u6)
      else
        if p1 = p2 then
          f4_bargain_41 p1 p2 p3 0 u6
        else
          f4_bargain_41 p1 p2 p3 1 u6
theorem ct4_bargain (t : TT) (g : GM) (l : Launch) (p1 : Int32) (p2 : Int32) (p3 : Int32) (u : MS) : CtM mkI t g l yX4_bargain cX4_bargain 11 (some .int) LV_bargain [.ref g.1, .int p1, .int p2, .int p3] u (f4_bargain p1 p2 p3 u) := by
  refine ctM_of [(0, .ref g.1), (1, .int p1), (2, .int p2), (3, .int p3)] rfl (Nat.le_of_ble_eq_true rfl) rfl (fun p e s m args below meth c C => ?_)
  unfold f4_bargain
  refine v_aload_n C 0 rfl rfl dX4_bargain_0 ?_
  refine v_iconst C 0 (by decide) dX4_bargain_1 ?_
  refine v_putMi C 0 (by decide) (by decide) q1615 rfl rfl (by decide +kernel) dX4_bargain_2 (fun u1 => ?_)
  refine v_aload_n C 0 rfl rfl dX4_bargain_5 ?_
  refine v_iload_n C 1 rfl rfl dX4_bargain_6 ?_
  refine v_callVM C [.int p1] [] (ct4_isMaster t g l p1 u1) (cw4_isMaster C q2060 (by decide)) rfl rfl (Nat.le_of_ble_eq_true rfl) dX4_bargain_7 (fun r3 u2 => ?_)
  refine v_if_eq C 48 (by decide) dX4_bargain_10 (fun _ => ?_) (fun _ => ?_)
  · refine v_iconst C 0 (by decide) dX4_bargain_48 ?_
    exact v_iretM C dX4_bargain_49
  · refine v_aload_n C 0 rfl rfl dX4_bargain_13 ?_
    refine v_iload_n C 2 rfl rfl dX4_bargain_14 ?_
    refine v_callVM C [.int p2] [] (ct4_isMaster t g l p2 u2) (cw4_isMaster C q2060 (by decide)) rfl rfl (Nat.le_of_ble_eq_true rfl) dX4_bargain_15 (fun r5 u4 => ?_)
    refine v_if_eq C 48 (by decide) dX4_bargain_18 (fun _ => ?_) (fun _ => ?_)
    · refine v_iconst C 0 (by decide) dX4_bargain_48 ?_
      exact v_iretM C dX4_bargain_49
    · refine v_aload_n C 0 rfl rfl dX4_bargain_21 ?_
      refine v_iload_n C 3 rfl rfl dX4_bargain_22 ?_
      refine v_iconst C 1 (by decide) dX4_bargain_23 ?_
      refine v_callVM C [.int p3, .int 1] [] (ct4_isWhat t g l p3 1 u4) (cw4_isWhat C q2064 (by decide)) rfl rfl (Nat.le_of_ble_eq_true rfl) dX4_bargain_24 (fun r7 u6 => ?_)
      refine v_if_eq C 48 (by decide) dX4_bargain_27 (fun _ => ?_) (fun _ => ?_)
      · refine v_iconst C 0 (by decide) dX4_bargain_48 ?_
        exact v_iretM C dX4_bargain_49
      · refine v_aload_n C 0 rfl rfl dX4_bargain_30 ?_
        refine v_iload_n C 1 rfl rfl dX4_bargain_31 ?_
        refine v_iload_n C 2 rfl rfl dX4_bargain_32 ?_
        refine v_icmp_eq C 40 (by decide) dX4_bargain_33 (fun _ => ?_) (fun _ => ?_)
        · refine v_iconst C 0 (by decide) dX4_bargain_40 ?_
          exact w4_bargain_41 C p1 p2 p3 0 u6
        · refine v_iconst C 1 (by decide) dX4_bargain_36 ?_
          refine v_goto C 41 (by decide) dX4_bargain_37 ?_
          exact w4_bargain_41 C p1 p2 p3 1 u6
theorem cw4_bargain {t : TT} {p : Program} {s : State} {m : MethodId} {args : Array Value} {meth : Method} {c : Code} {y0 : MethodName} {cc0 : ByteArray} {nL0 : Nat} {ret0 : Option FieldType} (C : Cx t p s m args meth c y0 cc0 nL0 ret0) {index lv : Nat} (hq : Cond.methodLink y0.cls index yX4_bargain ∈ lw_all) (hR : LV_bargain + 1 ≤ lv) : CallW (rmM lv) s args y0.cls RX4 index yX4_bargain cX4_bargain 11 (some .int) (ws_ yX4_bargain cX4_bargain 11 (some .int)) (rmM LV_bargain) 0 0 3 :=
  cwV 3 C.2.2.2.2.1 (lw_V hq q2301 q2302 q127 q2303) rfl rfl rfl (by decide +kernel) ⟨hR, by show 8 + (11 + 11) + 100 * LV_bargain ≤ 100 * lv; omega⟩
abbrev LV_draw : Nat := 0
def f4_draw (p1 : Int32) (u : MS) : Option (Int32 × MS) :=
  mlet (mS u 79 (((u.1 79) * 1103515245) + 12345)) fun u1 =>
  mchk (p1 != 0) <|
  some (((((u1.1 79) >>> ((16 : Int32) &&& 31)) &&& 32767) - (((u1.1 79) >>> ((16 : Int32) &&& 31)) &&& 32767) / p1 * p1), u1)
theorem ct4_draw (t : TT) (g : GM) (l : Launch) (p1 : Int32) (u : MS) : CtM mkI t g l yX4_draw cX4_draw 2 (some .int) LV_draw [.ref g.1, .int p1] u (f4_draw p1 u) := by
  refine ctM_of [(0, .ref g.1), (1, .int p1)] rfl (Nat.le_of_ble_eq_true rfl) rfl (fun p e s m args below meth c C => ?_)
  unfold f4_draw
  refine v_aload_n C 0 rfl rfl dX4_draw_0 ?_
  refine v_aload_n C 0 rfl rfl dX4_draw_1 ?_
  refine v_getMi C 79 (by decide) (by decide) q1694 rfl dX4_draw_2 ?_
  refine v_ldcw C q2324 dX4_draw_5 ?_
  refine v_imul C dX4_draw_8 ?_
  refine v_sipush C 12345 (by decide) dX4_draw_9 ?_
  refine v_iadd C dX4_draw_12 ?_
  refine v_putMi C 79 (by decide) (by decide) q1694 rfl rfl (by decide +kernel) dX4_draw_13 (fun u1 => ?_)
  refine v_aload_n C 0 rfl rfl dX4_draw_16 ?_
  refine v_getMi C 79 (by decide) (by decide) q1694 rfl dX4_draw_17 ?_
  refine v_bipush C 16 (by decide) dX4_draw_20 ?_
  refine v_ishr C dX4_draw_22 ?_
  refine v_sipush C 32767 (by decide) dX4_draw_23 ?_
  refine v_iand C dX4_draw_26 ?_
  refine v_iload_n C 1 rfl rfl dX4_draw_27 ?_
  refine v_chk (fun h2 => ?_)
  refine v_irem C (bne_iff_ne.mp h2) dX4_draw_28 ?_
  exact v_iretM C dX4_draw_29
theorem cw4_draw {t : TT} {p : Program} {s : State} {m : MethodId} {args : Array Value} {meth : Method} {c : Code} {y0 : MethodName} {cc0 : ByteArray} {nL0 : Nat} {ret0 : Option FieldType} (C : Cx t p s m args meth c y0 cc0 nL0 ret0) {index lv : Nat} (hq : Cond.methodLink y0.cls index yX4_draw ∈ lw_all) (hR : LV_draw + 1 ≤ lv) : CallW (rmM lv) s args y0.cls RX4 index yX4_draw cX4_draw 2 (some .int) (ws_ yX4_draw cX4_draw 2 (some .int)) (rmM LV_draw) 0 0 1 :=
  cwV 1 C.2.2.2.2.1 (lw_V hq q2322 qs119 q127 q2323) rfl rfl rfl (by decide +kernel) ⟨hR, by show 8 + (2 + 11) + 100 * LV_draw ≤ 100 * lv; omega⟩
abbrev LV_drawsMorning : Nat := 3
def f4_drawsMorning_52 (k : Int32 → MS → Option (Unit × MS)) (x3 : Int32) (u : MS) : Option (Unit × MS) :=
  if (u.1 4) ≤ x3 then
    mlet (mA u 68 (0 : Int32).toNatClampNeg ((u.2.1 68 (0 : Int32).toNatClampNeg) + 1)) fun u1 =>
    some ((), u1)
  else
    mchk (inbM (4 + x3) 68) <|
    if (u.2.1 68 (4 + x3).toNatClampNeg) = (-1) then
      k (x3 + 1) u
    else
      mb (f4_isDead 68 x3 u) fun r3 u2 =>
      if r3 = 0 then
        mb (f4_isAway 68 x3 u2) fun r5 u4 =>
        if r5 = 0 then
          mb (f4_draw 10 u4) fun r7 u6 =>
          mchk (inbM (22 + x3) 68) <|
          mchk (inbM (u6.2.1 68 (22 + x3).toNatClampNeg) 8) <|
          if (u6.2.1 8 (u6.2.1 68 (22 + x3).toNatClampNeg).toNatClampNeg) ≤ r7 then
            k (x3 + 1) u6
          else
            mb (f4_dies 68 x3 u6) fun _ u10 =>
            k (x3 + 1) u10
        else
          k (x3 + 1) u4
      else
        k (x3 + 1) u2
theorem w4_drawsMorning_52 {p : Program} {e : Env} {s : State} {m : MethodId} {args : Array Value} {below : List Frame} {meth : Method} {c : Code} (C : Cx t p s m args meth c yX4_drawsMorning cX4_drawsMorning 4 none) (n : Nat) (x3 : Int32) (u : MS) : VM mkU t g p l e LV_drawsMorning s m args below meth c 4 52 [(0, .ref g.1), (3, .int x3)] [] u (ml1 (f4_drawsMorning_52) n x3 u) := by
  refine vl1 (L := fun x3 => [(0, .ref g.1), (3, .int x3)]) (fun k hk x3 u => ?_) n x3 u
  unfold f4_drawsMorning_52
  refine v_iload_n C 1 rfl rfl dX4_drawsMorning_52 ?_
  refine v_aload_n C 0 rfl rfl dX4_drawsMorning_53 ?_
  refine v_getMi C 4 (by decide) (by decide) q1619 rfl dX4_drawsMorning_54 ?_
  refine v_icmp_ge C 136 (by decide) dX4_drawsMorning_57 (fun _ => ?_) (fun _ => ?_)
  · refine v_aload_n C 0 rfl rfl dX4_drawsMorning_136 ?_
    refine v_getMa C 68 (by decide) (by decide) q1683 rfl dX4_drawsMorning_137 ?_
    refine v_iconst C 0 (by decide) dX4_drawsMorning_140 ?_
    refine v_dup2 C rfl rfl dX4_drawsMorning_141 ?_
    refine v_ialdM C (by decide) dX4_drawsMorning_142 ?_
    refine v_iconst C 1 (by decide) dX4_drawsMorning_143 ?_
    refine v_iadd C dX4_drawsMorning_144 ?_
    refine v_iastM C (by decide) dX4_drawsMorning_145 (fun u1 => ?_)
    exact v_vretM C dX4_drawsMorning_146
  · refine v_aload_n C 0 rfl rfl dX4_drawsMorning_60 ?_
    refine v_getMa C 68 (by decide) (by decide) q1683 rfl dX4_drawsMorning_61 ?_
    refine v_iconst C 4 (by decide) dX4_drawsMorning_64 ?_
    refine v_iload_n C 1 rfl rfl dX4_drawsMorning_65 ?_
    refine v_iadd C dX4_drawsMorning_66 ?_
    refine v_chk (fun h1 => ?_)
    refine v_ialdM C h1 dX4_drawsMorning_67 ?_
    refine v_iconst C (-1) (by decide) dX4_drawsMorning_68 ?_
    refine v_icmp_eq C 130 (by decide) dX4_drawsMorning_69 (fun _ => ?_) (fun _ => ?_)
    · refine v_iinc C 1 [(3, .int (x3 + 1)), (0, .ref g.1)] 1 rfl (by decide) (by decide) rfl dX4_drawsMorning_130 ?_
      refine v_goto C 52 (by decide) dX4_drawsMorning_133 ?_
      refine v_sub [1, 0] rfl ?_
      exact hk (x3 + 1) u
    · refine v_aload_n C 0 rfl rfl dX4_drawsMorning_72 ?_
      refine v_getMa C 68 (by decide) (by decide) q1683 rfl dX4_drawsMorning_73 ?_
      refine v_iload_n C 1 rfl rfl dX4_drawsMorning_76 ?_
      refine v_callSM C [.ref (g.2 68), .int x3] [] (ct4_isDead t g l 68 x3 u) (cw4_isDead C q2149 (by decide)) rfl rfl (Nat.le_of_ble_eq_true rfl) dX4_drawsMorning_77 (fun r3 u2 => ?_)
      refine v_if_ne C 130 (by decide) dX4_drawsMorning_80 (fun _ => ?_) (fun _ => ?_)
      · refine v_aload_n C 0 rfl rfl dX4_drawsMorning_83 ?_
        refine v_aload_n C 0 rfl rfl dX4_drawsMorning_84 ?_
        refine v_getMa C 68 (by decide) (by decide) q1683 rfl dX4_drawsMorning_85 ?_
        refine v_iload_n C 1 rfl rfl dX4_drawsMorning_88 ?_
        refine v_callVM C [.ref (g.2 68), .int x3] [] (ct4_isAway t g l 68 x3 u2) (cw4_isAway C q2048 (by decide)) rfl rfl (Nat.le_of_ble_eq_true rfl) dX4_drawsMorning_89 (fun r5 u4 => ?_)
        refine v_if_eq C 98 (by decide) dX4_drawsMorning_92 (fun _ => ?_) (fun _ => ?_)
        · refine v_aload_n C 0 rfl rfl dX4_drawsMorning_98 ?_
          refine v_bipush C 10 (by decide) dX4_drawsMorning_99 ?_
          refine v_callVM C [.int 10] [] (ct4_draw t g l 10 u4) (cw4_draw C q2320 (by decide)) rfl rfl (Nat.le_of_ble_eq_true rfl) dX4_drawsMorning_101 (fun r7 u6 => ?_)
          refine v_aload_n C 0 rfl rfl dX4_drawsMorning_104 ?_
          refine v_getMa C 8 (by decide) (by decide) q1623 rfl dX4_drawsMorning_105 ?_
          refine v_aload_n C 0 rfl rfl dX4_drawsMorning_108 ?_
          refine v_getMa C 68 (by decide) (by decide) q1683 rfl dX4_drawsMorning_109 ?_
          refine v_bipush C 22 (by decide) dX4_drawsMorning_112 ?_
          refine v_iload_n C 1 rfl rfl dX4_drawsMorning_114 ?_
          refine v_iadd C dX4_drawsMorning_115 ?_
          refine v_chk (fun h8 => ?_)
          refine v_ialdM C h8 dX4_drawsMorning_116 ?_
          refine v_chk (fun h9 => ?_)
          refine v_ialdM C h9 dX4_drawsMorning_117 ?_
          refine v_icmp_ge C 130 (by decide) dX4_drawsMorning_118 (fun _ => ?_) (fun _ => ?_)
          · refine v_iinc C 1 [(3, .int (x3 + 1)), (0, .ref g.1)] 1 rfl (by decide) (by decide) rfl dX4_drawsMorning_130 ?_
            refine v_goto C 52 (by decide) dX4_drawsMorning_133 ?_
            refine v_sub [1, 0] rfl ?_
            exact hk (x3 + 1) u6
          · refine v_aload_n C 0 rfl rfl dX4_drawsMorning_121 ?_
            refine v_aload_n C 0 rfl rfl dX4_drawsMorning_122 ?_
            refine v_getMa C 68 (by decide) (by decide) q1683 rfl dX4_drawsMorning_123 ?_
            refine v_iload_n C 1 rfl rfl dX4_drawsMorning_126 ?_
            refine v_callVM C [.ref (g.2 68), .int x3] [] (ct4_dies t g l 68 x3 u6) (cw4_dies C q2152 (by decide)) rfl rfl (Nat.le_of_ble_eq_true rfl) dX4_drawsMorning_127 (fun _ u10 => ?_)
            refine v_iinc C 1 [(3, .int (x3 + 1)), (0, .ref g.1)] 1 rfl (by decide) (by decide) rfl dX4_drawsMorning_130 ?_
            refine v_goto C 52 (by decide) dX4_drawsMorning_133 ?_
            refine v_sub [1, 0] rfl ?_
            exact hk (x3 + 1) u10
        · refine v_goto C 130 (by decide) dX4_drawsMorning_95 ?_
          refine v_iinc C 1 [(3, .int (x3 + 1)), (0, .ref g.1)] 1 rfl (by decide) (by decide) rfl dX4_drawsMorning_130 ?_
          refine v_goto C 52 (by decide) dX4_drawsMorning_133 ?_
          refine v_sub [1, 0] rfl ?_
          exact hk (x3 + 1) u4
      · refine v_iinc C 1 [(3, .int (x3 + 1)), (0, .ref g.1)] 1 rfl (by decide) (by decide) rfl dX4_drawsMorning_130 ?_
        refine v_goto C 52 (by decide) dX4_drawsMorning_133 ?_
        refine v_sub [1, 0] rfl ?_
        exact hk (x3 + 1) u2
def f4_drawsMorning (u : MS) : Option (Unit × MS) :=
  mb (f4_draw (u.1 1) u) fun r2 u1 =>
  mb (f4_draw (u1.1 4) u1) fun r4 u3 =>
  mchk (inbM (4 + r4) 68) <|
  if (u3.2.1 68 (4 + r4).toNatClampNeg) = (-1) then
    if (u3.2.1 68 (3 : Int32).toNatClampNeg) = 1 then
      mb (f4_writes0 68 r4 r2 u3) fun _ u6 =>
      ml1 (f4_drawsMorning_52) FUEL 0 u6
    else
      ml1 (f4_drawsMorning_52) FUEL 0 u3
  else
    ml1 (f4_drawsMorning_52) FUEL 0 u3
theorem ct4_drawsMorning (t : TT) (g : GM) (l : Launch) (u : MS) : CtM mkU t g l yX4_drawsMorning cX4_drawsMorning 4 none LV_drawsMorning [.ref g.1] u (f4_drawsMorning u) := by
  refine ctM_of [(0, .ref g.1)] rfl (Nat.le_of_ble_eq_true rfl) rfl (fun p e s m args below meth c C => ?_)
  unfold f4_drawsMorning
  refine v_aload_n C 0 rfl rfl dX4_drawsMorning_0 ?_
  refine v_aload_n C 0 rfl rfl dX4_drawsMorning_1 ?_
  refine v_getMi C 1 (by decide) (by decide) q1616 rfl dX4_drawsMorning_2 ?_
  refine v_callVM C [.int (u.1 1)] [] (ct4_draw t g l (u.1 1) u) (cw4_draw C q2320 (by decide)) rfl rfl (Nat.le_of_ble_eq_true rfl) dX4_drawsMorning_5 (fun r2 u1 => ?_)
  refine v_istore_n C [(1, .int r2), (0, .ref g.1)] rfl (by decide) rfl dX4_drawsMorning_8 ?_
  refine v_aload_n C 1 rfl rfl dX4_drawsMorning_9 ?_
  refine v_aload_n C 1 rfl rfl dX4_drawsMorning_10 ?_
  refine v_getMi C 4 (by decide) (by decide) q1619 rfl dX4_drawsMorning_11 ?_
  refine v_callVM C [.int (u1.1 4)] [] (ct4_draw t g l (u1.1 4) u1) (cw4_draw C q2320 (by decide)) rfl rfl (Nat.le_of_ble_eq_true rfl) dX4_drawsMorning_14 (fun r4 u3 => ?_)
  refine v_istore_n C [(2, .int r4), (1, .int r2), (0, .ref g.1)] rfl (by decide) rfl dX4_drawsMorning_17 ?_
  refine v_aload_n C 2 rfl rfl dX4_drawsMorning_18 ?_
  refine v_getMa C 68 (by decide) (by decide) q1683 rfl dX4_drawsMorning_19 ?_
  refine v_iconst C 4 (by decide) dX4_drawsMorning_22 ?_
  refine v_iload_n C 0 rfl rfl dX4_drawsMorning_23 ?_
  refine v_iadd C dX4_drawsMorning_24 ?_
  refine v_chk (fun h5 => ?_)
  refine v_ialdM C h5 dX4_drawsMorning_25 ?_
  refine v_iconst C (-1) (by decide) dX4_drawsMorning_26 ?_
  refine v_icmp_ne C 50 (by decide) dX4_drawsMorning_27 (fun _ => ?_) (fun _ => ?_)
  · refine v_aload_n C 2 rfl rfl dX4_drawsMorning_30 ?_
    refine v_getMa C 68 (by decide) (by decide) q1683 rfl dX4_drawsMorning_31 ?_
    refine v_iconst C 3 (by decide) dX4_drawsMorning_34 ?_
    refine v_ialdM C (by decide) dX4_drawsMorning_35 ?_
    refine v_iconst C 1 (by decide) dX4_drawsMorning_36 ?_
    refine v_icmp_ne C 50 (by decide) dX4_drawsMorning_37 (fun _ => ?_) (fun _ => ?_)
    · refine v_aload_n C 2 rfl rfl dX4_drawsMorning_40 ?_
      refine v_aload_n C 2 rfl rfl dX4_drawsMorning_41 ?_
      refine v_getMa C 68 (by decide) (by decide) q1683 rfl dX4_drawsMorning_42 ?_
      refine v_iload_n C 0 rfl rfl dX4_drawsMorning_45 ?_
      refine v_iload_n C 1 rfl rfl dX4_drawsMorning_46 ?_
      refine v_callVM C [.ref (g.2 68), .int r4, .int r2] [] (ct4_writes0 t g l 68 r4 r2 u3) (cw4_writes0 C q2137 (by decide)) rfl rfl (Nat.le_of_ble_eq_true rfl) dX4_drawsMorning_47 (fun _ u6 => ?_)
      refine v_iconst C 0 (by decide) dX4_drawsMorning_50 ?_
      refine v_istore_n C [(3, .int 0), (2, .int r4), (1, .int r2), (0, .ref g.1)] rfl (by decide) rfl dX4_drawsMorning_51 ?_
      refine v_sub [3, 0] rfl ?_
      exact w4_drawsMorning_52 C FUEL 0 u6
    · refine v_iconst C 0 (by decide) dX4_drawsMorning_50 ?_
      refine v_istore_n C [(3, .int 0), (2, .int r4), (1, .int r2), (0, .ref g.1)] rfl (by decide) rfl dX4_drawsMorning_51 ?_
      refine v_sub [3, 0] rfl ?_
      exact w4_drawsMorning_52 C FUEL 0 u3
  · refine v_iconst C 0 (by decide) dX4_drawsMorning_50 ?_
    refine v_istore_n C [(3, .int 0), (2, .int r4), (1, .int r2), (0, .ref g.1)] rfl (by decide) rfl dX4_drawsMorning_51 ?_
    refine v_sub [3, 0] rfl ?_
    exact w4_drawsMorning_52 C FUEL 0 u3
theorem cw4_drawsMorning {t : TT} {p : Program} {s : State} {m : MethodId} {args : Array Value} {meth : Method} {c : Code} {y0 : MethodName} {cc0 : ByteArray} {nL0 : Nat} {ret0 : Option FieldType} (C : Cx t p s m args meth c y0 cc0 nL0 ret0) {index lv : Nat} (hq : Cond.methodLink y0.cls index yX4_drawsMorning ∈ lw_all) (hR : LV_drawsMorning + 1 ≤ lv) : CallW (rmM lv) s args y0.cls RX4 index yX4_drawsMorning cX4_drawsMorning 4 none (ws_ yX4_drawsMorning cX4_drawsMorning 4 none) (rmM LV_drawsMorning) 0 0 0 :=
  cwV 0 C.2.2.2.2.1 (lw_V hq q2318 qs118 q127 q2319) rfl rfl rfl (by decide +kernel) ⟨hR, by show 8 + (4 + 11) + 100 * LV_drawsMorning ≤ 100 * lv; omega⟩
abbrev LV_lists : Nat := 4
def f4_lists_79 (p1 : Int32) (p2 : Int32) (p3 : Int32) (k : Int32 → Int32 → MS → Option (Int32 × MS)) (x4 : Int32) (x5 : Int32) (u : MS) : Option (Int32 × MS) :=
  if (u.1 1) ≤ x5 then
    if p3 = 0 then
      mb (f4_bits (u.2.1 68 (1 : Int32).toNatClampNeg) u) fun r2 u1 =>
      some (r2, u1)
    else
      if p3 = 1 then
        some (x4, u)
      else
        some ((u.1 60), u)
  else
    mchk (inbM (31 + x5) 68) <|
    mlet (x4 + (u.2.1 68 (31 + x5).toNatClampNeg)) fun v2 =>
    k v2 (x5 + 1) u
theorem w4_lists_79 {p : Program} {e : Env} {s : State} {m : MethodId} {args : Array Value} {below : List Frame} {meth : Method} {c : Code} (C : Cx t p s m args meth c yX4_lists cX4_lists 6 (some .int)) (p1 : Int32) (p2 : Int32) (p3 : Int32) (n : Nat) (x4 : Int32) (x5 : Int32) (u : MS) : VM mkI t g p l e LV_lists s m args below meth c 6 79 [(0, .ref g.1), (3, .int p3), (4, .int x4), (5, .int x5)] [] u (ml2 (f4_lists_79 p1 p2 p3) n x4 x5 u) := by
  refine vl2 (L := fun x4 x5 => [(0, .ref g.1), (3, .int p3), (4, .int x4), (5, .int x5)]) (fun k hk x4 x5 u => ?_) n x4 x5 u
  unfold f4_lists_79
  refine v_iload C 3 rfl dX4_lists_79 ?_
  refine v_aload_n C 0 rfl rfl dX4_lists_81 ?_
  refine v_getMi C 1 (by decide) (by decide) q1616 rfl dX4_lists_82 ?_
  refine v_icmp_ge C 109 (by decide) dX4_lists_85 (fun _ => ?_) (fun _ => ?_)
  · refine v_iload_n C 1 rfl rfl dX4_lists_109 ?_
    refine v_if_ne C 125 (by decide) dX4_lists_110 (fun _ => ?_) (fun _ => ?_)
    · refine v_aload_n C 0 rfl rfl dX4_lists_113 ?_
      refine v_getMa C 68 (by decide) (by decide) q1683 rfl dX4_lists_114 ?_
      refine v_iconst C 1 (by decide) dX4_lists_117 ?_
      refine v_ialdM C (by decide) dX4_lists_118 ?_
      refine v_callSM C [.int (u.2.1 68 (1 : Int32).toNatClampNeg)] [] (ct4_bits t g l (u.2.1 68 (1 : Int32).toNatClampNeg) u) (cw4_bits C q2103 (by decide)) rfl rfl (Nat.le_of_ble_eq_true rfl) dX4_lists_119 (fun r2 u1 => ?_)
      refine v_goto C 139 (by decide) dX4_lists_122 ?_
      exact v_iretM C dX4_lists_139
    · refine v_iload_n C 1 rfl rfl dX4_lists_125 ?_
      refine v_iconst C 1 (by decide) dX4_lists_126 ?_
      refine v_icmp_ne C 135 (by decide) dX4_lists_127 (fun _ => ?_) (fun _ => ?_)
      · refine v_iload C 2 rfl dX4_lists_130 ?_
        refine v_goto C 139 (by decide) dX4_lists_132 ?_
        exact v_iretM C dX4_lists_139
      · refine v_aload_n C 0 rfl rfl dX4_lists_135 ?_
        refine v_getMi C 60 (by decide) (by decide) q1675 rfl dX4_lists_136 ?_
        exact v_iretM C dX4_lists_139
  · refine v_iload C 2 rfl dX4_lists_88 ?_
    refine v_aload_n C 0 rfl rfl dX4_lists_90 ?_
    refine v_getMa C 68 (by decide) (by decide) q1683 rfl dX4_lists_91 ?_
    refine v_bipush C 31 (by decide) dX4_lists_94 ?_
    refine v_iload C 3 rfl dX4_lists_96 ?_
    refine v_iadd C dX4_lists_98 ?_
    refine v_chk (fun h1 => ?_)
    refine v_ialdM C h1 dX4_lists_99 ?_
    refine v_iadd C dX4_lists_100 ?_
    refine v_topi (fun v2 => ?_)
    refine v_istore C [(4, .int v2), (0, .ref g.1), (3, .int p3), (5, .int x5)] (by decide) rfl dX4_lists_101 ?_
    refine v_iinc C 1 [(5, .int (x5 + 1)), (4, .int v2), (0, .ref g.1), (3, .int p3)] 3 rfl (by decide) (by decide) rfl dX4_lists_103 ?_
    refine v_goto C 79 (by decide) dX4_lists_106 ?_
    refine v_sub [2, 3, 1, 0] rfl ?_
    exact hk v2 (x5 + 1) u
def f4_lists_43 (p1 : Int32) (p2 : Int32) (p3 : Int32) (k : Int32 → MS → Option (Int32 × MS)) (x4 : Int32) (u : MS) : Option (Int32 × MS) :=
  if p2 ≤ x4 then
    ml2 (f4_lists_79 p1 p2 p3) FUEL 0 0 u
  else
    if (u.1 1) ≤ 0 then
      ml2 (f4_lists_79 p1 p2 p3) FUEL 0 0 u
    else
      if (u.1 4) ≤ 0 then
        ml2 (f4_lists_79 p1 p2 p3) FUEL 0 0 u
      else
        mb (f4_drawsMorning u) fun _ u1 =>
        k (x4 + 1) u1
theorem w4_lists_43 {p : Program} {e : Env} {s : State} {m : MethodId} {args : Array Value} {below : List Frame} {meth : Method} {c : Code} (C : Cx t p s m args meth c yX4_lists cX4_lists 6 (some .int)) (p1 : Int32) (p2 : Int32) (p3 : Int32) (n : Nat) (x4 : Int32) (u : MS) : VM mkI t g p l e LV_lists s m args below meth c 6 43 [(0, .ref g.1), (2, .int p2), (3, .int p3), (4, .int x4)] [] u (ml1 (f4_lists_43 p1 p2 p3) n x4 u) := by
  refine vl1 (L := fun x4 => [(0, .ref g.1), (2, .int p2), (3, .int p3), (4, .int x4)]) (fun k hk x4 u => ?_) n x4 u
  unfold f4_lists_43
  refine v_iload C 3 rfl dX4_lists_43 ?_
  refine v_iload_n C 1 rfl rfl dX4_lists_45 ?_
  refine v_icmp_ge C 73 (by decide) dX4_lists_46 (fun _ => ?_) (fun _ => ?_)
  · refine v_iconst C 0 (by decide) dX4_lists_73 ?_
    refine v_istore C [(4, .int 0), (0, .ref g.1), (2, .int p2), (3, .int p3)] (by decide) rfl dX4_lists_74 ?_
    refine v_iconst C 0 (by decide) dX4_lists_76 ?_
    refine v_istore C [(5, .int 0), (4, .int 0), (0, .ref g.1), (2, .int p2), (3, .int p3)] (by decide) rfl dX4_lists_77 ?_
    refine v_sub [2, 4, 1, 0] rfl ?_
    exact w4_lists_79 C p1 p2 p3 FUEL 0 0 u
  · refine v_aload_n C 0 rfl rfl dX4_lists_49 ?_
    refine v_getMi C 1 (by decide) (by decide) q1616 rfl dX4_lists_50 ?_
    refine v_if_le C 73 (by decide) dX4_lists_53 (fun _ => ?_) (fun _ => ?_)
    · refine v_iconst C 0 (by decide) dX4_lists_73 ?_
      refine v_istore C [(4, .int 0), (0, .ref g.1), (2, .int p2), (3, .int p3)] (by decide) rfl dX4_lists_74 ?_
      refine v_iconst C 0 (by decide) dX4_lists_76 ?_
      refine v_istore C [(5, .int 0), (4, .int 0), (0, .ref g.1), (2, .int p2), (3, .int p3)] (by decide) rfl dX4_lists_77 ?_
      refine v_sub [2, 4, 1, 0] rfl ?_
      exact w4_lists_79 C p1 p2 p3 FUEL 0 0 u
    · refine v_aload_n C 0 rfl rfl dX4_lists_56 ?_
      refine v_getMi C 4 (by decide) (by decide) q1619 rfl dX4_lists_57 ?_
      refine v_if_le C 73 (by decide) dX4_lists_60 (fun _ => ?_) (fun _ => ?_)
      · refine v_iconst C 0 (by decide) dX4_lists_73 ?_
        refine v_istore C [(4, .int 0), (0, .ref g.1), (2, .int p2), (3, .int p3)] (by decide) rfl dX4_lists_74 ?_
        refine v_iconst C 0 (by decide) dX4_lists_76 ?_
        refine v_istore C [(5, .int 0), (4, .int 0), (0, .ref g.1), (2, .int p2), (3, .int p3)] (by decide) rfl dX4_lists_77 ?_
        refine v_sub [2, 4, 1, 0] rfl ?_
        exact w4_lists_79 C p1 p2 p3 FUEL 0 0 u
      · refine v_aload_n C 0 rfl rfl dX4_lists_63 ?_
        refine v_callVM C [] [] (ct4_drawsMorning t g l u) (cw4_drawsMorning C q2316 (by decide)) rfl rfl (Nat.le_of_ble_eq_true rfl) dX4_lists_64 (fun _ u1 => ?_)
        refine v_iinc C 1 [(4, .int (x4 + 1)), (0, .ref g.1), (2, .int p2), (3, .int p3)] 3 rfl (by decide) (by decide) rfl dX4_lists_67 ?_
        refine v_goto C 43 (by decide) dX4_lists_70 ?_
        refine v_sub [1, 2, 3, 0] rfl ?_
        exact hk (x4 + 1) u1
def f4_lists (p1 : Int32) (p2 : Int32) (p3 : Int32) (u : MS) : Option (Int32 × MS) :=
  mlet (mS u 0 0) fun u1 =>
  mb (f4_isWhat p3 2 u1) fun r3 u2 =>
  if r3 = 0 then
    some (0, u2)
  else
    mb (f4_within p2 0 60 u2) fun r5 u4 =>
    mb (f4_right r5 2 u4) fun r7 u6 =>
    if r7 = 0 then
      some (0, u6)
    else
      mb (f4_begins u6) fun _ u8 =>
      mlet (mS u8 79 p1) fun u9 =>
      ml1 (f4_lists_43 p1 p2 p3) FUEL 0 u9
theorem ct4_lists (t : TT) (g : GM) (l : Launch) (p1 : Int32) (p2 : Int32) (p3 : Int32) (u : MS) : CtM mkI t g l yX4_lists cX4_lists 6 (some .int) LV_lists [.ref g.1, .int p1, .int p2, .int p3] u (f4_lists p1 p2 p3 u) := by
  refine ctM_of [(0, .ref g.1), (1, .int p1), (2, .int p2), (3, .int p3)] rfl (Nat.le_of_ble_eq_true rfl) rfl (fun p e s m args below meth c C => ?_)
  unfold f4_lists
  refine v_aload_n C 0 rfl rfl dX4_lists_0 ?_
  refine v_iconst C 0 (by decide) dX4_lists_1 ?_
  refine v_putMi C 0 (by decide) (by decide) q1615 rfl rfl (by decide +kernel) dX4_lists_2 (fun u1 => ?_)
  refine v_aload_n C 0 rfl rfl dX4_lists_5 ?_
  refine v_iload_n C 3 rfl rfl dX4_lists_6 ?_
  refine v_iconst C 2 (by decide) dX4_lists_7 ?_
  refine v_callVM C [.int p3, .int 2] [] (ct4_isWhat t g l p3 2 u1) (cw4_isWhat C q2064 (by decide)) rfl rfl (Nat.le_of_ble_eq_true rfl) dX4_lists_8 (fun r3 u2 => ?_)
  refine v_if_eq C 29 (by decide) dX4_lists_11 (fun _ => ?_) (fun _ => ?_)
  · refine v_iconst C 0 (by decide) dX4_lists_29 ?_
    exact v_iretM C dX4_lists_30
  · refine v_aload_n C 0 rfl rfl dX4_lists_14 ?_
    refine v_iload_n C 2 rfl rfl dX4_lists_15 ?_
    refine v_iconst C 0 (by decide) dX4_lists_16 ?_
    refine v_bipush C 60 (by decide) dX4_lists_17 ?_
    refine v_callSM C [.int p2, .int 0, .int 60] [.ref g.1] (ct4_within t g l p2 0 60 u2) (cw4_within C q2037 (by decide)) rfl rfl (Nat.le_of_ble_eq_true rfl) dX4_lists_19 (fun r5 u4 => ?_)
    refine v_iconst C 2 (by decide) dX4_lists_22 ?_
    refine v_callVM C [.int r5, .int 2] [] (ct4_right t g l r5 2 u4) (cw4_right C q1894 (by decide)) rfl rfl (Nat.le_of_ble_eq_true rfl) dX4_lists_23 (fun r7 u6 => ?_)
    refine v_if_ne C 31 (by decide) dX4_lists_26 (fun _ => ?_) (fun _ => ?_)
    · refine v_iconst C 0 (by decide) dX4_lists_29 ?_
      exact v_iretM C dX4_lists_30
    · refine v_aload_n C 0 rfl rfl dX4_lists_31 ?_
      refine v_callVM C [] [] (ct4_begins t g l u6) (cw4_begins C q2188 (by decide)) rfl rfl (Nat.le_of_ble_eq_true rfl) dX4_lists_32 (fun _ u8 => ?_)
      refine v_aload_n C 0 rfl rfl dX4_lists_35 ?_
      refine v_iload_n C 1 rfl rfl dX4_lists_36 ?_
      refine v_putMi C 79 (by decide) (by decide) q1694 rfl rfl (by decide +kernel) dX4_lists_37 (fun u9 => ?_)
      refine v_iconst C 0 (by decide) dX4_lists_40 ?_
      refine v_istore C [(4, .int 0), (0, .ref g.1), (1, .int p1), (2, .int p2), (3, .int p3)] (by decide) rfl dX4_lists_41 ?_
      refine v_sub [1, 3, 4, 0] rfl ?_
      exact w4_lists_43 C p1 p2 p3 FUEL 0 u9
theorem cw4_lists {t : TT} {p : Program} {s : State} {m : MethodId} {args : Array Value} {meth : Method} {c : Code} {y0 : MethodName} {cc0 : ByteArray} {nL0 : Nat} {ret0 : Option FieldType} (C : Cx t p s m args meth c y0 cc0 nL0 ret0) {index lv : Nat} (hq : Cond.methodLink y0.cls index yX4_lists ∈ lw_all) (hR : LV_lists + 1 ≤ lv) : CallW (rmM lv) s args y0.cls RX4 index yX4_lists cX4_lists 6 (some .int) (ws_ yX4_lists cX4_lists 6 (some .int)) (rmM LV_lists) 0 0 3 :=
  cwV 3 C.2.2.2.2.1 (lw_V hq q2313 q2314 q127 q2315) rfl rfl rfl (by decide +kernel) ⟨hR, by show 8 + (6 + 11) + 100 * LV_lists ≤ 100 * lv; omega⟩
abbrev LV_far : Nat := 2
def f4_far_67 (p1 : Int32) (p2 : Int32) (k56 : Int32 → MS → Option (Int32 × MS)) (k : Int32 → Int32 → MS → Option (Int32 × MS)) (x3 : Int32) (x4 : Int32) (u : MS) : Option (Int32 × MS) :=
  if (u.1 3) ≤ x4 then
    k56 (x3 + 1) u
  else
    mchk (inbM x4 10) <|
    mchk (inbM x4 10) <|
    mchk (inbM (u.2.1 10 x4.toNatClampNeg) 80) <|
    mchk (inbM x4 9) <|
    mchk (inbM (u.2.1 9 x4.toNatClampNeg) 80) <|
    mb (f4_lesser (u.2.1 80 (u.2.1 10 x4.toNatClampNeg).toNatClampNeg) ((u.2.1 80 (u.2.1 9 x4.toNatClampNeg).toNatClampNeg) + 1) u) fun r7 u6 =>
    mchk (inbM (u.2.1 10 x4.toNatClampNeg) 80) <|
    mlet (mA u6 80 (u.2.1 10 x4.toNatClampNeg).toNatClampNeg r7) fun u9 =>
    mchk (inbM x4 9) <|
    mchk (inbM x4 9) <|
    mchk (inbM (u9.2.1 9 x4.toNatClampNeg) 80) <|
    mchk (inbM x4 10) <|
    mchk (inbM (u9.2.1 10 x4.toNatClampNeg) 80) <|
    mb (f4_lesser (u9.2.1 80 (u9.2.1 9 x4.toNatClampNeg).toNatClampNeg) ((u9.2.1 80 (u9.2.1 10 x4.toNatClampNeg).toNatClampNeg) + 1) u9) fun r16 u15 =>
    mchk (inbM (u9.2.1 9 x4.toNatClampNeg) 80) <|
    mlet (mA u15 80 (u9.2.1 9 x4.toNatClampNeg).toNatClampNeg r16) fun u18 =>
    k x3 (x4 + 1) u18
theorem w4_far_67 {p : Program} {e : Env} {s : State} {m : MethodId} {args : Array Value} {below : List Frame} {meth : Method} {c : Code} (C : Cx t p s m args meth c yX4_far cX4_far 5 (some .int)) (p1 : Int32) (p2 : Int32) (k56 : Int32 → MS → Option (Int32 × MS)) (hk56 : ∀ (x3 : Int32) (u : MS), VM mkI t g p l e LV_far s m args below meth c 5 56 [(0, .ref g.1), (2, .int p2), (3, .int x3)] [] u (k56 x3 u)) (n : Nat) (x3 : Int32) (x4 : Int32) (u : MS) : VM mkI t g p l e LV_far s m args below meth c 5 67 [(0, .ref g.1), (2, .int p2), (3, .int x3), (4, .int x4)] [] u (ml2 (f4_far_67 p1 p2 k56) n x3 x4 u) := by
  refine vl2 (L := fun x3 x4 => [(0, .ref g.1), (2, .int p2), (3, .int x3), (4, .int x4)]) (fun k hk x3 x4 u => ?_) n x3 x4 u
  unfold f4_far_67
  refine v_iload C 3 rfl dX4_far_67 ?_
  refine v_aload_n C 0 rfl rfl dX4_far_69 ?_
  refine v_getMi C 3 (by decide) (by decide) q1618 rfl dX4_far_70 ?_
  refine v_icmp_ge C 164 (by decide) dX4_far_73 (fun _ => ?_) (fun _ => ?_)
  · refine v_iinc C 1 [(3, .int (x3 + 1)), (0, .ref g.1), (2, .int p2), (4, .int x4)] 2 rfl (by decide) (by decide) rfl dX4_far_164 ?_
    refine v_goto C 56 (by decide) dX4_far_167 ?_
    refine v_sub [1, 2, 0] rfl ?_
    exact hk56 (x3 + 1) u
  · refine v_aload_n C 0 rfl rfl dX4_far_76 ?_
    refine v_getMa C 80 (by decide) (by decide) q1695 rfl dX4_far_77 ?_
    refine v_aload_n C 0 rfl rfl dX4_far_80 ?_
    refine v_getMa C 10 (by decide) (by decide) q1625 rfl dX4_far_81 ?_
    refine v_iload C 3 rfl dX4_far_84 ?_
    refine v_chk (fun h1 => ?_)
    refine v_ialdM C h1 dX4_far_86 ?_
    refine v_aload_n C 0 rfl rfl dX4_far_87 ?_
    refine v_getMa C 80 (by decide) (by decide) q1695 rfl dX4_far_88 ?_
    refine v_aload_n C 0 rfl rfl dX4_far_91 ?_
    refine v_getMa C 10 (by decide) (by decide) q1625 rfl dX4_far_92 ?_
    refine v_iload C 3 rfl dX4_far_95 ?_
    refine v_chk (fun h2 => ?_)
    refine v_ialdM C h2 dX4_far_97 ?_
    refine v_chk (fun h3 => ?_)
    refine v_ialdM C h3 dX4_far_98 ?_
    refine v_aload_n C 0 rfl rfl dX4_far_99 ?_
    refine v_getMa C 80 (by decide) (by decide) q1695 rfl dX4_far_100 ?_
    refine v_aload_n C 0 rfl rfl dX4_far_103 ?_
    refine v_getMa C 9 (by decide) (by decide) q1624 rfl dX4_far_104 ?_
    refine v_iload C 3 rfl dX4_far_107 ?_
    refine v_chk (fun h4 => ?_)
    refine v_ialdM C h4 dX4_far_109 ?_
    refine v_chk (fun h5 => ?_)
    refine v_ialdM C h5 dX4_far_110 ?_
    refine v_iconst C 1 (by decide) dX4_far_111 ?_
    refine v_iadd C dX4_far_112 ?_
    refine v_callSM C [.int (u.2.1 80 (u.2.1 10 x4.toNatClampNeg).toNatClampNeg), .int ((u.2.1 80 (u.2.1 9 x4.toNatClampNeg).toNatClampNeg) + 1)] [.int (u.2.1 10 x4.toNatClampNeg), .ref (g.2 80)] (ct4_lesser t g l (u.2.1 80 (u.2.1 10 x4.toNatClampNeg).toNatClampNeg) ((u.2.1 80 (u.2.1 9 x4.toNatClampNeg).toNatClampNeg) + 1) u) (cw4_lesser C q2092 (by decide)) rfl rfl (Nat.le_of_ble_eq_true rfl) dX4_far_113 (fun r7 u6 => ?_)
    refine v_chk (fun h8 => ?_)
    refine v_iastM C h8 dX4_far_116 (fun u9 => ?_)
    refine v_aload_n C 0 rfl rfl dX4_far_117 ?_
    refine v_getMa C 80 (by decide) (by decide) q1695 rfl dX4_far_118 ?_
    refine v_aload_n C 0 rfl rfl dX4_far_121 ?_
    refine v_getMa C 9 (by decide) (by decide) q1624 rfl dX4_far_122 ?_
    refine v_iload C 3 rfl dX4_far_125 ?_
    refine v_chk (fun h10 => ?_)
    refine v_ialdM C h10 dX4_far_127 ?_
    refine v_aload_n C 0 rfl rfl dX4_far_128 ?_
    refine v_getMa C 80 (by decide) (by decide) q1695 rfl dX4_far_129 ?_
    refine v_aload_n C 0 rfl rfl dX4_far_132 ?_
    refine v_getMa C 9 (by decide) (by decide) q1624 rfl dX4_far_133 ?_
    refine v_iload C 3 rfl dX4_far_136 ?_
    refine v_chk (fun h11 => ?_)
    refine v_ialdM C h11 dX4_far_138 ?_
    refine v_chk (fun h12 => ?_)
    refine v_ialdM C h12 dX4_far_139 ?_
    refine v_aload_n C 0 rfl rfl dX4_far_140 ?_
    refine v_getMa C 80 (by decide) (by decide) q1695 rfl dX4_far_141 ?_
    refine v_aload_n C 0 rfl rfl dX4_far_144 ?_
    refine v_getMa C 10 (by decide) (by decide) q1625 rfl dX4_far_145 ?_
    refine v_iload C 3 rfl dX4_far_148 ?_
    refine v_chk (fun h13 => ?_)
    refine v_ialdM C h13 dX4_far_150 ?_
    refine v_chk (fun h14 => ?_)
    refine v_ialdM C h14 dX4_far_151 ?_
    refine v_iconst C 1 (by decide) dX4_far_152 ?_
    refine v_iadd C dX4_far_153 ?_
    refine v_callSM C [.int (u9.2.1 80 (u9.2.1 9 x4.toNatClampNeg).toNatClampNeg), .int ((u9.2.1 80 (u9.2.1 10 x4.toNatClampNeg).toNatClampNeg) + 1)] [.int (u9.2.1 9 x4.toNatClampNeg), .ref (g.2 80)] (ct4_lesser t g l (u9.2.1 80 (u9.2.1 9 x4.toNatClampNeg).toNatClampNeg) ((u9.2.1 80 (u9.2.1 10 x4.toNatClampNeg).toNatClampNeg) + 1) u9) (cw4_lesser C q2092 (by decide)) rfl rfl (Nat.le_of_ble_eq_true rfl) dX4_far_154 (fun r16 u15 => ?_)
    refine v_chk (fun h17 => ?_)
    refine v_iastM C h17 dX4_far_157 (fun u18 => ?_)
    refine v_iinc C 1 [(4, .int (x4 + 1)), (0, .ref g.1), (2, .int p2), (3, .int x3)] 3 rfl (by decide) (by decide) rfl dX4_far_158 ?_
    refine v_goto C 67 (by decide) dX4_far_161 ?_
    refine v_sub [1, 2, 3, 0] rfl ?_
    exact hk x3 (x4 + 1) u18
def f4_far_56 (p1 : Int32) (p2 : Int32) (k : Int32 → MS → Option (Int32 × MS)) (x3 : Int32) (u : MS) : Option (Int32 × MS) :=
  if (u.1 2) ≤ x3 then
    mchk (inbM p2 80) <|
    if (u.2.1 80 p2.toNatClampNeg) < 99 then
      mchk (inbM p2 80) <|
      some ((u.2.1 80 p2.toNatClampNeg), u)
    else
      some (-1, u)
  else
    ml2 (f4_far_67 p1 p2 k) FUEL x3 0 u
theorem w4_far_56 {p : Program} {e : Env} {s : State} {m : MethodId} {args : Array Value} {below : List Frame} {meth : Method} {c : Code} (C : Cx t p s m args meth c yX4_far cX4_far 5 (some .int)) (p1 : Int32) (p2 : Int32) (n : Nat) (x3 : Int32) (u : MS) : VM mkI t g p l e LV_far s m args below meth c 5 56 [(0, .ref g.1), (2, .int p2), (3, .int x3)] [] u (ml1 (f4_far_56 p1 p2) n x3 u) := by
  refine vl1 (L := fun x3 => [(0, .ref g.1), (2, .int p2), (3, .int x3)]) (fun k hk x3 u => ?_) n x3 u
  unfold f4_far_56
  refine v_iload_n C 2 rfl rfl dX4_far_56 ?_
  refine v_aload_n C 0 rfl rfl dX4_far_57 ?_
  refine v_getMi C 2 (by decide) (by decide) q1617 rfl dX4_far_58 ?_
  refine v_icmp_ge C 170 (by decide) dX4_far_61 (fun _ => ?_) (fun _ => ?_)
  · refine v_aload_n C 0 rfl rfl dX4_far_170 ?_
    refine v_getMa C 80 (by decide) (by decide) q1695 rfl dX4_far_171 ?_
    refine v_iload_n C 1 rfl rfl dX4_far_174 ?_
    refine v_chk (fun h1 => ?_)
    refine v_ialdM C h1 dX4_far_175 ?_
    refine v_bipush C 99 (by decide) dX4_far_176 ?_
    refine v_icmp_lt C 185 (by decide) dX4_far_178 (fun _ => ?_) (fun _ => ?_)
    · refine v_aload_n C 0 rfl rfl dX4_far_185 ?_
      refine v_getMa C 80 (by decide) (by decide) q1695 rfl dX4_far_186 ?_
      refine v_iload_n C 1 rfl rfl dX4_far_189 ?_
      refine v_chk (fun h2 => ?_)
      refine v_ialdM C h2 dX4_far_190 ?_
      exact v_iretM C dX4_far_191
    · refine v_iconst C (-1) (by decide) dX4_far_181 ?_
      refine v_goto C 191 (by decide) dX4_far_182 ?_
      exact v_iretM C dX4_far_191
  · refine v_iconst C 0 (by decide) dX4_far_64 ?_
    refine v_istore C [(4, .int 0), (0, .ref g.1), (2, .int p2), (3, .int x3)] (by decide) rfl dX4_far_65 ?_
    refine v_sub [1, 2, 3, 0] rfl ?_
    exact w4_far_67 C p1 p2 k hk FUEL x3 0 u
def f4_far_25 (p1 : Int32) (p2 : Int32) (k : Int32 → MS → Option (Int32 × MS)) (x3 : Int32) (u : MS) : Option (Int32 × MS) :=
  if 8 ≤ x3 then
    ml1 (f4_far_56 p1 p2) FUEL 0 u
  else
    if x3 = p1 then
      mchk (inbM x3 80) <|
      mlet (mA u 80 x3.toNatClampNeg 0) fun u2 =>
      k (x3 + 1) u2
    else
      mchk (inbM x3 80) <|
      mlet (mA u 80 x3.toNatClampNeg 99) fun u2 =>
      k (x3 + 1) u2
theorem w4_far_25 {p : Program} {e : Env} {s : State} {m : MethodId} {args : Array Value} {below : List Frame} {meth : Method} {c : Code} (C : Cx t p s m args meth c yX4_far cX4_far 5 (some .int)) (p1 : Int32) (p2 : Int32) (n : Nat) (x3 : Int32) (u : MS) : VM mkI t g p l e LV_far s m args below meth c 5 25 [(0, .ref g.1), (1, .int p1), (2, .int p2), (3, .int x3)] [] u (ml1 (f4_far_25 p1 p2) n x3 u) := by
  refine vl1 (L := fun x3 => [(0, .ref g.1), (1, .int p1), (2, .int p2), (3, .int x3)]) (fun k hk x3 u => ?_) n x3 u
  unfold f4_far_25
  refine v_iload_n C 3 rfl rfl dX4_far_25 ?_
  refine v_bipush C 8 (by decide) dX4_far_26 ?_
  refine v_icmp_ge C 54 (by decide) dX4_far_28 (fun _ => ?_) (fun _ => ?_)
  · refine v_iconst C 0 (by decide) dX4_far_54 ?_
    refine v_istore_n C [(3, .int 0), (0, .ref g.1), (1, .int p1), (2, .int p2)] rfl (by decide) rfl dX4_far_55 ?_
    refine v_sub [1, 3, 0] rfl ?_
    exact w4_far_56 C p1 p2 FUEL 0 u
  · refine v_aload_n C 0 rfl rfl dX4_far_31 ?_
    refine v_getMa C 80 (by decide) (by decide) q1695 rfl dX4_far_32 ?_
    refine v_iload_n C 3 rfl rfl dX4_far_35 ?_
    refine v_iload_n C 3 rfl rfl dX4_far_36 ?_
    refine v_iload_n C 1 rfl rfl dX4_far_37 ?_
    refine v_icmp_ne C 45 (by decide) dX4_far_38 (fun _ => ?_) (fun _ => ?_)
    · refine v_iconst C 0 (by decide) dX4_far_41 ?_
      refine v_goto C 47 (by decide) dX4_far_42 ?_
      refine v_chk (fun h1 => ?_)
      refine v_iastM C h1 dX4_far_47 (fun u2 => ?_)
      refine v_iinc C 1 [(3, .int (x3 + 1)), (0, .ref g.1), (1, .int p1), (2, .int p2)] 3 rfl (by decide) (by decide) rfl dX4_far_48 ?_
      refine v_goto C 25 (by decide) dX4_far_51 ?_
      refine v_sub [1, 2, 3, 0] rfl ?_
      exact hk (x3 + 1) u2
    · refine v_bipush C 99 (by decide) dX4_far_45 ?_
      refine v_chk (fun h1 => ?_)
      refine v_iastM C h1 dX4_far_47 (fun u2 => ?_)
      refine v_iinc C 1 [(3, .int (x3 + 1)), (0, .ref g.1), (1, .int p1), (2, .int p2)] 3 rfl (by decide) (by decide) rfl dX4_far_48 ?_
      refine v_goto C 25 (by decide) dX4_far_51 ?_
      refine v_sub [1, 2, 3, 0] rfl ?_
      exact hk (x3 + 1) u2
def f4_far (p1 : Int32) (p2 : Int32) (u : MS) : Option (Int32 × MS) :=
  mlet (mS u 0 0) fun u1 =>
  mb (f4_isPlace p1 u1) fun r3 u2 =>
  if r3 = 0 then
    some (0, u2)
  else
    mb (f4_isPlace p2 u2) fun r5 u4 =>
    if r5 = 0 then
      some (0, u4)
    else
      ml1 (f4_far_25 p1 p2) FUEL 0 u4
theorem ct4_far (t : TT) (g : GM) (l : Launch) (p1 : Int32) (p2 : Int32) (u : MS) : CtM mkI t g l yX4_far cX4_far 5 (some .int) LV_far [.ref g.1, .int p1, .int p2] u (f4_far p1 p2 u) := by
  refine ctM_of [(0, .ref g.1), (1, .int p1), (2, .int p2)] rfl (Nat.le_of_ble_eq_true rfl) rfl (fun p e s m args below meth c C => ?_)
  unfold f4_far
  refine v_aload_n C 0 rfl rfl dX4_far_0 ?_
  refine v_iconst C 0 (by decide) dX4_far_1 ?_
  refine v_putMi C 0 (by decide) (by decide) q1615 rfl rfl (by decide +kernel) dX4_far_2 (fun u1 => ?_)
  refine v_aload_n C 0 rfl rfl dX4_far_5 ?_
  refine v_iload_n C 1 rfl rfl dX4_far_6 ?_
  refine v_callVM C [.int p1] [] (ct4_isPlace t g l p1 u1) (cw4_isPlace C q2076 (by decide)) rfl rfl (Nat.le_of_ble_eq_true rfl) dX4_far_7 (fun r3 u2 => ?_)
  refine v_if_eq C 21 (by decide) dX4_far_10 (fun _ => ?_) (fun _ => ?_)
  · refine v_iconst C 0 (by decide) dX4_far_21 ?_
    exact v_iretM C dX4_far_22
  · refine v_aload_n C 0 rfl rfl dX4_far_13 ?_
    refine v_iload_n C 2 rfl rfl dX4_far_14 ?_
    refine v_callVM C [.int p2] [] (ct4_isPlace t g l p2 u2) (cw4_isPlace C q2076 (by decide)) rfl rfl (Nat.le_of_ble_eq_true rfl) dX4_far_15 (fun r5 u4 => ?_)
    refine v_if_ne C 23 (by decide) dX4_far_18 (fun _ => ?_) (fun _ => ?_)
    · refine v_iconst C 0 (by decide) dX4_far_21 ?_
      exact v_iretM C dX4_far_22
    · refine v_iconst C 0 (by decide) dX4_far_23 ?_
      refine v_istore_n C [(3, .int 0), (0, .ref g.1), (1, .int p1), (2, .int p2)] rfl (by decide) rfl dX4_far_24 ?_
      refine v_sub [1, 2, 3, 0] rfl ?_
      exact w4_far_25 C p1 p2 FUEL 0 u4
theorem cw4_far {t : TT} {p : Program} {s : State} {m : MethodId} {args : Array Value} {meth : Method} {c : Code} {y0 : MethodName} {cc0 : ByteArray} {nL0 : Nat} {ret0 : Option FieldType} (C : Cx t p s m args meth c y0 cc0 nL0 ret0) {index lv : Nat} (hq : Cond.methodLink y0.cls index yX4_far ∈ lw_all) (hR : LV_far + 1 ≤ lv) : CallW (rmM lv) s args y0.cls RX4 index yX4_far cX4_far 5 (some .int) (ws_ yX4_far cX4_far 5 (some .int)) (rmM LV_far) 0 0 2 :=
  cwV 2 C.2.2.2.2.1 (lw_V hq q2326 q2327 q127 q2328) rfl rfl rfl (by decide +kernel) ⟨hR, by show 8 + (5 + 11) + 100 * LV_far ≤ 100 * lv; omega⟩
abbrev LV_refuge : Nat := 2
def f4_refuge_237 (p1 : Int32) (k : Int32 → Int32 → MS → Option (Int32 × MS)) (x2 : Int32) (x3 : Int32) (u : MS) : Option (Int32 × MS) :=
  if x3 < 0 then
    some (x2, u)
  else
    mchk (inbZ x3 75) <|
    if (u.2.1 75 x3.toNatClampNeg) = 0 then
      k x2 (x3 + (-1)) u
    else
      mchk (inbM x3 8) <|
      mchk (inbM x2 8) <|
      if (u.2.1 8 x2.toNatClampNeg) < (u.2.1 8 x3.toNatClampNeg) then
        k x2 (x3 + (-1)) u
      else
        k x3 (x3 + (-1)) u
theorem w4_refuge_237 {p : Program} {e : Env} {s : State} {m : MethodId} {args : Array Value} {below : List Frame} {meth : Method} {c : Code} (C : Cx t p s m args meth c yX4_refuge cX4_refuge 4 (some .int)) (p1 : Int32) (n : Nat) (x2 : Int32) (x3 : Int32) (u : MS) : VM mkI t g p l e LV_refuge s m args below meth c 4 237 [(0, .ref g.1), (2, .int x2), (3, .int x3)] [] u (ml2 (f4_refuge_237 p1) n x2 x3 u) := by
  refine vl2 (L := fun x2 x3 => [(0, .ref g.1), (2, .int x2), (3, .int x3)]) (fun k hk x2 x3 u => ?_) n x2 x3 u
  unfold f4_refuge_237
  refine v_iload_n C 2 rfl rfl dX4_refuge_237 ?_
  refine v_if_lt C 277 (by decide) dX4_refuge_238 (fun _ => ?_) (fun _ => ?_)
  · refine v_iload_n C 1 rfl rfl dX4_refuge_277 ?_
    exact v_iretM C dX4_refuge_278
  · refine v_aload_n C 0 rfl rfl dX4_refuge_241 ?_
    refine v_getMa C 75 (by decide) (by decide) q1690 rfl dX4_refuge_242 ?_
    refine v_iload_n C 2 rfl rfl dX4_refuge_245 ?_
    refine v_chk (fun h1 => ?_)
    refine v_baldM C h1 dX4_refuge_246 ?_
    refine v_if_eq C 269 (by decide) dX4_refuge_247 (fun _ => ?_) (fun _ => ?_)
    · refine v_iload_n C 1 rfl rfl dX4_refuge_269 ?_
      refine v_istore_n C [(2, .int x2), (0, .ref g.1), (3, .int x3)] rfl (by decide) rfl dX4_refuge_270 ?_
      refine v_iinc C (-1) [(3, .int (x3 + (-1))), (2, .int x2), (0, .ref g.1)] 2 rfl (by decide) (by decide) rfl dX4_refuge_271 ?_
      refine v_goto C 237 (by decide) dX4_refuge_274 ?_
      refine v_sub [2, 1, 0] rfl ?_
      exact hk x2 (x3 + (-1)) u
    · refine v_aload_n C 0 rfl rfl dX4_refuge_250 ?_
      refine v_getMa C 8 (by decide) (by decide) q1623 rfl dX4_refuge_251 ?_
      refine v_iload_n C 2 rfl rfl dX4_refuge_254 ?_
      refine v_chk (fun h2 => ?_)
      refine v_ialdM C h2 dX4_refuge_255 ?_
      refine v_aload_n C 0 rfl rfl dX4_refuge_256 ?_
      refine v_getMa C 8 (by decide) (by decide) q1623 rfl dX4_refuge_257 ?_
      refine v_iload_n C 1 rfl rfl dX4_refuge_260 ?_
      refine v_chk (fun h3 => ?_)
      refine v_ialdM C h3 dX4_refuge_261 ?_
      refine v_icmp_gt C 269 (by decide) dX4_refuge_262 (fun _ => ?_) (fun _ => ?_)
      · refine v_iload_n C 1 rfl rfl dX4_refuge_269 ?_
        refine v_istore_n C [(2, .int x2), (0, .ref g.1), (3, .int x3)] rfl (by decide) rfl dX4_refuge_270 ?_
        refine v_iinc C (-1) [(3, .int (x3 + (-1))), (2, .int x2), (0, .ref g.1)] 2 rfl (by decide) (by decide) rfl dX4_refuge_271 ?_
        refine v_goto C 237 (by decide) dX4_refuge_274 ?_
        refine v_sub [2, 1, 0] rfl ?_
        exact hk x2 (x3 + (-1)) u
      · refine v_iload_n C 2 rfl rfl dX4_refuge_265 ?_
        refine v_goto C 270 (by decide) dX4_refuge_266 ?_
        refine v_istore_n C [(2, .int x3), (0, .ref g.1), (3, .int x3)] rfl (by decide) rfl dX4_refuge_270 ?_
        refine v_iinc C (-1) [(3, .int (x3 + (-1))), (2, .int x3), (0, .ref g.1)] 2 rfl (by decide) (by decide) rfl dX4_refuge_271 ?_
        refine v_goto C 237 (by decide) dX4_refuge_274 ?_
        refine v_sub [2, 1, 0] rfl ?_
        exact hk x3 (x3 + (-1)) u
def f4_refuge_148 (p1 : Int32) (k55 : Int32 → MS → Option (Int32 × MS)) (k65 : Int32 → Int32 → MS → Option (Int32 × MS)) (x2 : Int32) (x3 : Int32) (s1 : Int32) (s2 : Int32) (u : MS) : Option (Int32 × MS) :=
  mchk (inbZ s1 75) <|
  mchk (isB s2) <|
  mlet (mA u 75 s1.toNatClampNeg s2) fun u3 =>
  mchk (inbM x3 9) <|
  mchk (inbM x3 9) <|
  mchk (inbZ (u3.2.1 9 x3.toNatClampNeg) 75) <|
  if (u3.2.1 75 (u3.2.1 9 x3.toNatClampNeg).toNatClampNeg) = 0 then
    mchk (inbM x3 10) <|
    mchk (inbZ (u3.2.1 10 x3.toNatClampNeg) 75) <|
    if (u3.2.1 75 (u3.2.1 10 x3.toNatClampNeg).toNatClampNeg) = 0 then
      mchk (inbZ (u3.2.1 9 x3.toNatClampNeg) 75) <|
      mlet (mA u3 75 (u3.2.1 9 x3.toNatClampNeg).toNatClampNeg 0) fun u10 =>
      k65 x2 (x3 + 1) u10
    else
      mchk (inbM x3 10) <|
      mchk (inbM (u3.2.1 10 x3.toNatClampNeg) 8) <|
      if (u3.2.1 8 (u3.2.1 10 x3.toNatClampNeg).toNatClampNeg) = (-1) then
        mchk (inbZ (u3.2.1 9 x3.toNatClampNeg) 75) <|
        mlet (mA u3 75 (u3.2.1 9 x3.toNatClampNeg).toNatClampNeg 0) fun u12 =>
        k65 x2 (x3 + 1) u12
      else
        mchk (inbZ (u3.2.1 9 x3.toNatClampNeg) 75) <|
        mlet (mA u3 75 (u3.2.1 9 x3.toNatClampNeg).toNatClampNeg 1) fun u12 =>
        k65 x2 (x3 + 1) u12
  else
    mchk (inbZ (u3.2.1 9 x3.toNatClampNeg) 75) <|
    mlet (mA u3 75 (u3.2.1 9 x3.toNatClampNeg).toNatClampNeg 1) fun u8 =>
    k65 x2 (x3 + 1) u8
theorem w4_refuge_148 {p : Program} {e : Env} {s : State} {m : MethodId} {args : Array Value} {below : List Frame} {meth : Method} {c : Code} (C : Cx t p s m args meth c yX4_refuge cX4_refuge 4 (some .int)) (p1 : Int32) (k55 : Int32 → MS → Option (Int32 × MS)) (k65 : Int32 → Int32 → MS → Option (Int32 × MS)) (hk55 : ∀ (x2 : Int32) (u : MS), VM mkI t g p l e LV_refuge s m args below meth c 4 55 [(0, .ref g.1), (1, .int p1), (2, .int x2)] [] u (k55 x2 u)) (hk65 : ∀ (x2 : Int32) (x3 : Int32) (u : MS), VM mkI t g p l e LV_refuge s m args below meth c 4 65 [(0, .ref g.1), (1, .int p1), (2, .int x2), (3, .int x3)] [] u (k65 x2 x3 u)) (x2 : Int32) (x3 : Int32) (s1 : Int32) (s2 : Int32) (u : MS) : VM mkI t g p l e LV_refuge s m args below meth c 4 148 [(0, .ref g.1), (1, .int p1), (2, .int x2), (3, .int x3)] [.int s2, .int s1, .ref (g.2 75)] u (f4_refuge_148 p1 k55 k65 x2 x3 s1 s2 u) := by
  unfold f4_refuge_148
  refine v_chk (fun h1 => ?_)
  refine v_chk (fun h2 => ?_)
  refine v_bastM C h1 h2 dX4_refuge_148 (fun u3 => ?_)
  refine v_aload_n C 0 rfl rfl dX4_refuge_149 ?_
  refine v_getMa C 75 (by decide) (by decide) q1690 rfl dX4_refuge_150 ?_
  refine v_aload_n C 0 rfl rfl dX4_refuge_153 ?_
  refine v_getMa C 9 (by decide) (by decide) q1624 rfl dX4_refuge_154 ?_
  refine v_iload_n C 3 rfl rfl dX4_refuge_157 ?_
  refine v_chk (fun h4 => ?_)
  refine v_ialdM C h4 dX4_refuge_158 ?_
  refine v_aload_n C 0 rfl rfl dX4_refuge_159 ?_
  refine v_getMa C 75 (by decide) (by decide) q1690 rfl dX4_refuge_160 ?_
  refine v_aload_n C 0 rfl rfl dX4_refuge_163 ?_
  refine v_getMa C 9 (by decide) (by decide) q1624 rfl dX4_refuge_164 ?_
  refine v_iload_n C 3 rfl rfl dX4_refuge_167 ?_
  refine v_chk (fun h5 => ?_)
  refine v_ialdM C h5 dX4_refuge_168 ?_
  refine v_chk (fun h6 => ?_)
  refine v_baldM C h6 dX4_refuge_169 ?_
  refine v_if_ne C 202 (by decide) dX4_refuge_170 (fun _ => ?_) (fun _ => ?_)
  · refine v_aload_n C 0 rfl rfl dX4_refuge_173 ?_
    refine v_getMa C 75 (by decide) (by decide) q1690 rfl dX4_refuge_174 ?_
    refine v_aload_n C 0 rfl rfl dX4_refuge_177 ?_
    refine v_getMa C 10 (by decide) (by decide) q1625 rfl dX4_refuge_178 ?_
    refine v_iload_n C 3 rfl rfl dX4_refuge_181 ?_
    refine v_chk (fun h7 => ?_)
    refine v_ialdM C h7 dX4_refuge_182 ?_
    refine v_chk (fun h8 => ?_)
    refine v_baldM C h8 dX4_refuge_183 ?_
    refine v_if_eq C 206 (by decide) dX4_refuge_184 (fun _ => ?_) (fun _ => ?_)
    · refine v_iconst C 0 (by decide) dX4_refuge_206 ?_
      refine v_chk (fun h9 => ?_)
      refine v_bastM C h9 rfl dX4_refuge_207 (fun u10 => ?_)
      refine v_iinc C 1 [(3, .int (x3 + 1)), (0, .ref g.1), (1, .int p1), (2, .int x2)] 3 rfl (by decide) (by decide) rfl dX4_refuge_208 ?_
      refine v_goto C 65 (by decide) dX4_refuge_211 ?_
      refine v_sub [1, 2, 3, 0] rfl ?_
      exact hk65 x2 (x3 + 1) u10
    · refine v_aload_n C 0 rfl rfl dX4_refuge_187 ?_
      refine v_getMa C 8 (by decide) (by decide) q1623 rfl dX4_refuge_188 ?_
      refine v_aload_n C 0 rfl rfl dX4_refuge_191 ?_
      refine v_getMa C 10 (by decide) (by decide) q1625 rfl dX4_refuge_192 ?_
      refine v_iload_n C 3 rfl rfl dX4_refuge_195 ?_
      refine v_chk (fun h9 => ?_)
      refine v_ialdM C h9 dX4_refuge_196 ?_
      refine v_chk (fun h10 => ?_)
      refine v_ialdM C h10 dX4_refuge_197 ?_
      refine v_iconst C (-1) (by decide) dX4_refuge_198 ?_
      refine v_icmp_eq C 206 (by decide) dX4_refuge_199 (fun _ => ?_) (fun _ => ?_)
      · refine v_iconst C 0 (by decide) dX4_refuge_206 ?_
        refine v_chk (fun h11 => ?_)
        refine v_bastM C h11 rfl dX4_refuge_207 (fun u12 => ?_)
        refine v_iinc C 1 [(3, .int (x3 + 1)), (0, .ref g.1), (1, .int p1), (2, .int x2)] 3 rfl (by decide) (by decide) rfl dX4_refuge_208 ?_
        refine v_goto C 65 (by decide) dX4_refuge_211 ?_
        refine v_sub [1, 2, 3, 0] rfl ?_
        exact hk65 x2 (x3 + 1) u12
      · refine v_iconst C 1 (by decide) dX4_refuge_202 ?_
        refine v_goto C 207 (by decide) dX4_refuge_203 ?_
        refine v_chk (fun h11 => ?_)
        refine v_bastM C h11 rfl dX4_refuge_207 (fun u12 => ?_)
        refine v_iinc C 1 [(3, .int (x3 + 1)), (0, .ref g.1), (1, .int p1), (2, .int x2)] 3 rfl (by decide) (by decide) rfl dX4_refuge_208 ?_
        refine v_goto C 65 (by decide) dX4_refuge_211 ?_
        refine v_sub [1, 2, 3, 0] rfl ?_
        exact hk65 x2 (x3 + 1) u12
  · refine v_iconst C 1 (by decide) dX4_refuge_202 ?_
    refine v_goto C 207 (by decide) dX4_refuge_203 ?_
    refine v_chk (fun h7 => ?_)
    refine v_bastM C h7 rfl dX4_refuge_207 (fun u8 => ?_)
    refine v_iinc C 1 [(3, .int (x3 + 1)), (0, .ref g.1), (1, .int p1), (2, .int x2)] 3 rfl (by decide) (by decide) rfl dX4_refuge_208 ?_
    refine v_goto C 65 (by decide) dX4_refuge_211 ?_
    refine v_sub [1, 2, 3, 0] rfl ?_
    exact hk65 x2 (x3 + 1) u8
def f4_refuge_65 (p1 : Int32) (k55 : Int32 → MS → Option (Int32 × MS)) (k : Int32 → Int32 → MS → Option (Int32 × MS)) (x2 : Int32) (x3 : Int32) (u : MS) : Option (Int32 × MS) :=
  if (u.1 3) ≤ x3 then
    k55 (x2 + 1) u
  else
    mb (f4_isPassable x3 (u.2.1 54 (0 : Int32).toNatClampNeg) u) fun r2 u1 =>
    if r2 = 0 then
      k x2 (x3 + 1) u1
    else
      mchk (inbM x3 10) <|
      mchk (inbM x3 10) <|
      mchk (inbZ (u1.2.1 10 x3.toNatClampNeg) 75) <|
      if (u1.2.1 75 (u1.2.1 10 x3.toNatClampNeg).toNatClampNeg) = 0 then
        mchk (inbM x3 9) <|
        mchk (inbZ (u1.2.1 9 x3.toNatClampNeg) 75) <|
        if (u1.2.1 75 (u1.2.1 9 x3.toNatClampNeg).toNatClampNeg) = 0 then
          f4_refuge_148 p1 k55 k x2 x3 (u1.2.1 10 x3.toNatClampNeg) 0 u1
        else
          mchk (inbM x3 9) <|
          mchk (inbM (u1.2.1 9 x3.toNatClampNeg) 8) <|
          if (u1.2.1 8 (u1.2.1 9 x3.toNatClampNeg).toNatClampNeg) = (-1) then
            f4_refuge_148 p1 k55 k x2 x3 (u1.2.1 10 x3.toNatClampNeg) 0 u1
          else
            f4_refuge_148 p1 k55 k x2 x3 (u1.2.1 10 x3.toNatClampNeg) 1 u1
      else
        f4_refuge_148 p1 k55 k x2 x3 (u1.2.1 10 x3.toNatClampNeg) 1 u1
theorem w4_refuge_65 {p : Program} {e : Env} {s : State} {m : MethodId} {args : Array Value} {below : List Frame} {meth : Method} {c : Code} (C : Cx t p s m args meth c yX4_refuge cX4_refuge 4 (some .int)) (p1 : Int32) (k55 : Int32 → MS → Option (Int32 × MS)) (hk55 : ∀ (x2 : Int32) (u : MS), VM mkI t g p l e LV_refuge s m args below meth c 4 55 [(0, .ref g.1), (1, .int p1), (2, .int x2)] [] u (k55 x2 u)) (n : Nat) (x2 : Int32) (x3 : Int32) (u : MS) : VM mkI t g p l e LV_refuge s m args below meth c 4 65 [(0, .ref g.1), (1, .int p1), (2, .int x2), (3, .int x3)] [] u (ml2 (f4_refuge_65 p1 k55) n x2 x3 u) := by
  refine vl2 (L := fun x2 x3 => [(0, .ref g.1), (1, .int p1), (2, .int x2), (3, .int x3)]) (fun k hk x2 x3 u => ?_) n x2 x3 u
  unfold f4_refuge_65
  refine v_iload_n C 3 rfl rfl dX4_refuge_65 ?_
  refine v_aload_n C 0 rfl rfl dX4_refuge_66 ?_
  refine v_getMi C 3 (by decide) (by decide) q1618 rfl dX4_refuge_67 ?_
  refine v_icmp_ge C 214 (by decide) dX4_refuge_70 (fun _ => ?_) (fun _ => ?_)
  · refine v_iinc C 1 [(2, .int (x2 + 1)), (0, .ref g.1), (1, .int p1), (3, .int x3)] 2 rfl (by decide) (by decide) rfl dX4_refuge_214 ?_
    refine v_goto C 55 (by decide) dX4_refuge_217 ?_
    refine v_sub [1, 2, 0] rfl ?_
    exact hk55 (x2 + 1) u
  · refine v_aload_n C 0 rfl rfl dX4_refuge_73 ?_
    refine v_iload_n C 3 rfl rfl dX4_refuge_74 ?_
    refine v_aload_n C 0 rfl rfl dX4_refuge_75 ?_
    refine v_getMa C 54 (by decide) (by decide) q1669 rfl dX4_refuge_76 ?_
    refine v_iconst C 0 (by decide) dX4_refuge_79 ?_
    refine v_ialdM C (by decide) dX4_refuge_80 ?_
    refine v_callVM C [.int x3, .int (u.2.1 54 (0 : Int32).toNatClampNeg)] [] (ct4_isPassable t g l x3 (u.2.1 54 (0 : Int32).toNatClampNeg) u) (cw4_isPassable C q2164 (by decide)) rfl rfl (Nat.le_of_ble_eq_true rfl) dX4_refuge_81 (fun r2 u1 => ?_)
    refine v_if_ne C 90 (by decide) dX4_refuge_84 (fun _ => ?_) (fun _ => ?_)
    · refine v_goto C 208 (by decide) dX4_refuge_87 ?_
      refine v_iinc C 1 [(3, .int (x3 + 1)), (0, .ref g.1), (1, .int p1), (2, .int x2)] 3 rfl (by decide) (by decide) rfl dX4_refuge_208 ?_
      refine v_goto C 65 (by decide) dX4_refuge_211 ?_
      refine v_sub [1, 2, 3, 0] rfl ?_
      exact hk x2 (x3 + 1) u1
    · refine v_aload_n C 0 rfl rfl dX4_refuge_90 ?_
      refine v_getMa C 75 (by decide) (by decide) q1690 rfl dX4_refuge_91 ?_
      refine v_aload_n C 0 rfl rfl dX4_refuge_94 ?_
      refine v_getMa C 10 (by decide) (by decide) q1625 rfl dX4_refuge_95 ?_
      refine v_iload_n C 3 rfl rfl dX4_refuge_98 ?_
      refine v_chk (fun h3 => ?_)
      refine v_ialdM C h3 dX4_refuge_99 ?_
      refine v_aload_n C 0 rfl rfl dX4_refuge_100 ?_
      refine v_getMa C 75 (by decide) (by decide) q1690 rfl dX4_refuge_101 ?_
      refine v_aload_n C 0 rfl rfl dX4_refuge_104 ?_
      refine v_getMa C 10 (by decide) (by decide) q1625 rfl dX4_refuge_105 ?_
      refine v_iload_n C 3 rfl rfl dX4_refuge_108 ?_
      refine v_chk (fun h4 => ?_)
      refine v_ialdM C h4 dX4_refuge_109 ?_
      refine v_chk (fun h5 => ?_)
      refine v_baldM C h5 dX4_refuge_110 ?_
      refine v_if_ne C 143 (by decide) dX4_refuge_111 (fun _ => ?_) (fun _ => ?_)
      · refine v_aload_n C 0 rfl rfl dX4_refuge_114 ?_
        refine v_getMa C 75 (by decide) (by decide) q1690 rfl dX4_refuge_115 ?_
        refine v_aload_n C 0 rfl rfl dX4_refuge_118 ?_
        refine v_getMa C 9 (by decide) (by decide) q1624 rfl dX4_refuge_119 ?_
        refine v_iload_n C 3 rfl rfl dX4_refuge_122 ?_
        refine v_chk (fun h6 => ?_)
        refine v_ialdM C h6 dX4_refuge_123 ?_
        refine v_chk (fun h7 => ?_)
        refine v_baldM C h7 dX4_refuge_124 ?_
        refine v_if_eq C 147 (by decide) dX4_refuge_125 (fun _ => ?_) (fun _ => ?_)
        · refine v_iconst C 0 (by decide) dX4_refuge_147 ?_
          exact w4_refuge_148 C p1 k55 k hk55 hk x2 x3 (u1.2.1 10 x3.toNatClampNeg) 0 u1
        · refine v_aload_n C 0 rfl rfl dX4_refuge_128 ?_
          refine v_getMa C 8 (by decide) (by decide) q1623 rfl dX4_refuge_129 ?_
          refine v_aload_n C 0 rfl rfl dX4_refuge_132 ?_
          refine v_getMa C 9 (by decide) (by decide) q1624 rfl dX4_refuge_133 ?_
          refine v_iload_n C 3 rfl rfl dX4_refuge_136 ?_
          refine v_chk (fun h8 => ?_)
          refine v_ialdM C h8 dX4_refuge_137 ?_
          refine v_chk (fun h9 => ?_)
          refine v_ialdM C h9 dX4_refuge_138 ?_
          refine v_iconst C (-1) (by decide) dX4_refuge_139 ?_
          refine v_icmp_eq C 147 (by decide) dX4_refuge_140 (fun _ => ?_) (fun _ => ?_)
          · refine v_iconst C 0 (by decide) dX4_refuge_147 ?_
            exact w4_refuge_148 C p1 k55 k hk55 hk x2 x3 (u1.2.1 10 x3.toNatClampNeg) 0 u1
          · refine v_iconst C 1 (by decide) dX4_refuge_143 ?_
            refine v_goto C 148 (by decide) dX4_refuge_144 ?_
            exact w4_refuge_148 C p1 k55 k hk55 hk x2 x3 (u1.2.1 10 x3.toNatClampNeg) 1 u1
      · refine v_iconst C 1 (by decide) dX4_refuge_143 ?_
        refine v_goto C 148 (by decide) dX4_refuge_144 ?_
        exact w4_refuge_148 C p1 k55 k hk55 hk x2 x3 (u1.2.1 10 x3.toNatClampNeg) 1 u1
def f4_refuge_55 (p1 : Int32) (k : Int32 → MS → Option (Int32 × MS)) (x2 : Int32) (u : MS) : Option (Int32 × MS) :=
  if (u.1 2) ≤ x2 then
    mchk (inbM (22 + p1) 54) <|
    mlet (u.2.1 54 (22 + p1).toNatClampNeg) fun v2 =>
    mlet ((u.1 2) - 1) fun v3 =>
    ml2 (f4_refuge_237 p1) FUEL v2 v3 u
  else
    ml2 (f4_refuge_65 p1 k) FUEL x2 0 u
theorem w4_refuge_55 {p : Program} {e : Env} {s : State} {m : MethodId} {args : Array Value} {below : List Frame} {meth : Method} {c : Code} (C : Cx t p s m args meth c yX4_refuge cX4_refuge 4 (some .int)) (p1 : Int32) (n : Nat) (x2 : Int32) (u : MS) : VM mkI t g p l e LV_refuge s m args below meth c 4 55 [(0, .ref g.1), (1, .int p1), (2, .int x2)] [] u (ml1 (f4_refuge_55 p1) n x2 u) := by
  refine vl1 (L := fun x2 => [(0, .ref g.1), (1, .int p1), (2, .int x2)]) (fun k hk x2 u => ?_) n x2 u
  unfold f4_refuge_55
  refine v_iload_n C 2 rfl rfl dX4_refuge_55 ?_
  refine v_aload_n C 0 rfl rfl dX4_refuge_56 ?_
  refine v_getMi C 2 (by decide) (by decide) q1617 rfl dX4_refuge_57 ?_
  refine v_icmp_ge C 220 (by decide) dX4_refuge_60 (fun _ => ?_) (fun _ => ?_)
  · refine v_aload_n C 0 rfl rfl dX4_refuge_220 ?_
    refine v_getMa C 54 (by decide) (by decide) q1669 rfl dX4_refuge_221 ?_
    refine v_bipush C 22 (by decide) dX4_refuge_224 ?_
    refine v_iload_n C 1 rfl rfl dX4_refuge_226 ?_
    refine v_iadd C dX4_refuge_227 ?_
    refine v_chk (fun h1 => ?_)
    refine v_ialdM C h1 dX4_refuge_228 ?_
    refine v_topi (fun v2 => ?_)
    refine v_istore_n C [(2, .int v2), (0, .ref g.1), (1, .int p1)] rfl (by decide) rfl dX4_refuge_229 ?_
    refine v_aload_n C 1 rfl rfl dX4_refuge_230 ?_
    refine v_getMi C 2 (by decide) (by decide) q1617 rfl dX4_refuge_231 ?_
    refine v_iconst C 1 (by decide) dX4_refuge_234 ?_
    refine v_isub C dX4_refuge_235 ?_
    refine v_topi (fun v3 => ?_)
    refine v_istore_n C [(3, .int v3), (2, .int v2), (0, .ref g.1), (1, .int p1)] rfl (by decide) rfl dX4_refuge_236 ?_
    refine v_sub [2, 1, 0] rfl ?_
    exact w4_refuge_237 C p1 FUEL v2 v3 u
  · refine v_iconst C 0 (by decide) dX4_refuge_63 ?_
    refine v_istore_n C [(3, .int 0), (0, .ref g.1), (1, .int p1), (2, .int x2)] rfl (by decide) rfl dX4_refuge_64 ?_
    refine v_sub [1, 2, 3, 0] rfl ?_
    exact w4_refuge_65 C p1 k hk FUEL x2 0 u
def f4_refuge_17 (p1 : Int32) (k : Int32 → MS → Option (Int32 × MS)) (x2 : Int32) (u : MS) : Option (Int32 × MS) :=
  if 8 ≤ x2 then
    ml1 (f4_refuge_55 p1) FUEL 0 u
  else
    mchk (inbM (22 + p1) 54) <|
    if x2 = (u.2.1 54 (22 + p1).toNatClampNeg) then
      mchk (inbZ x2 75) <|
      mlet (mA u 75 x2.toNatClampNeg 1) fun u3 =>
      k (x2 + 1) u3
    else
      mchk (inbZ x2 75) <|
      mlet (mA u 75 x2.toNatClampNeg 0) fun u3 =>
      k (x2 + 1) u3
theorem w4_refuge_17 {p : Program} {e : Env} {s : State} {m : MethodId} {args : Array Value} {below : List Frame} {meth : Method} {c : Code} (C : Cx t p s m args meth c yX4_refuge cX4_refuge 4 (some .int)) (p1 : Int32) (n : Nat) (x2 : Int32) (u : MS) : VM mkI t g p l e LV_refuge s m args below meth c 4 17 [(0, .ref g.1), (1, .int p1), (2, .int x2)] [] u (ml1 (f4_refuge_17 p1) n x2 u) := by
  refine vl1 (L := fun x2 => [(0, .ref g.1), (1, .int p1), (2, .int x2)]) (fun k hk x2 u => ?_) n x2 u
  unfold f4_refuge_17
  refine v_iload_n C 2 rfl rfl dX4_refuge_17 ?_
  refine v_bipush C 8 (by decide) dX4_refuge_18 ?_
  refine v_icmp_ge C 53 (by decide) dX4_refuge_20 (fun _ => ?_) (fun _ => ?_)
  · refine v_iconst C 0 (by decide) dX4_refuge_53 ?_
    refine v_istore_n C [(2, .int 0), (0, .ref g.1), (1, .int p1)] rfl (by decide) rfl dX4_refuge_54 ?_
    refine v_sub [1, 2, 0] rfl ?_
    exact w4_refuge_55 C p1 FUEL 0 u
  · refine v_aload_n C 0 rfl rfl dX4_refuge_23 ?_
    refine v_getMa C 75 (by decide) (by decide) q1690 rfl dX4_refuge_24 ?_
    refine v_iload_n C 2 rfl rfl dX4_refuge_27 ?_
    refine v_iload_n C 2 rfl rfl dX4_refuge_28 ?_
    refine v_aload_n C 0 rfl rfl dX4_refuge_29 ?_
    refine v_getMa C 54 (by decide) (by decide) q1669 rfl dX4_refuge_30 ?_
    refine v_bipush C 22 (by decide) dX4_refuge_33 ?_
    refine v_iload_n C 1 rfl rfl dX4_refuge_35 ?_
    refine v_iadd C dX4_refuge_36 ?_
    refine v_chk (fun h1 => ?_)
    refine v_ialdM C h1 dX4_refuge_37 ?_
    refine v_icmp_ne C 45 (by decide) dX4_refuge_38 (fun _ => ?_) (fun _ => ?_)
    · refine v_iconst C 1 (by decide) dX4_refuge_41 ?_
      refine v_goto C 46 (by decide) dX4_refuge_42 ?_
      refine v_chk (fun h2 => ?_)
      refine v_bastM C h2 rfl dX4_refuge_46 (fun u3 => ?_)
      refine v_iinc C 1 [(2, .int (x2 + 1)), (0, .ref g.1), (1, .int p1)] 2 rfl (by decide) (by decide) rfl dX4_refuge_47 ?_
      refine v_goto C 17 (by decide) dX4_refuge_50 ?_
      refine v_sub [1, 2, 0] rfl ?_
      exact hk (x2 + 1) u3
    · refine v_iconst C 0 (by decide) dX4_refuge_45 ?_
      refine v_chk (fun h2 => ?_)
      refine v_bastM C h2 rfl dX4_refuge_46 (fun u3 => ?_)
      refine v_iinc C 1 [(2, .int (x2 + 1)), (0, .ref g.1), (1, .int p1)] 2 rfl (by decide) (by decide) rfl dX4_refuge_47 ?_
      refine v_goto C 17 (by decide) dX4_refuge_50 ?_
      refine v_sub [1, 2, 0] rfl ?_
      exact hk (x2 + 1) u3
def f4_refuge (p1 : Int32) (u : MS) : Option (Int32 × MS) :=
  mlet (mS u 0 0) fun u1 =>
  mb (f4_isPerson p1 u1) fun r3 u2 =>
  if r3 = 0 then
    some (0, u2)
  else
    ml1 (f4_refuge_17 p1) FUEL 0 u2
theorem ct4_refuge (t : TT) (g : GM) (l : Launch) (p1 : Int32) (u : MS) : CtM mkI t g l yX4_refuge cX4_refuge 4 (some .int) LV_refuge [.ref g.1, .int p1] u (f4_refuge p1 u) := by
  refine ctM_of [(0, .ref g.1), (1, .int p1)] rfl (Nat.le_of_ble_eq_true rfl) rfl (fun p e s m args below meth c C => ?_)
  unfold f4_refuge
  refine v_aload_n C 0 rfl rfl dX4_refuge_0 ?_
  refine v_iconst C 0 (by decide) dX4_refuge_1 ?_
  refine v_putMi C 0 (by decide) (by decide) q1615 rfl rfl (by decide +kernel) dX4_refuge_2 (fun u1 => ?_)
  refine v_aload_n C 0 rfl rfl dX4_refuge_5 ?_
  refine v_iload_n C 1 rfl rfl dX4_refuge_6 ?_
  refine v_callVM C [.int p1] [] (ct4_isPerson t g l p1 u1) (cw4_isPerson C q2084 (by decide)) rfl rfl (Nat.le_of_ble_eq_true rfl) dX4_refuge_7 (fun r3 u2 => ?_)
  refine v_if_ne C 15 (by decide) dX4_refuge_10 (fun _ => ?_) (fun _ => ?_)
  · refine v_iconst C 0 (by decide) dX4_refuge_13 ?_
    exact v_iretM C dX4_refuge_14
  · refine v_iconst C 0 (by decide) dX4_refuge_15 ?_
    refine v_istore_n C [(2, .int 0), (0, .ref g.1), (1, .int p1)] rfl (by decide) rfl dX4_refuge_16 ?_
    refine v_sub [1, 2, 0] rfl ?_
    exact w4_refuge_17 C p1 FUEL 0 u2
theorem cw4_refuge {t : TT} {p : Program} {s : State} {m : MethodId} {args : Array Value} {meth : Method} {c : Code} {y0 : MethodName} {cc0 : ByteArray} {nL0 : Nat} {ret0 : Option FieldType} (C : Cx t p s m args meth c y0 cc0 nL0 ret0) {index lv : Nat} (hq : Cond.methodLink y0.cls index yX4_refuge ∈ lw_all) (hR : LV_refuge + 1 ≤ lv) : CallW (rmM lv) s args y0.cls RX4 index yX4_refuge cX4_refuge 4 (some .int) (ws_ yX4_refuge cX4_refuge 4 (some .int)) (rmM LV_refuge) 0 0 1 :=
  cwV 1 C.2.2.2.2.1 (lw_V hq q2330 q2331 q127 q2332) rfl rfl rfl (by decide +kernel) ⟨hR, by show 8 + (4 + 11) + 100 * LV_refuge ≤ 100 * lv; omega⟩
abbrev LV_sought : Nat := 2
def f4_sought (u : MS) : Option (Int32 × MS) :=
  mlet (mS u 0 0) fun u1 =>
  mb (f4_listOf 54 u1) fun r3 u2 =>
  mb (f4_awayOf 54 u2) fun r5 u4 =>
  some (((r3 &&& ((u2.2.1 54 (1 : Int32).toNatClampNeg) ^^^ (-1))) &&& (r5 ^^^ (-1))), u4)
theorem ct4_sought (t : TT) (g : GM) (l : Launch) (u : MS) : CtM mkI t g l yX4_sought cX4_sought 1 (some .int) LV_sought [.ref g.1] u (f4_sought u) := by
  refine ctM_of [(0, .ref g.1)] rfl (Nat.le_of_ble_eq_true rfl) rfl (fun p e s m args below meth c C => ?_)
  unfold f4_sought
  refine v_aload_n C 0 rfl rfl dX4_sought_0 ?_
  refine v_iconst C 0 (by decide) dX4_sought_1 ?_
  refine v_putMi C 0 (by decide) (by decide) q1615 rfl rfl (by decide +kernel) dX4_sought_2 (fun u1 => ?_)
  refine v_aload_n C 0 rfl rfl dX4_sought_5 ?_
  refine v_aload_n C 0 rfl rfl dX4_sought_6 ?_
  refine v_getMa C 54 (by decide) (by decide) q1669 rfl dX4_sought_7 ?_
  refine v_callVM C [.ref (g.2 54)] [] (ct4_listOf t g l 54 u1) (cw4_listOf C q2040 (by decide)) rfl rfl (Nat.le_of_ble_eq_true rfl) dX4_sought_10 (fun r3 u2 => ?_)
  refine v_aload_n C 0 rfl rfl dX4_sought_13 ?_
  refine v_getMa C 54 (by decide) (by decide) q1669 rfl dX4_sought_14 ?_
  refine v_iconst C 1 (by decide) dX4_sought_17 ?_
  refine v_ialdM C (by decide) dX4_sought_18 ?_
  refine v_iconst C (-1) (by decide) dX4_sought_19 ?_
  refine v_ixor C dX4_sought_20 ?_
  refine v_iand C dX4_sought_21 ?_
  refine v_aload_n C 0 rfl rfl dX4_sought_22 ?_
  refine v_aload_n C 0 rfl rfl dX4_sought_23 ?_
  refine v_getMa C 54 (by decide) (by decide) q1669 rfl dX4_sought_24 ?_
  refine v_callVM C [.ref (g.2 54)] [.int (r3 &&& ((u2.2.1 54 (1 : Int32).toNatClampNeg) ^^^ (-1)))] (ct4_awayOf t g l 54 u2) (cw4_awayOf C q2044 (by decide)) rfl rfl (Nat.le_of_ble_eq_true rfl) dX4_sought_27 (fun r5 u4 => ?_)
  refine v_iconst C (-1) (by decide) dX4_sought_30 ?_
  refine v_ixor C dX4_sought_31 ?_
  refine v_iand C dX4_sought_32 ?_
  exact v_iretM C dX4_sought_33
theorem cw4_sought {t : TT} {p : Program} {s : State} {m : MethodId} {args : Array Value} {meth : Method} {c : Code} {y0 : MethodName} {cc0 : ByteArray} {nL0 : Nat} {ret0 : Option FieldType} (C : Cx t p s m args meth c y0 cc0 nL0 ret0) {index lv : Nat} (hq : Cond.methodLink y0.cls index yX4_sought ∈ lw_all) (hR : LV_sought + 1 ≤ lv) : CallW (rmM lv) s args y0.cls RX4 index yX4_sought cX4_sought 1 (some .int) (ws_ yX4_sought cX4_sought 1 (some .int)) (rmM LV_sought) 0 0 0 :=
  cwV 0 C.2.2.2.2.1 (lw_V hq q2334 q2335 q127 q2336) rfl rfl rfl (by decide +kernel) ⟨hR, by show 8 + (1 + 11) + 100 * LV_sought ≤ 100 * lv; omega⟩
abbrev LV_steps : Nat := 2
def f4_steps_57 (p1 : Int32) (p2 : Int32) (k30 : Int32 → Int32 → MS → Option (Int32 × MS)) (k : Int32 → Int32 → Int32 → Int32 → MS → Option (Int32 × MS)) (x3 : Int32) (x4 : Int32) (x5 : Int32) (x6 : Int32) (u : MS) : Option (Int32 × MS) :=
  if (u.1 4) ≤ x6 then
    k30 x5 (x4 + 1) u
  else
    if ((x3 >>> (x6 &&& 31)) &&& 1) = 1 then
      mchk (inbM x6 13) <|
      mlet (x5 ||| (u.2.1 13 x6.toNatClampNeg)) fun v2 =>
      k x3 x4 v2 (x6 + 1) u
    else
      mlet (x5 ||| 0) fun v1 =>
      k x3 x4 v1 (x6 + 1) u
theorem w4_steps_57 {p : Program} {e : Env} {s : State} {m : MethodId} {args : Array Value} {below : List Frame} {meth : Method} {c : Code} (C : Cx t p s m args meth c yX4_steps cX4_steps 7 (some .int)) (p1 : Int32) (p2 : Int32) (k30 : Int32 → Int32 → MS → Option (Int32 × MS)) (hk30 : ∀ (x3 : Int32) (x4 : Int32) (u : MS), VM mkI t g p l e LV_steps s m args below meth c 7 30 [(0, .ref g.1), (2, .int p2), (3, .int x3), (4, .int x4)] [] u (k30 x3 x4 u)) (n : Nat) (x3 : Int32) (x4 : Int32) (x5 : Int32) (x6 : Int32) (u : MS) : VM mkI t g p l e LV_steps s m args below meth c 7 57 [(0, .ref g.1), (2, .int p2), (3, .int x3), (4, .int x4), (5, .int x5), (6, .int x6)] [] u (ml4 (f4_steps_57 p1 p2 k30) n x3 x4 x5 x6 u) := by
  refine vl4 (L := fun x3 x4 x5 x6 => [(0, .ref g.1), (2, .int p2), (3, .int x3), (4, .int x4), (5, .int x5), (6, .int x6)]) (fun k hk x3 x4 x5 x6 u => ?_) n x3 x4 x5 x6 u
  unfold f4_steps_57
  refine v_iload C 5 rfl dX4_steps_57 ?_
  refine v_aload_n C 0 rfl rfl dX4_steps_59 ?_
  refine v_getMi C 4 (by decide) (by decide) q1619 rfl dX4_steps_60 ?_
  refine v_icmp_ge C 98 (by decide) dX4_steps_63 (fun _ => ?_) (fun _ => ?_)
  · refine v_iload C 4 rfl dX4_steps_98 ?_
    refine v_istore_n C [(3, .int x5), (0, .ref g.1), (2, .int p2), (4, .int x4), (5, .int x5), (6, .int x6)] rfl (by decide) rfl dX4_steps_100 ?_
    refine v_iinc C 1 [(4, .int (x4 + 1)), (3, .int x5), (0, .ref g.1), (2, .int p2), (5, .int x5), (6, .int x6)] 3 rfl (by decide) (by decide) rfl dX4_steps_101 ?_
    refine v_goto C 30 (by decide) dX4_steps_104 ?_
    refine v_sub [2, 3, 1, 0] rfl ?_
    exact hk30 x5 (x4 + 1) u
  · refine v_iload C 4 rfl dX4_steps_66 ?_
    refine v_iload_n C 2 rfl rfl dX4_steps_68 ?_
    refine v_iload C 5 rfl dX4_steps_69 ?_
    refine v_ishr C dX4_steps_71 ?_
    refine v_iconst C 1 (by decide) dX4_steps_72 ?_
    refine v_iand C dX4_steps_73 ?_
    refine v_iconst C 1 (by decide) dX4_steps_74 ?_
    refine v_icmp_ne C 88 (by decide) dX4_steps_75 (fun _ => ?_) (fun _ => ?_)
    · refine v_aload_n C 0 rfl rfl dX4_steps_78 ?_
      refine v_getMa C 13 (by decide) (by decide) q1628 rfl dX4_steps_79 ?_
      refine v_iload C 5 rfl dX4_steps_82 ?_
      refine v_chk (fun h1 => ?_)
      refine v_ialdM C h1 dX4_steps_84 ?_
      refine v_goto C 89 (by decide) dX4_steps_85 ?_
      refine v_ior C dX4_steps_89 ?_
      refine v_topi (fun v2 => ?_)
      refine v_istore C [(5, .int v2), (0, .ref g.1), (2, .int p2), (3, .int x3), (4, .int x4), (6, .int x6)] (by decide) rfl dX4_steps_90 ?_
      refine v_iinc C 1 [(6, .int (x6 + 1)), (5, .int v2), (0, .ref g.1), (2, .int p2), (3, .int x3), (4, .int x4)] 5 rfl (by decide) (by decide) rfl dX4_steps_92 ?_
      refine v_goto C 57 (by decide) dX4_steps_95 ?_
      refine v_sub [2, 3, 4, 5, 1, 0] rfl ?_
      exact hk x3 x4 v2 (x6 + 1) u
    · refine v_iconst C 0 (by decide) dX4_steps_88 ?_
      refine v_ior C dX4_steps_89 ?_
      refine v_topi (fun v1 => ?_)
      refine v_istore C [(5, .int v1), (0, .ref g.1), (2, .int p2), (3, .int x3), (4, .int x4), (6, .int x6)] (by decide) rfl dX4_steps_90 ?_
      refine v_iinc C 1 [(6, .int (x6 + 1)), (5, .int v1), (0, .ref g.1), (2, .int p2), (3, .int x3), (4, .int x4)] 5 rfl (by decide) (by decide) rfl dX4_steps_92 ?_
      refine v_goto C 57 (by decide) dX4_steps_95 ?_
      refine v_sub [2, 3, 4, 5, 1, 0] rfl ?_
      exact hk x3 x4 v1 (x6 + 1) u
def f4_steps_30 (p1 : Int32) (p2 : Int32) (k : Int32 → Int32 → MS → Option (Int32 × MS)) (x3 : Int32) (x4 : Int32) (u : MS) : Option (Int32 × MS) :=
  if (u.1 4) < x4 then
    some (-1, u)
  else
    if ((x3 >>> (p2 &&& 31)) &&& 1) = 1 then
      some (x4, u)
    else
      ml4 (f4_steps_57 p1 p2 k) FUEL x3 x4 x3 0 u
theorem w4_steps_30 {p : Program} {e : Env} {s : State} {m : MethodId} {args : Array Value} {below : List Frame} {meth : Method} {c : Code} (C : Cx t p s m args meth c yX4_steps cX4_steps 7 (some .int)) (p1 : Int32) (p2 : Int32) (n : Nat) (x3 : Int32) (x4 : Int32) (u : MS) : VM mkI t g p l e LV_steps s m args below meth c 7 30 [(0, .ref g.1), (2, .int p2), (3, .int x3), (4, .int x4)] [] u (ml2 (f4_steps_30 p1 p2) n x3 x4 u) := by
  refine vl2 (L := fun x3 x4 => [(0, .ref g.1), (2, .int p2), (3, .int x3), (4, .int x4)]) (fun k hk x3 x4 u => ?_) n x3 x4 u
  unfold f4_steps_30
  refine v_iload C 3 rfl dX4_steps_30 ?_
  refine v_aload_n C 0 rfl rfl dX4_steps_32 ?_
  refine v_getMi C 4 (by decide) (by decide) q1619 rfl dX4_steps_33 ?_
  refine v_icmp_gt C 107 (by decide) dX4_steps_36 (fun _ => ?_) (fun _ => ?_)
  · refine v_iconst C (-1) (by decide) dX4_steps_107 ?_
    exact v_iretM C dX4_steps_108
  · refine v_iload_n C 2 rfl rfl dX4_steps_39 ?_
    refine v_iload_n C 1 rfl rfl dX4_steps_40 ?_
    refine v_ishr C dX4_steps_41 ?_
    refine v_iconst C 1 (by decide) dX4_steps_42 ?_
    refine v_iand C dX4_steps_43 ?_
    refine v_iconst C 1 (by decide) dX4_steps_44 ?_
    refine v_icmp_ne C 51 (by decide) dX4_steps_45 (fun _ => ?_) (fun _ => ?_)
    · refine v_iload C 3 rfl dX4_steps_48 ?_
      exact v_iretM C dX4_steps_50
    · refine v_iload_n C 2 rfl rfl dX4_steps_51 ?_
      refine v_istore C [(5, .int x3), (0, .ref g.1), (2, .int p2), (3, .int x3), (4, .int x4)] (by decide) rfl dX4_steps_52 ?_
      refine v_iconst C 0 (by decide) dX4_steps_54 ?_
      refine v_istore C [(6, .int 0), (5, .int x3), (0, .ref g.1), (2, .int p2), (3, .int x3), (4, .int x4)] (by decide) rfl dX4_steps_55 ?_
      refine v_sub [2, 3, 4, 5, 1, 0] rfl ?_
      exact w4_steps_57 C p1 p2 k hk FUEL x3 x4 x3 0 u
def f4_steps (p1 : Int32) (p2 : Int32) (u : MS) : Option (Int32 × MS) :=
  mlet (mS u 0 0) fun u1 =>
  mb (f4_isPerson p1 u1) fun r3 u2 =>
  if r3 = 0 then
    some (0, u2)
  else
    mb (f4_isPerson p2 u2) fun r5 u4 =>
    if r5 = 0 then
      some (0, u4)
    else
      mlet (1 <<< (p1 &&& 31)) fun v6 =>
      ml2 (f4_steps_30 p1 p2) FUEL v6 0 u4
theorem ct4_steps (t : TT) (g : GM) (l : Launch) (p1 : Int32) (p2 : Int32) (u : MS) : CtM mkI t g l yX4_steps cX4_steps 7 (some .int) LV_steps [.ref g.1, .int p1, .int p2] u (f4_steps p1 p2 u) := by
  refine ctM_of [(0, .ref g.1), (1, .int p1), (2, .int p2)] rfl (Nat.le_of_ble_eq_true rfl) rfl (fun p e s m args below meth c C => ?_)
  unfold f4_steps
  refine v_aload_n C 0 rfl rfl dX4_steps_0 ?_
  refine v_iconst C 0 (by decide) dX4_steps_1 ?_
  refine v_putMi C 0 (by decide) (by decide) q1615 rfl rfl (by decide +kernel) dX4_steps_2 (fun u1 => ?_)
  refine v_aload_n C 0 rfl rfl dX4_steps_5 ?_
  refine v_iload_n C 1 rfl rfl dX4_steps_6 ?_
  refine v_callVM C [.int p1] [] (ct4_isPerson t g l p1 u1) (cw4_isPerson C q2084 (by decide)) rfl rfl (Nat.le_of_ble_eq_true rfl) dX4_steps_7 (fun r3 u2 => ?_)
  refine v_if_eq C 21 (by decide) dX4_steps_10 (fun _ => ?_) (fun _ => ?_)
  · refine v_iconst C 0 (by decide) dX4_steps_21 ?_
    exact v_iretM C dX4_steps_22
  · refine v_aload_n C 0 rfl rfl dX4_steps_13 ?_
    refine v_iload_n C 2 rfl rfl dX4_steps_14 ?_
    refine v_callVM C [.int p2] [] (ct4_isPerson t g l p2 u2) (cw4_isPerson C q2084 (by decide)) rfl rfl (Nat.le_of_ble_eq_true rfl) dX4_steps_15 (fun r5 u4 => ?_)
    refine v_if_ne C 23 (by decide) dX4_steps_18 (fun _ => ?_) (fun _ => ?_)
    · refine v_iconst C 0 (by decide) dX4_steps_21 ?_
      exact v_iretM C dX4_steps_22
    · refine v_iconst C 1 (by decide) dX4_steps_23 ?_
      refine v_iload_n C 1 rfl rfl dX4_steps_24 ?_
      refine v_ishl C dX4_steps_25 ?_
      refine v_topi (fun v6 => ?_)
      refine v_istore_n C [(3, .int v6), (0, .ref g.1), (1, .int p1), (2, .int p2)] rfl (by decide) rfl dX4_steps_26 ?_
      refine v_iconst C 0 (by decide) dX4_steps_27 ?_
      refine v_istore C [(4, .int 0), (3, .int v6), (0, .ref g.1), (1, .int p1), (2, .int p2)] (by decide) rfl dX4_steps_28 ?_
      refine v_sub [2, 4, 1, 0] rfl ?_
      exact w4_steps_30 C p1 p2 FUEL v6 0 u4
theorem cw4_steps {t : TT} {p : Program} {s : State} {m : MethodId} {args : Array Value} {meth : Method} {c : Code} {y0 : MethodName} {cc0 : ByteArray} {nL0 : Nat} {ret0 : Option FieldType} (C : Cx t p s m args meth c y0 cc0 nL0 ret0) {index lv : Nat} (hq : Cond.methodLink y0.cls index yX4_steps ∈ lw_all) (hR : LV_steps + 1 ≤ lv) : CallW (rmM lv) s args y0.cls RX4 index yX4_steps cX4_steps 7 (some .int) (ws_ yX4_steps cX4_steps 7 (some .int)) (rmM LV_steps) 0 0 2 :=
  cwV 2 C.2.2.2.2.1 (lw_V hq q2338 q2339 q127 q2340) rfl rfl rfl (by decide +kernel) ⟨hR, by show 8 + (7 + 11) + 100 * LV_steps ≤ 100 * lv; omega⟩
abbrev LV_image : Nat := 1
def f4_image (u : MS) : Option (Unit × MS) :=
  mlet (mS u 0 0) fun u1 =>
  mlet (mS u1 81 1) fun u2 =>
  mlet (mS u2 82 (u2.1 56)) fun u3 =>
  mlet (mS u3 83 (u3.1 76)) fun u4 =>
  mb (f4_copies 54 84 u4) fun _ u5 =>
  mb (f4_copies 55 85 u5) fun _ u6 =>
  mb (f4_copies 77 86 u6) fun _ u7 =>
  some ((), u7)
theorem ct4_image (t : TT) (g : GM) (l : Launch) (u : MS) : CtM mkU t g l yX4_image cX4_image 1 none LV_image [.ref g.1] u (f4_image u) := by
  refine ctM_of [(0, .ref g.1)] rfl (Nat.le_of_ble_eq_true rfl) rfl (fun p e s m args below meth c C => ?_)
  unfold f4_image
  refine v_aload_n C 0 rfl rfl dX4_image_0 ?_
  refine v_iconst C 0 (by decide) dX4_image_1 ?_
  refine v_putMi C 0 (by decide) (by decide) q1615 rfl rfl (by decide +kernel) dX4_image_2 (fun u1 => ?_)
  refine v_aload_n C 0 rfl rfl dX4_image_5 ?_
  refine v_iconst C 1 (by decide) dX4_image_6 ?_
  refine v_putMz C 81 (by decide) (by decide) rfl q1696 rfl rfl (by decide +kernel) dX4_image_7 (fun u2 => ?_)
  refine v_aload_n C 0 rfl rfl dX4_image_10 ?_
  refine v_aload_n C 0 rfl rfl dX4_image_11 ?_
  refine v_getMi C 56 (by decide) (by decide) q1671 rfl dX4_image_12 ?_
  refine v_putMi C 82 (by decide) (by decide) q1697 rfl rfl (by decide +kernel) dX4_image_15 (fun u3 => ?_)
  refine v_aload_n C 0 rfl rfl dX4_image_18 ?_
  refine v_aload_n C 0 rfl rfl dX4_image_19 ?_
  refine v_getMi C 76 (by decide) (by decide) q1691 rfl dX4_image_20 ?_
  refine v_putMi C 83 (by decide) (by decide) q1698 rfl rfl (by decide +kernel) dX4_image_23 (fun u4 => ?_)
  refine v_aload_n C 0 rfl rfl dX4_image_26 ?_
  refine v_aload_n C 0 rfl rfl dX4_image_27 ?_
  refine v_getMa C 54 (by decide) (by decide) q1669 rfl dX4_image_28 ?_
  refine v_aload_n C 0 rfl rfl dX4_image_31 ?_
  refine v_getMa C 84 (by decide) (by decide) q1699 rfl dX4_image_32 ?_
  refine v_callVM C [.ref (g.2 54), .ref (g.2 84)] [] (ct4_copies t g l 54 84 u4) (cw4_copies C q2021 (by decide)) rfl rfl (Nat.le_of_ble_eq_true rfl) dX4_image_35 (fun _ u5 => ?_)
  refine v_aload_n C 0 rfl rfl dX4_image_38 ?_
  refine v_aload_n C 0 rfl rfl dX4_image_39 ?_
  refine v_getMa C 55 (by decide) (by decide) q1670 rfl dX4_image_40 ?_
  refine v_aload_n C 0 rfl rfl dX4_image_43 ?_
  refine v_getMa C 85 (by decide) (by decide) q1700 rfl dX4_image_44 ?_
  refine v_callVM C [.ref (g.2 55), .ref (g.2 85)] [] (ct4_copies t g l 55 85 u5) (cw4_copies C q2021 (by decide)) rfl rfl (Nat.le_of_ble_eq_true rfl) dX4_image_47 (fun _ u6 => ?_)
  refine v_aload_n C 0 rfl rfl dX4_image_50 ?_
  refine v_aload_n C 0 rfl rfl dX4_image_51 ?_
  refine v_getMa C 77 (by decide) (by decide) q1692 rfl dX4_image_52 ?_
  refine v_aload_n C 0 rfl rfl dX4_image_55 ?_
  refine v_getMa C 86 (by decide) (by decide) q1701 rfl dX4_image_56 ?_
  refine v_callVM C [.ref (g.2 77), .ref (g.2 86)] [] (ct4_copies t g l 77 86 u6) (cw4_copies C q2021 (by decide)) rfl rfl (Nat.le_of_ble_eq_true rfl) dX4_image_59 (fun _ u7 => ?_)
  exact v_vretM C dX4_image_62
theorem cw4_image {t : TT} {p : Program} {s : State} {m : MethodId} {args : Array Value} {meth : Method} {c : Code} {y0 : MethodName} {cc0 : ByteArray} {nL0 : Nat} {ret0 : Option FieldType} (C : Cx t p s m args meth c y0 cc0 nL0 ret0) {index lv : Nat} (hq : Cond.methodLink y0.cls index yX4_image ∈ lw_all) (hR : LV_image + 1 ≤ lv) : CallW (rmM lv) s args y0.cls RX4 index yX4_image cX4_image 1 none (ws_ yX4_image cX4_image 1 none) (rmM LV_image) 0 0 0 :=
  cwV 0 C.2.2.2.2.1 (lw_V hq q2342 q2343 q127 q2344) rfl rfl rfl (by decide +kernel) ⟨hR, by show 8 + (1 + 11) + 100 * LV_image ≤ 100 * lv; omega⟩
abbrev LV_restore : Nat := 1
def f4_restore (u : MS) : Option (Int32 × MS) :=
  mlet (mS u 0 0) fun u1 =>
  if (u1.1 81) = 0 then
    rz 0 u1
  else
    mlet (mS u1 56 (u1.1 82)) fun u2 =>
    mlet (mS u2 76 (u2.1 83)) fun u3 =>
    mb (f4_copies 84 54 u3) fun _ u4 =>
    mb (f4_copies 85 55 u4) fun _ u5 =>
    mb (f4_copies 86 77 u5) fun _ u6 =>
    rz 1 u6
theorem ct4_restore (t : TT) (g : GM) (l : Launch) (u : MS) : CtM mkI t g l yX4_restore cX4_restore 1 (some .boolean) LV_restore [.ref g.1] u (f4_restore u) := by
  refine ctM_of [(0, .ref g.1)] rfl (Nat.le_of_ble_eq_true rfl) rfl (fun p e s m args below meth c C => ?_)
  unfold f4_restore
  refine v_aload_n C 0 rfl rfl dX4_restore_0 ?_
  refine v_iconst C 0 (by decide) dX4_restore_1 ?_
  refine v_putMi C 0 (by decide) (by decide) q1615 rfl rfl (by decide +kernel) dX4_restore_2 (fun u1 => ?_)
  refine v_aload_n C 0 rfl rfl dX4_restore_5 ?_
  refine v_getMi C 81 (by decide) (by decide) q1696 rfl dX4_restore_6 ?_
  refine v_if_ne C 14 (by decide) dX4_restore_9 (fun _ => ?_) (fun _ => ?_)
  · refine v_iconst C 0 (by decide) dX4_restore_12 ?_
    exact v_zretM C dX4_restore_13
  · refine v_aload_n C 0 rfl rfl dX4_restore_14 ?_
    refine v_aload_n C 0 rfl rfl dX4_restore_15 ?_
    refine v_getMi C 82 (by decide) (by decide) q1697 rfl dX4_restore_16 ?_
    refine v_putMi C 56 (by decide) (by decide) q1671 rfl rfl (by decide +kernel) dX4_restore_19 (fun u2 => ?_)
    refine v_aload_n C 0 rfl rfl dX4_restore_22 ?_
    refine v_aload_n C 0 rfl rfl dX4_restore_23 ?_
    refine v_getMi C 83 (by decide) (by decide) q1698 rfl dX4_restore_24 ?_
    refine v_putMi C 76 (by decide) (by decide) q1691 rfl rfl (by decide +kernel) dX4_restore_27 (fun u3 => ?_)
    refine v_aload_n C 0 rfl rfl dX4_restore_30 ?_
    refine v_aload_n C 0 rfl rfl dX4_restore_31 ?_
    refine v_getMa C 84 (by decide) (by decide) q1699 rfl dX4_restore_32 ?_
    refine v_aload_n C 0 rfl rfl dX4_restore_35 ?_
    refine v_getMa C 54 (by decide) (by decide) q1669 rfl dX4_restore_36 ?_
    refine v_callVM C [.ref (g.2 84), .ref (g.2 54)] [] (ct4_copies t g l 84 54 u3) (cw4_copies C q2021 (by decide)) rfl rfl (Nat.le_of_ble_eq_true rfl) dX4_restore_39 (fun _ u4 => ?_)
    refine v_aload_n C 0 rfl rfl dX4_restore_42 ?_
    refine v_aload_n C 0 rfl rfl dX4_restore_43 ?_
    refine v_getMa C 85 (by decide) (by decide) q1700 rfl dX4_restore_44 ?_
    refine v_aload_n C 0 rfl rfl dX4_restore_47 ?_
    refine v_getMa C 55 (by decide) (by decide) q1670 rfl dX4_restore_48 ?_
    refine v_callVM C [.ref (g.2 85), .ref (g.2 55)] [] (ct4_copies t g l 85 55 u4) (cw4_copies C q2021 (by decide)) rfl rfl (Nat.le_of_ble_eq_true rfl) dX4_restore_51 (fun _ u5 => ?_)
    refine v_aload_n C 0 rfl rfl dX4_restore_54 ?_
    refine v_aload_n C 0 rfl rfl dX4_restore_55 ?_
    refine v_getMa C 86 (by decide) (by decide) q1701 rfl dX4_restore_56 ?_
    refine v_aload_n C 0 rfl rfl dX4_restore_59 ?_
    refine v_getMa C 77 (by decide) (by decide) q1692 rfl dX4_restore_60 ?_
    refine v_callVM C [.ref (g.2 86), .ref (g.2 77)] [] (ct4_copies t g l 86 77 u5) (cw4_copies C q2021 (by decide)) rfl rfl (Nat.le_of_ble_eq_true rfl) dX4_restore_63 (fun _ u6 => ?_)
    refine v_iconst C 1 (by decide) dX4_restore_66 ?_
    exact v_zretM C dX4_restore_67
theorem cw4_restore {t : TT} {p : Program} {s : State} {m : MethodId} {args : Array Value} {meth : Method} {c : Code} {y0 : MethodName} {cc0 : ByteArray} {nL0 : Nat} {ret0 : Option FieldType} (C : Cx t p s m args meth c y0 cc0 nL0 ret0) {index lv : Nat} (hq : Cond.methodLink y0.cls index yX4_restore ∈ lw_all) (hR : LV_restore + 1 ≤ lv) : CallW (rmM lv) s args y0.cls RX4 index yX4_restore cX4_restore 1 (some .boolean) (ws_ yX4_restore cX4_restore 1 (some .boolean)) (rmM LV_restore) 0 0 0 :=
  cwV 0 C.2.2.2.2.1 (lw_V hq q2346 q2347 q127 q2348) rfl rfl rfl (by decide +kernel) ⟨hR, by show 8 + (1 + 11) + 100 * LV_restore ≤ 100 * lv; omega⟩
end
