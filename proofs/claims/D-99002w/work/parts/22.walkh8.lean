/-! walks in mode H, printed by tools/genh.py -/
set_option maxRecDepth 100000
section
variable {t : TT} {G : GH} {l : Launch}
def hJ8_indexOf (p0 : Nat) (p1 : Int32) (u : HS) : Option (OH Int32) :=
  mchk (hC u p0 == 30) <|
  hb (hJ8_indexOf_2 p0 p1 0 u) fun r2 u1 =>
  hret r2 u1
theorem ctJ8_indexOf (t : TT) (G : GH) (l : Launch) (hl0 : l.stackTraces = false) (p0 : Nat) (p1 : Int32) (u : HS) : CtH mkI t G l yJ8_indexOf cJ8_indexOf 2 (some .int) 5 [.ref p0, .int p1] u (hJ8_indexOf p0 p1 u) := by
  refine ctH_of [(0, .ref p0), (1, .int p1)] hl0 rfl (Nat.le_of_ble_eq_true rfl) rfl (fun K1 K2 p e s m args below meth c C => ?_)
  unfold hJ8_indexOf
  refine v_aload_n C.1 0 rfl rfl dJ8_indexOf_0 ?_
  refine v_iload_n C.1 1 rfl rfl dJ8_indexOf_1 ?_
  refine v_iconst C.1 0 (by decide) dJ8_indexOf_2 ?_
  refine v_chk (fun h3 => ?_)
  refine v_callVH C [.int p1, .int 0] [] (ctJ8_indexOf_2 t G l hl0 p0 p1 0 u) (fun _ _ => cwJ8_indexOf_2 C q914 (by decide)) (recS C (eq_of_beq h3)) rfl rfl (by exact Nat.le_of_ble_eq_true rfl) dJ8_indexOf_3 (fun r2 u1 => ?_)
  exact v_hiret C dJ8_indexOf_6
theorem cwJ8_indexOf {t : TT} {G : GH} {l : Launch} {p : Program} {s : State} {m : MethodId} {args : Array Value} {meth : Method} {c : Code} {y0 : MethodName} {cc0 : ByteArray} {nL0 : Nat} {ret0 : Option FieldType} (C : CxH t G l p s m args meth c y0 cc0 nL0 ret0) {index lv mc ms K1 K2 : Nat} (hq : Cond.methodLink y0.cls index yJ8_indexOf ∈ lw_all) (hR : 5 + 1 ≤ lv) : CallW (rmH lv K1 K2) s args y0.cls RJ8 index yJ8_indexOf cJ8_indexOf 2 (some .int) (ws_ yJ8_indexOf cJ8_indexOf 2 (some .int)) (rmH 5 mc ms) mc ms 1 :=
  cwV 1 C.1.2.2.2.2.1 (lw_V hq q911 q912 q134 q913) rfl rfl rfl (by decide +kernel) ⟨hR, by show 8 + (2 + 11) + 100 * 5 ≤ 100 * lv; omega⟩
def hX5_next_172 (p0 : Nat) (s0 : Nat) (s1 : Int32) (u : HS) : Option (OH Unit) :=
  mchk (hC u s0 == 5) <|
  mlet (uI u s0 5 s1) fun u2 =>
  mchk (hC u2 p0 == 5) <|
  mchk (hC u2 p0 == 5) <|
  mlet (uI u2 p0 4 ((hI u2 p0 4) + 1)) fun u5 =>
  mchk (hC u5 p0 == 5) <|
  mchk (hC u5 p0 == 5) <|
  mlet (uI u5 p0 7 (hI u5 p0 4)) fun u8 =>
  hret () u8
theorem whX5_next_172 {K1 K2 : Nat} {p : Program} {e : Env} {s : State} {m : MethodId} {args : Array Value} {below : List Frame} {meth : Method} {c : Code} (hl0 : l.stackTraces = false) (C : CxH t G l p s m args meth c yX5_next cX5_next 1 none) (p0 : Nat) (s0 : Nat) (s1 : Int32) (u : HS) : VH mkU t G p l e 6 K1 K2 s m args below meth c 1 172 [(0, .ref p0)] [.int s1, .ref s0] u (hX5_next_172 p0 s0 s1 u) := by
  unfold hX5_next_172
  refine v_chk (fun h1 => ?_)
  refine v_hputI C 4 5 (eq_of_beq h1) (by decide) rfl in_X5 tyX5 tyX5_ok nmX5 (by decide) (by decide) q853 (fun _ h => h) (Or.inl rfl) ⟨rfl, rfl⟩ dX5_next_172 (fun u2 => ?_)
  refine v_aload_n C.1 0 rfl rfl dX5_next_175 ?_
  refine v_dup C.1 rfl dX5_next_176 ?_
  refine v_chk (fun h3 => ?_)
  refine v_hget C (v := .int (hI u2 p0 4)) 4 4 (eq_of_beq h3) (by decide) rfl in_X5 (by decide) (Or.inl q852) (fun _ h => h) (hF_i (ci := 4) (eq_of_beq h3) (by decide)) dX5_next_177 ?_
  refine v_iconst C.1 1 (by decide) dX5_next_180 ?_
  refine v_iadd C.1 dX5_next_181 ?_
  refine v_chk (fun h4 => ?_)
  refine v_hputI C 4 4 (eq_of_beq h4) (by decide) rfl in_X5 tyX5 tyX5_ok nmX5 (by decide) (by decide) q852 (fun _ h => h) (Or.inl rfl) ⟨rfl, rfl⟩ dX5_next_182 (fun u5 => ?_)
  refine v_aload_n C.1 0 rfl rfl dX5_next_185 ?_
  refine v_aload_n C.1 0 rfl rfl dX5_next_186 ?_
  refine v_chk (fun h6 => ?_)
  refine v_hget C (v := .int (hI u5 p0 4)) 4 4 (eq_of_beq h6) (by decide) rfl in_X5 (by decide) (Or.inl q852) (fun _ h => h) (hF_i (ci := 4) (eq_of_beq h6) (by decide)) dX5_next_187 ?_
  refine v_chk (fun h7 => ?_)
  refine v_hputI C 4 7 (eq_of_beq h7) (by decide) rfl in_X5 tyX5 tyX5_ok nmX5 (by decide) (by decide) q856 (fun _ h => h) (Or.inl rfl) ⟨rfl, rfl⟩ dX5_next_190 (fun u8 => ?_)
  exact v_hvret C dX5_next_193
def hX5_next_102 (p0 : Nat) (k : HS → Option (OH Unit)) (u : HS) : Option (OH Unit) :=
  mchk (hC u p0 == 5) <|
  hb (hX5_isDigit p0 u) fun r2 u1 =>
  if r2 = 0 then
    mchk (hC u1 p0 == 5) <|
    mlet (uI u1 p0 5 2) fun u5 =>
    mchk (hC u5 p0 == 5) <|
    mchk (hC u5 p0 == 5) <|
    mlet (uI u5 p0 7 (hI u5 p0 4)) fun u8 =>
    hret () u8
  else
    mchk (hC u1 p0 == 5) <|
    mchk (hC u1 p0 == 5) <|
    hb (hX5_here p0 u1) fun r6 u5 =>
    mchk (hC u5 p0 == 5) <|
    mlet (uI u5 p0 8 (iMin 100000 ((((10 : Int32) * (hI u1 p0 8)) + r6) - 48))) fun u9 =>
    mchk (hC u9 p0 == 5) <|
    mchk (hC u9 p0 == 5) <|
    mlet (uI u9 p0 4 ((hI u9 p0 4) + 1)) fun u12 =>
    k u12
theorem whX5_next_102 {K1 K2 : Nat} {p : Program} {e : Env} {s : State} {m : MethodId} {args : Array Value} {below : List Frame} {meth : Method} {c : Code} (hl0 : l.stackTraces = false) (C : CxH t G l p s m args meth c yX5_next cX5_next 1 none) (p0 : Nat) (n : Nat) (u : HS) : VH mkU t G p l e 6 K1 K2 s m args below meth c 1 102 [(0, .ref p0)] [] u (ml0 (hX5_next_102 p0) n u) := by
  refine vl0 (L := [(0, .ref p0)]) (fun k hk u => ?_) n u
  unfold hX5_next_102
  refine v_aload_n C.1 0 rfl rfl dX5_next_102 ?_
  refine v_chk (fun h3 => ?_)
  refine v_callVH C [] [] (ctX5_isDigit t G l hl0 p0 u) (fun _ _ => cwX5_isDigit C q903 (by decide)) (recO C (ci := 4) (eq_of_beq h3) (by decide) rfl) rfl rfl (by exact Nat.le_of_ble_eq_true rfl) dX5_next_103 (fun r2 u1 => ?_)
  refine v_if_eq C.1 146 (by decide) dX5_next_106 (fun _ => ?_) (fun _ => ?_)
  · refine v_aload_n C.1 0 rfl rfl dX5_next_146 ?_
    refine v_iconst C.1 2 (by decide) dX5_next_147 ?_
    refine v_chk (fun h4 => ?_)
    refine v_hputI C 4 5 (eq_of_beq h4) (by decide) rfl in_X5 tyX5 tyX5_ok nmX5 (by decide) (by decide) q853 (fun _ h => h) (Or.inl rfl) ⟨rfl, rfl⟩ dX5_next_148 (fun u5 => ?_)
    refine v_goto C.1 185 (by decide) dX5_next_151 ?_
    refine v_aload_n C.1 0 rfl rfl dX5_next_185 ?_
    refine v_aload_n C.1 0 rfl rfl dX5_next_186 ?_
    refine v_chk (fun h6 => ?_)
    refine v_hget C (v := .int (hI u5 p0 4)) 4 4 (eq_of_beq h6) (by decide) rfl in_X5 (by decide) (Or.inl q852) (fun _ h => h) (hF_i (ci := 4) (eq_of_beq h6) (by decide)) dX5_next_187 ?_
    refine v_chk (fun h7 => ?_)
    refine v_hputI C 4 7 (eq_of_beq h7) (by decide) rfl in_X5 tyX5 tyX5_ok nmX5 (by decide) (by decide) q856 (fun _ h => h) (Or.inl rfl) ⟨rfl, rfl⟩ dX5_next_190 (fun u8 => ?_)
    exact v_hvret C dX5_next_193
  · refine v_aload_n C.1 0 rfl rfl dX5_next_109 ?_
    refine v_ldc C.1 q907 dX5_next_110 ?_
    refine v_bipush C.1 10 (by decide) dX5_next_112 ?_
    refine v_aload_n C.1 0 rfl rfl dX5_next_114 ?_
    refine v_chk (fun h4 => ?_)
    refine v_hget C (v := .int (hI u1 p0 8)) 4 8 (eq_of_beq h4) (by decide) rfl in_X5 (by decide) (Or.inl q857) (fun _ h => h) (hF_i (ci := 4) (eq_of_beq h4) (by decide)) dX5_next_115 ?_
    refine v_imul C.1 dX5_next_118 ?_
    refine v_aload_n C.1 0 rfl rfl dX5_next_119 ?_
    refine v_chk (fun h7 => ?_)
    refine v_callVH C [] [.int ((10 : Int32) * (hI u1 p0 8)), .int 100000, .ref p0] (ctX5_here t G l hl0 p0 u1) (fun _ _ => cwX5_here C q894 (by decide)) (recO C (ci := 4) (eq_of_beq h7) (by decide) rfl) rfl rfl (by exact Nat.le_of_ble_eq_true rfl) dX5_next_120 (fun r6 u5 => ?_)
    refine v_iadd C.1 dX5_next_123 ?_
    refine v_bipush C.1 48 (by decide) dX5_next_124 ?_
    refine v_isub C.1 dX5_next_126 ?_
    refine v_mmin C q908 q445 q133 q446 (by exact Nat.le_of_ble_eq_true rfl) (by exact Nat.le_of_ble_eq_true rfl) dX5_next_127 ?_
    refine v_chk (fun h8 => ?_)
    refine v_hputI C 4 8 (eq_of_beq h8) (by decide) rfl in_X5 tyX5 tyX5_ok nmX5 (by decide) (by decide) q857 (fun _ h => h) (Or.inl rfl) ⟨rfl, rfl⟩ dX5_next_130 (fun u9 => ?_)
    refine v_aload_n C.1 0 rfl rfl dX5_next_133 ?_
    refine v_dup C.1 rfl dX5_next_134 ?_
    refine v_chk (fun h10 => ?_)
    refine v_hget C (v := .int (hI u9 p0 4)) 4 4 (eq_of_beq h10) (by decide) rfl in_X5 (by decide) (Or.inl q852) (fun _ h => h) (hF_i (ci := 4) (eq_of_beq h10) (by decide)) dX5_next_135 ?_
    refine v_iconst C.1 1 (by decide) dX5_next_138 ?_
    refine v_iadd C.1 dX5_next_139 ?_
    refine v_chk (fun h11 => ?_)
    refine v_hputI C 4 4 (eq_of_beq h11) (by decide) rfl in_X5 tyX5 tyX5_ok nmX5 (by decide) (by decide) q852 (fun _ h => h) (Or.inl rfl) ⟨rfl, rfl⟩ dX5_next_140 (fun u12 => ?_)
    refine v_goto C.1 102 (by decide) dX5_next_143 ?_
    exact hk u12
def hX5_next_62 (p0 : Nat) (k : HS → Option (OH Unit)) (u : HS) : Option (OH Unit) :=
  mchk (hC u p0 == 5) <|
  hb (hX5_isLetter p0 u) fun r2 u1 =>
  if r2 = 0 then
    mchk (hC u1 p0 == 5) <|
    mlet (uI u1 p0 5 1) fun u5 =>
    mchk (hC u5 p0 == 5) <|
    mchk (hC u5 p0 == 5) <|
    mlet (uI u5 p0 7 (hI u5 p0 4)) fun u8 =>
    hret () u8
  else
    mchk (hC u1 p0 == 5) <|
    mchk (hC u1 p0 == 5) <|
    mlet (uI u1 p0 4 ((hI u1 p0 4) + 1)) fun u6 =>
    k u6
theorem whX5_next_62 {K1 K2 : Nat} {p : Program} {e : Env} {s : State} {m : MethodId} {args : Array Value} {below : List Frame} {meth : Method} {c : Code} (hl0 : l.stackTraces = false) (C : CxH t G l p s m args meth c yX5_next cX5_next 1 none) (p0 : Nat) (n : Nat) (u : HS) : VH mkU t G p l e 6 K1 K2 s m args below meth c 1 62 [(0, .ref p0)] [] u (ml0 (hX5_next_62 p0) n u) := by
  refine vl0 (L := [(0, .ref p0)]) (fun k hk u => ?_) n u
  unfold hX5_next_62
  refine v_aload_n C.1 0 rfl rfl dX5_next_62 ?_
  refine v_chk (fun h3 => ?_)
  refine v_callVH C [] [] (ctX5_isLetter t G l hl0 p0 u) (fun _ _ => cwX5_isLetter C q898 (by decide)) (recO C (ci := 4) (eq_of_beq h3) (by decide) rfl) rfl rfl (by exact Nat.le_of_ble_eq_true rfl) dX5_next_63 (fun r2 u1 => ?_)
  refine v_if_eq C.1 82 (by decide) dX5_next_66 (fun _ => ?_) (fun _ => ?_)
  · refine v_aload_n C.1 0 rfl rfl dX5_next_82 ?_
    refine v_iconst C.1 1 (by decide) dX5_next_83 ?_
    refine v_chk (fun h4 => ?_)
    refine v_hputI C 4 5 (eq_of_beq h4) (by decide) rfl in_X5 tyX5 tyX5_ok nmX5 (by decide) (by decide) q853 (fun _ h => h) (Or.inl rfl) ⟨rfl, rfl⟩ dX5_next_84 (fun u5 => ?_)
    refine v_goto C.1 185 (by decide) dX5_next_87 ?_
    refine v_aload_n C.1 0 rfl rfl dX5_next_185 ?_
    refine v_aload_n C.1 0 rfl rfl dX5_next_186 ?_
    refine v_chk (fun h6 => ?_)
    refine v_hget C (v := .int (hI u5 p0 4)) 4 4 (eq_of_beq h6) (by decide) rfl in_X5 (by decide) (Or.inl q852) (fun _ h => h) (hF_i (ci := 4) (eq_of_beq h6) (by decide)) dX5_next_187 ?_
    refine v_chk (fun h7 => ?_)
    refine v_hputI C 4 7 (eq_of_beq h7) (by decide) rfl in_X5 tyX5 tyX5_ok nmX5 (by decide) (by decide) q856 (fun _ h => h) (Or.inl rfl) ⟨rfl, rfl⟩ dX5_next_190 (fun u8 => ?_)
    exact v_hvret C dX5_next_193
  · refine v_aload_n C.1 0 rfl rfl dX5_next_69 ?_
    refine v_dup C.1 rfl dX5_next_70 ?_
    refine v_chk (fun h4 => ?_)
    refine v_hget C (v := .int (hI u1 p0 4)) 4 4 (eq_of_beq h4) (by decide) rfl in_X5 (by decide) (Or.inl q852) (fun _ h => h) (hF_i (ci := 4) (eq_of_beq h4) (by decide)) dX5_next_71 ?_
    refine v_iconst C.1 1 (by decide) dX5_next_74 ?_
    refine v_iadd C.1 dX5_next_75 ?_
    refine v_chk (fun h5 => ?_)
    refine v_hputI C 4 4 (eq_of_beq h5) (by decide) rfl in_X5 tyX5 tyX5_ok nmX5 (by decide) (by decide) q852 (fun _ h => h) (Or.inl rfl) ⟨rfl, rfl⟩ dX5_next_76 (fun u6 => ?_)
    refine v_goto C.1 62 (by decide) dX5_next_79 ?_
    exact hk u6
def hX5_next_0 (p0 : Nat) (k : HS → Option (OH Unit)) (u : HS) : Option (OH Unit) :=
  mchk (hC u p0 == 5) <|
  hb (hX5_here p0 u) fun r2 u1 =>
  if r2 = 32 then
    mchk (hC u1 p0 == 5) <|
    mchk (hC u1 p0 == 5) <|
    mlet (uI u1 p0 4 ((hI u1 p0 4) + 1)) fun u6 =>
    k u6
  else
    mchk (hC u1 p0 == 5) <|
    hb (hX5_here p0 u1) fun r5 u4 =>
    if r5 = 10 then
      mchk (hC u4 p0 == 5) <|
      mchk (hC u4 p0 == 5) <|
      mlet (uI u4 p0 4 ((hI u4 p0 4) + 1)) fun u9 =>
      k u9
    else
      mchk (hC u4 p0 == 5) <|
      mchk (hC u4 p0 == 5) <|
      mlet (uI u4 p0 6 (hI u4 p0 4)) fun u9 =>
      mchk (hC u9 p0 == 5) <|
      hb (hX5_here p0 u9) fun r11 u10 =>
      if r11 = (-1) then
        mchk (hC u10 p0 == 5) <|
        mlet (uI u10 p0 5 0) fun u14 =>
        mchk (hC u14 p0 == 5) <|
        mchk (hC u14 p0 == 5) <|
        mlet (uI u14 p0 7 (hI u14 p0 4)) fun u17 =>
        hret () u17
      else
        mchk (hC u10 p0 == 5) <|
        hb (hX5_isLetter p0 u10) fun r14 u13 =>
        if r14 = 0 then
          mchk (hC u13 p0 == 5) <|
          hb (hX5_isDigit p0 u13) fun r17 u16 =>
          if r17 = 0 then
            mlet (hK u16 18) fun a19 =>
            mchk (hC u16 p0 == 5) <|
            hb (hX5_here p0 u16) fun r23 u22 =>
            mchk (hC u22 a19 == 30) <|
            hb (hJ8_indexOf a19 r23 u22) fun r26 u25 =>
            if r26 < 0 then
              hX5_next_172 p0 p0 4 u25
            else
              hX5_next_172 p0 p0 3 u25
          else
            mchk (hC u16 p0 == 5) <|
            mlet (uI u16 p0 8 0) fun u20 =>
            ml0 (hX5_next_102 p0) FUEL u20
        else
          ml0 (hX5_next_62 p0) FUEL u13
theorem whX5_next_0 {K1 K2 : Nat} {p : Program} {e : Env} {s : State} {m : MethodId} {args : Array Value} {below : List Frame} {meth : Method} {c : Code} (hl0 : l.stackTraces = false) (C : CxH t G l p s m args meth c yX5_next cX5_next 1 none) (p0 : Nat) (n : Nat) (u : HS) : VH mkU t G p l e 6 K1 K2 s m args below meth c 1 0 [(0, .ref p0)] [] u (ml0 (hX5_next_0 p0) n u) := by
  refine vl0 (L := [(0, .ref p0)]) (fun k hk u => ?_) n u
  unfold hX5_next_0
  refine v_aload_n C.1 0 rfl rfl dX5_next_0 ?_
  refine v_chk (fun h3 => ?_)
  refine v_callVH C [] [] (ctX5_here t G l hl0 p0 u) (fun _ _ => cwX5_here C q894 (by decide)) (recO C (ci := 4) (eq_of_beq h3) (by decide) rfl) rfl rfl (by exact Nat.le_of_ble_eq_true rfl) dX5_next_1 (fun r2 u1 => ?_)
  refine v_bipush C.1 32 (by decide) dX5_next_4 ?_
  refine v_icmp_eq C.1 18 (by decide) dX5_next_6 (fun _ => ?_) (fun _ => ?_)
  · refine v_aload_n C.1 0 rfl rfl dX5_next_18 ?_
    refine v_dup C.1 rfl dX5_next_19 ?_
    refine v_chk (fun h4 => ?_)
    refine v_hget C (v := .int (hI u1 p0 4)) 4 4 (eq_of_beq h4) (by decide) rfl in_X5 (by decide) (Or.inl q852) (fun _ h => h) (hF_i (ci := 4) (eq_of_beq h4) (by decide)) dX5_next_20 ?_
    refine v_iconst C.1 1 (by decide) dX5_next_23 ?_
    refine v_iadd C.1 dX5_next_24 ?_
    refine v_chk (fun h5 => ?_)
    refine v_hputI C 4 4 (eq_of_beq h5) (by decide) rfl in_X5 tyX5 tyX5_ok nmX5 (by decide) (by decide) q852 (fun _ h => h) (Or.inl rfl) ⟨rfl, rfl⟩ dX5_next_25 (fun u6 => ?_)
    refine v_goto C.1 0 (by decide) dX5_next_28 ?_
    exact hk u6
  · refine v_aload_n C.1 0 rfl rfl dX5_next_9 ?_
    refine v_chk (fun h6 => ?_)
    refine v_callVH C [] [] (ctX5_here t G l hl0 p0 u1) (fun _ _ => cwX5_here C q894 (by decide)) (recO C (ci := 4) (eq_of_beq h6) (by decide) rfl) rfl rfl (by exact Nat.le_of_ble_eq_true rfl) dX5_next_10 (fun r5 u4 => ?_)
    refine v_bipush C.1 10 (by decide) dX5_next_13 ?_
    refine v_icmp_ne C.1 31 (by decide) dX5_next_15 (fun _ => ?_) (fun _ => ?_)
    · refine v_aload_n C.1 0 rfl rfl dX5_next_18 ?_
      refine v_dup C.1 rfl dX5_next_19 ?_
      refine v_chk (fun h7 => ?_)
      refine v_hget C (v := .int (hI u4 p0 4)) 4 4 (eq_of_beq h7) (by decide) rfl in_X5 (by decide) (Or.inl q852) (fun _ h => h) (hF_i (ci := 4) (eq_of_beq h7) (by decide)) dX5_next_20 ?_
      refine v_iconst C.1 1 (by decide) dX5_next_23 ?_
      refine v_iadd C.1 dX5_next_24 ?_
      refine v_chk (fun h8 => ?_)
      refine v_hputI C 4 4 (eq_of_beq h8) (by decide) rfl in_X5 tyX5 tyX5_ok nmX5 (by decide) (by decide) q852 (fun _ h => h) (Or.inl rfl) ⟨rfl, rfl⟩ dX5_next_25 (fun u9 => ?_)
      refine v_goto C.1 0 (by decide) dX5_next_28 ?_
      exact hk u9
    · refine v_aload_n C.1 0 rfl rfl dX5_next_31 ?_
      refine v_aload_n C.1 0 rfl rfl dX5_next_32 ?_
      refine v_chk (fun h7 => ?_)
      refine v_hget C (v := .int (hI u4 p0 4)) 4 4 (eq_of_beq h7) (by decide) rfl in_X5 (by decide) (Or.inl q852) (fun _ h => h) (hF_i (ci := 4) (eq_of_beq h7) (by decide)) dX5_next_33 ?_
      refine v_chk (fun h8 => ?_)
      refine v_hputI C 4 6 (eq_of_beq h8) (by decide) rfl in_X5 tyX5 tyX5_ok nmX5 (by decide) (by decide) q854 (fun _ h => h) (Or.inl rfl) ⟨rfl, rfl⟩ dX5_next_36 (fun u9 => ?_)
      refine v_aload_n C.1 0 rfl rfl dX5_next_39 ?_
      refine v_chk (fun h12 => ?_)
      refine v_callVH C [] [] (ctX5_here t G l hl0 p0 u9) (fun _ _ => cwX5_here C q894 (by decide)) (recO C (ci := 4) (eq_of_beq h12) (by decide) rfl) rfl rfl (by exact Nat.le_of_ble_eq_true rfl) dX5_next_40 (fun r11 u10 => ?_)
      refine v_iconst C.1 (-1) (by decide) dX5_next_43 ?_
      refine v_icmp_ne C.1 55 (by decide) dX5_next_44 (fun _ => ?_) (fun _ => ?_)
      · refine v_aload_n C.1 0 rfl rfl dX5_next_47 ?_
        refine v_iconst C.1 0 (by decide) dX5_next_48 ?_
        refine v_chk (fun h13 => ?_)
        refine v_hputI C 4 5 (eq_of_beq h13) (by decide) rfl in_X5 tyX5 tyX5_ok nmX5 (by decide) (by decide) q853 (fun _ h => h) (Or.inl rfl) ⟨rfl, rfl⟩ dX5_next_49 (fun u14 => ?_)
        refine v_goto C.1 185 (by decide) dX5_next_52 ?_
        refine v_aload_n C.1 0 rfl rfl dX5_next_185 ?_
        refine v_aload_n C.1 0 rfl rfl dX5_next_186 ?_
        refine v_chk (fun h15 => ?_)
        refine v_hget C (v := .int (hI u14 p0 4)) 4 4 (eq_of_beq h15) (by decide) rfl in_X5 (by decide) (Or.inl q852) (fun _ h => h) (hF_i (ci := 4) (eq_of_beq h15) (by decide)) dX5_next_187 ?_
        refine v_chk (fun h16 => ?_)
        refine v_hputI C 4 7 (eq_of_beq h16) (by decide) rfl in_X5 tyX5 tyX5_ok nmX5 (by decide) (by decide) q856 (fun _ h => h) (Or.inl rfl) ⟨rfl, rfl⟩ dX5_next_190 (fun u17 => ?_)
        exact v_hvret C dX5_next_193
      · refine v_aload_n C.1 0 rfl rfl dX5_next_55 ?_
        refine v_chk (fun h15 => ?_)
        refine v_callVH C [] [] (ctX5_isLetter t G l hl0 p0 u10) (fun _ _ => cwX5_isLetter C q898 (by decide)) (recO C (ci := 4) (eq_of_beq h15) (by decide) rfl) rfl rfl (by exact Nat.le_of_ble_eq_true rfl) dX5_next_56 (fun r14 u13 => ?_)
        refine v_if_eq C.1 90 (by decide) dX5_next_59 (fun _ => ?_) (fun _ => ?_)
        · refine v_aload_n C.1 0 rfl rfl dX5_next_90 ?_
          refine v_chk (fun h18 => ?_)
          refine v_callVH C [] [] (ctX5_isDigit t G l hl0 p0 u13) (fun _ _ => cwX5_isDigit C q903 (by decide)) (recO C (ci := 4) (eq_of_beq h18) (by decide) rfl) rfl rfl (by exact Nat.le_of_ble_eq_true rfl) dX5_next_91 (fun r17 u16 => ?_)
          refine v_if_eq C.1 154 (by decide) dX5_next_94 (fun _ => ?_) (fun _ => ?_)
          · refine v_aload_n C.1 0 rfl rfl dX5_next_154 ?_
            refine v_K (fun ek21 _ => ?_)
            refine v_letE (fun a19 e20 => ?_)
            refine v_hldc (q := a19) C rfl 8 (by decide) rfl (by rw [e20, ek21]) dX5_next_155 ?_
            refine v_aload_n C.1 0 rfl rfl dX5_next_157 ?_
            refine v_chk (fun h24 => ?_)
            refine v_callVH C [] [.ref a19, .ref p0] (ctX5_here t G l hl0 p0 u16) (fun _ _ => cwX5_here C q894 (by decide)) (recO C (ci := 4) (eq_of_beq h24) (by decide) rfl) rfl rfl (by exact Nat.le_of_ble_eq_true rfl) dX5_next_158 (fun r23 u22 => ?_)
            refine v_chk (fun h27 => ?_)
            refine v_callVH C [.int r23] [.ref p0] (ctJ8_indexOf t G l hl0 a19 r23 u22) (fun _ _ => cwJ8_indexOf C q910 (by decide)) (recS C (eq_of_beq h27)) rfl rfl (by exact Nat.le_of_ble_eq_true rfl) dX5_next_161 (fun r26 u25 => ?_)
            refine v_if_lt C.1 171 (by decide) dX5_next_164 (fun _ => ?_) (fun _ => ?_)
            · refine v_iconst C.1 4 (by decide) dX5_next_171 ?_
              exact whX5_next_172 hl0 C p0 p0 4 u25
            · refine v_iconst C.1 3 (by decide) dX5_next_167 ?_
              refine v_goto C.1 172 (by decide) dX5_next_168 ?_
              exact whX5_next_172 hl0 C p0 p0 3 u25
          · refine v_aload_n C.1 0 rfl rfl dX5_next_97 ?_
            refine v_iconst C.1 0 (by decide) dX5_next_98 ?_
            refine v_chk (fun h19 => ?_)
            refine v_hputI C 4 8 (eq_of_beq h19) (by decide) rfl in_X5 tyX5 tyX5_ok nmX5 (by decide) (by decide) q857 (fun _ h => h) (Or.inl rfl) ⟨rfl, rfl⟩ dX5_next_99 (fun u20 => ?_)
            exact whX5_next_102 hl0 C p0 FUEL u20
        · exact whX5_next_62 hl0 C p0 FUEL u13
def hX5_next (p0 : Nat) (u : HS) : Option (OH Unit) :=
  ml0 (hX5_next_0 p0) FUEL u
theorem ctX5_next (t : TT) (G : GH) (l : Launch) (hl0 : l.stackTraces = false) (p0 : Nat) (u : HS) : CtH mkU t G l yX5_next cX5_next 1 none 6 [.ref p0] u (hX5_next p0 u) := by
  refine ctH_of [(0, .ref p0)] hl0 rfl (Nat.le_of_ble_eq_true rfl) rfl (fun K1 K2 p e s m args below meth c C => ?_)
  unfold hX5_next
  exact whX5_next_0 hl0 C p0 FUEL u
theorem cwX5_next {t : TT} {G : GH} {l : Launch} {p : Program} {s : State} {m : MethodId} {args : Array Value} {meth : Method} {c : Code} {y0 : MethodName} {cc0 : ByteArray} {nL0 : Nat} {ret0 : Option FieldType} (C : CxH t G l p s m args meth c y0 cc0 nL0 ret0) {index lv mc ms K1 K2 : Nat} (hq : Cond.methodLink y0.cls index yX5_next ∈ lw_all) (hR : 6 + 1 ≤ lv) : CallW (rmH lv K1 K2) s args y0.cls RX5 index yX5_next cX5_next 1 none (ws_ yX5_next cX5_next 1 none) (rmH 6 mc ms) mc ms 0 :=
  cwV 0 C.1.2.2.2.2.1 (lw_V hq q892 qs12 q132 q893) rfl rfl rfl (by decide +kernel) ⟨hR, by show 8 + (1 + 11) + 100 * 6 ≤ 100 * lv; omega⟩
def hJ9_charAt (p0 : Nat) (p1 : Int32) (u : HS) : Option (OH Int32) :=
  mchk (hC u p0 == 23) <|
  hb (hJ8_checkIndex p1 (Int32.ofNat (hN u p0)) u) fun _ u2 =>
  mchk (inA u2 p1 p0 23) <|
  mchk (isCh ((Int32.toUInt32 ((hA u2 p0 p1.toNatClampNeg) &&& 255) % 65536).toInt32)) <|
  hret ((Int32.toUInt32 ((hA u2 p0 p1.toNatClampNeg) &&& 255) % 65536).toInt32) u2
theorem ctJ9_charAt (t : TT) (G : GH) (l : Launch) (hl0 : l.stackTraces = false) (p0 : Nat) (p1 : Int32) (u : HS) : CtH mkI t G l yJ9_charAt cJ9_charAt 2 (some .char) 4 [.ref p0, .int p1] u (hJ9_charAt p0 p1 u) := by
  refine ctH_of [(0, .ref p0), (1, .int p1)] hl0 rfl (Nat.le_of_ble_eq_true rfl) rfl (fun K1 K2 p e s m args below meth c C => ?_)
  unfold hJ9_charAt
  refine v_iload_n C.1 1 rfl rfl dJ9_charAt_0 ?_
  refine v_aload_n C.1 0 rfl rfl dJ9_charAt_1 ?_
  refine v_chk (fun h1 => ?_)
  refine v_halen C 3 (by decide) (eq_of_beq h1) dJ9_charAt_2 ?_
  refine v_callSH C [.int p1, .int (Int32.ofNat (hN u p0))] [] (ctJ8_checkIndex t G l hl0 p1 (Int32.ofNat (hN u p0)) u) (fun _ _ => cwJ8_checkIndex C q996 (by decide)) rfl rfl (by exact Nat.le_of_ble_eq_true rfl) dJ9_charAt_3 (fun _ u2 => ?_)
  refine v_aload_n C.1 0 rfl rfl dJ9_charAt_6 ?_
  refine v_iload_n C.1 1 rfl rfl dJ9_charAt_7 ?_
  refine v_chk (fun h3 => ?_)
  refine v_habald C h3 dJ9_charAt_8 ?_
  refine v_sipush C.1 255 (by decide) dJ9_charAt_9 ?_
  refine v_iand C.1 dJ9_charAt_12 ?_
  refine v_i2c C.1 dJ9_charAt_13 ?_
  refine v_chk (fun h4 => ?_)
  exact v_hcret C h4 dJ9_charAt_14
theorem cwJ9_charAt {t : TT} {G : GH} {l : Launch} {p : Program} {s : State} {m : MethodId} {args : Array Value} {meth : Method} {c : Code} {y0 : MethodName} {cc0 : ByteArray} {nL0 : Nat} {ret0 : Option FieldType} (C : CxH t G l p s m args meth c y0 cc0 nL0 ret0) {index lv mc ms K1 K2 : Nat} (hq : Cond.methodLink y0.cls index yJ9_charAt ∈ lw_all) (hR : 4 + 1 ≤ lv) : CallB (rmH lv K1 K2) s args y0.cls index yJ9_charAt cJ9_charAt 2 (some .char) (ws_ yJ9_charAt cJ9_charAt 2 (some .char)) (rmH 4 mc ms) mc ms 2 ∧ (Cond.static yJ9_charAt).before args s = true :=
  ⟨callB_of 2 C.1.2.2.2.2.1 (lw_meth q995) rfl rfl rfl (C.1.2.2.2.2.1 _ q135) (C.1.2.2.2.2.1 _ hq) (by decide +kernel) ⟨hR, by show 8 + (2 + 11) + 100 * 4 ≤ 100 * lv; omega⟩, C.1.2.2.2.2.1 _ q994⟩
def hJ8_charAt (p0 : Nat) (p1 : Int32) (u : HS) : Option (OH Int32) :=
  mchk (hC u p0 == 30) <|
  hb (hJ8_isLatin1 p0 u) fun r2 u1 =>
  if r2 = 0 then
    mchk (hC u1 p0 == 30) <|
    mderef (hR u1 p0 0) fun a5 =>
    none
  else
    mchk (hC u1 p0 == 30) <|
    mderef (hR u1 p0 0) fun a5 =>
    hb (hJ9_charAt a5 p1 u1) fun r8 u7 =>
    mchk (isCh r8) <|
    hret r8 u7
theorem ctJ8_charAt (t : TT) (G : GH) (l : Launch) (hl0 : l.stackTraces = false) (p0 : Nat) (p1 : Int32) (u : HS) : CtH mkI t G l yJ8_charAt cJ8_charAt 2 (some .char) 5 [.ref p0, .int p1] u (hJ8_charAt p0 p1 u) := by
  refine ctH_of [(0, .ref p0), (1, .int p1)] hl0 rfl (Nat.le_of_ble_eq_true rfl) rfl (fun K1 K2 p e s m args below meth c C => ?_)
  unfold hJ8_charAt
  refine v_aload_n C.1 0 rfl rfl dJ8_charAt_0 ?_
  refine v_chk (fun h3 => ?_)
  refine v_callVH C [] [] (ctJ8_isLatin1 t G l hl0 p0 u) (fun _ _ => cwJ8_isLatin1 C q918 (by decide)) (recS C (eq_of_beq h3)) rfl rfl (by exact Nat.le_of_ble_eq_true rfl) dJ8_charAt_1 (fun r2 u1 => ?_)
  refine v_if_eq C.1 16 (by decide) dJ8_charAt_4 (fun _ => ?_) (fun _ => ?_)
  · refine v_aload_n C.1 0 rfl rfl dJ8_charAt_16 ?_
    refine v_chk (fun h4 => ?_)
    refine v_hgetS C (v := va_rf (hR u1 p0 0)) 0 (eq_of_beq h4) (Or.inl ⟨rfl, rfl⟩) q2384 dJ8_charAt_17 ?_
    refine v_deref (fun a5 e6 => ?_)
    refine v_iload_n C.1 1 rfl rfl dJ8_charAt_20 ?_
    exact v_none
  · refine v_aload_n C.1 0 rfl rfl dJ8_charAt_7 ?_
    refine v_chk (fun h4 => ?_)
    refine v_hgetS C (v := va_rf (hR u1 p0 0)) 0 (eq_of_beq h4) (Or.inl ⟨rfl, rfl⟩) q2384 dJ8_charAt_8 ?_
    refine v_deref (fun a5 e6 => ?_)
    refine v_iload_n C.1 1 rfl rfl dJ8_charAt_11 ?_
    refine v_callSH C [.ref a5, .int p1] [] (ctJ9_charAt t G l hl0 a5 p1 u1) (fun _ _ => cwJ9_charAt C q993 (by decide)) rfl rfl (by exact Nat.le_of_ble_eq_true rfl) dJ8_charAt_12 (fun r8 u7 => ?_)
    refine v_chk (fun h9 => ?_)
    exact v_hcret C h9 dJ8_charAt_15
theorem cwJ8_charAt {t : TT} {G : GH} {l : Launch} {p : Program} {s : State} {m : MethodId} {args : Array Value} {meth : Method} {c : Code} {y0 : MethodName} {cc0 : ByteArray} {nL0 : Nat} {ret0 : Option FieldType} (C : CxH t G l p s m args meth c y0 cc0 nL0 ret0) {index lv mc ms K1 K2 : Nat} (hq : Cond.methodLink y0.cls index yJ8_charAt ∈ lw_all) (hR : 5 + 1 ≤ lv) : CallW (rmH lv K1 K2) s args y0.cls RJ8 index yJ8_charAt cJ8_charAt 2 (some .char) (ws_ yJ8_charAt cJ8_charAt 2 (some .char)) (rmH 5 mc ms) mc ms 1 :=
  cwV 1 C.1.2.2.2.2.1 (lw_V hq q990 q991 q134 q992) rfl rfl rfl (by decide +kernel) ⟨hR, by show 8 + (2 + 11) + 100 * 5 ≤ 100 * lv; omega⟩
def hX5_is_28 (p0 : Nat) (p1 : Nat) (k : Int32 → HS → Option (OH Int32)) (x2 : Int32) (u : HS) : Option (OH Int32) :=
  mchk (hC u p1 == 30) <|
  hb (hJ8_length p1 u) fun r2 u1 =>
  if r2 ≤ x2 then
    hz id 1 u1
  else
    mchk (hC u1 p1 == 30) <|
    hb (hJ8_charAt p1 x2 u1) fun r5 u4 =>
    mchk (hC u4 p0 == 5) <|
    mderef (hR u4 p0 11) fun a8 =>
    mchk (hC u4 a8 == 1) <|
    mderef (hR u4 a8 4) fun a11 =>
    mchk (hC u4 p0 == 5) <|
    mchk (inA u4 ((hI u4 p0 6) + x2) a11 23) <|
    if r5 = ((hA u4 a11 ((hI u4 p0 6) + x2).toNatClampNeg) &&& 255) then
      k (x2 + 1) u4
    else
      hz id 0 u4
theorem whX5_is_28 {K1 K2 : Nat} {p : Program} {e : Env} {s : State} {m : MethodId} {args : Array Value} {below : List Frame} {meth : Method} {c : Code} (hl0 : l.stackTraces = false) (C : CxH t G l p s m args meth c yX5_is cX5_is 3 (some .boolean)) (p0 : Nat) (p1 : Nat) (n : Nat) (x2 : Int32) (u : HS) : VH mkI t G p l e 6 K1 K2 s m args below meth c 3 28 [(0, .ref p0), (1, .ref p1), (2, .int x2)] [] u (ml1 (hX5_is_28 p0 p1) n x2 u) := by
  refine vl1 (L := fun x2 => [(0, .ref p0), (1, .ref p1), (2, .int x2)]) (fun k hk x2 u => ?_) n x2 u
  unfold hX5_is_28
  refine v_iload_n C.1 2 rfl rfl dX5_is_28 ?_
  refine v_aload_n C.1 1 rfl rfl dX5_is_29 ?_
  refine v_chk (fun h3 => ?_)
  refine v_callVH C [] [.int x2] (ctJ8_length t G l hl0 p1 u) (fun _ _ => cwJ8_length C q988 (by decide)) (recS C (eq_of_beq h3)) rfl rfl (by exact Nat.le_of_ble_eq_true rfl) dX5_is_30 (fun r2 u1 => ?_)
  refine v_icmp_ge C.1 70 (by decide) dX5_is_33 (fun _ => ?_) (fun _ => ?_)
  · refine v_iconst C.1 1 (by decide) dX5_is_70 ?_
    exact v_hzret C dX5_is_71
  · refine v_aload_n C.1 1 rfl rfl dX5_is_36 ?_
    refine v_iload_n C.1 2 rfl rfl dX5_is_37 ?_
    refine v_chk (fun h6 => ?_)
    refine v_callVH C [.int x2] [] (ctJ8_charAt t G l hl0 p1 x2 u1) (fun _ _ => cwJ8_charAt C q989 (by decide)) (recS C (eq_of_beq h6)) rfl rfl (by exact Nat.le_of_ble_eq_true rfl) dX5_is_38 (fun r5 u4 => ?_)
    refine v_aload_n C.1 0 rfl rfl dX5_is_41 ?_
    refine v_chk (fun h7 => ?_)
    refine v_hget C (v := va_rf (hR u4 p0 11)) 4 11 (eq_of_beq h7) (by decide) rfl in_X5 (by decide) (Or.inl q860) (fun _ h => h) (hF_r (ci := 4) (eq_of_beq h7) (by decide)) dX5_is_42 ?_
    refine v_deref (fun a8 e9 => ?_)
    refine v_chk (fun h10 => ?_)
    refine v_hget C (v := va_rf (hR u4 a8 4)) 0 4 (eq_of_beq h10) (by decide) rfl in_X1 (by decide) (Or.inr ⟨_, q313⟩) (fun _ h => h) (hF_r (ci := 0) (eq_of_beq h10) (by decide)) dX5_is_45 ?_
    refine v_deref (fun a11 e12 => ?_)
    refine v_aload_n C.1 0 rfl rfl dX5_is_48 ?_
    refine v_chk (fun h13 => ?_)
    refine v_hget C (v := .int (hI u4 p0 6)) 4 6 (eq_of_beq h13) (by decide) rfl in_X5 (by decide) (Or.inl q854) (fun _ h => h) (hF_i (ci := 4) (eq_of_beq h13) (by decide)) dX5_is_49 ?_
    refine v_iload_n C.1 2 rfl rfl dX5_is_52 ?_
    refine v_iadd C.1 dX5_is_53 ?_
    refine v_chk (fun h14 => ?_)
    refine v_habald C h14 dX5_is_54 ?_
    refine v_sipush C.1 255 (by decide) dX5_is_55 ?_
    refine v_iand C.1 dX5_is_58 ?_
    refine v_icmp_eq C.1 64 (by decide) dX5_is_59 (fun _ => ?_) (fun _ => ?_)
    · refine v_iinc C.1 1 [(2, .int (x2 + 1)), (0, .ref p0), (1, .ref p1)] 2 rfl (by decide) (by decide) rfl dX5_is_64 ?_
      refine v_goto C.1 28 (by decide) dX5_is_67 ?_
      refine v_sub [1, 2, 0] rfl ?_
      exact hk (x2 + 1) u4
    · refine v_iconst C.1 0 (by decide) dX5_is_62 ?_
      exact v_hzret C dX5_is_63
def hX5_is (p0 : Nat) (p1 : Nat) (u : HS) : Option (OH Int32) :=
  mchk (hC u p0 == 5) <|
  if (hI u p0 5) = 1 then
    mchk (hC u p1 == 30) <|
    hb (hJ8_length p1 u) fun r3 u2 =>
    mchk (hC u2 p0 == 5) <|
    mchk (hC u2 p0 == 5) <|
    if r3 = ((hI u2 p0 7) - (hI u2 p0 6)) then
      ml1 (hX5_is_28 p0 p1) FUEL 0 u2
    else
      hz id 0 u2
  else
    hz id 0 u
theorem ctX5_is (t : TT) (G : GH) (l : Launch) (hl0 : l.stackTraces = false) (p0 : Nat) (p1 : Nat) (u : HS) : CtH mkI t G l yX5_is cX5_is 3 (some .boolean) 6 [.ref p0, .ref p1] u (hX5_is p0 p1 u) := by
  refine ctH_of [(0, .ref p0), (1, .ref p1)] hl0 rfl (Nat.le_of_ble_eq_true rfl) rfl (fun K1 K2 p e s m args below meth c C => ?_)
  unfold hX5_is
  refine v_aload_n C.1 0 rfl rfl dX5_is_0 ?_
  refine v_chk (fun h1 => ?_)
  refine v_hget C (v := .int (hI u p0 5)) 4 5 (eq_of_beq h1) (by decide) rfl in_X5 (by decide) (Or.inl q853) (fun _ h => h) (hF_i (ci := 4) (eq_of_beq h1) (by decide)) dX5_is_1 ?_
  refine v_iconst C.1 1 (by decide) dX5_is_4 ?_
  refine v_icmp_ne C.1 24 (by decide) dX5_is_5 (fun _ => ?_) (fun _ => ?_)
  · refine v_aload_n C.1 1 rfl rfl dX5_is_8 ?_
    refine v_chk (fun h4 => ?_)
    refine v_callVH C [] [] (ctJ8_length t G l hl0 p1 u) (fun _ _ => cwJ8_length C q988 (by decide)) (recS C (eq_of_beq h4)) rfl rfl (by exact Nat.le_of_ble_eq_true rfl) dX5_is_9 (fun r3 u2 => ?_)
    refine v_aload_n C.1 0 rfl rfl dX5_is_12 ?_
    refine v_chk (fun h5 => ?_)
    refine v_hget C (v := .int (hI u2 p0 7)) 4 7 (eq_of_beq h5) (by decide) rfl in_X5 (by decide) (Or.inl q856) (fun _ h => h) (hF_i (ci := 4) (eq_of_beq h5) (by decide)) dX5_is_13 ?_
    refine v_aload_n C.1 0 rfl rfl dX5_is_16 ?_
    refine v_chk (fun h6 => ?_)
    refine v_hget C (v := .int (hI u2 p0 6)) 4 6 (eq_of_beq h6) (by decide) rfl in_X5 (by decide) (Or.inl q854) (fun _ h => h) (hF_i (ci := 4) (eq_of_beq h6) (by decide)) dX5_is_17 ?_
    refine v_isub C.1 dX5_is_20 ?_
    refine v_icmp_eq C.1 26 (by decide) dX5_is_21 (fun _ => ?_) (fun _ => ?_)
    · refine v_iconst C.1 0 (by decide) dX5_is_26 ?_
      refine v_istore_n C.1 [(2, .int 0), (0, .ref p0), (1, .ref p1)] rfl (by decide) rfl dX5_is_27 ?_
      refine v_sub [1, 2, 0] rfl ?_
      exact whX5_is_28 hl0 C p0 p1 FUEL 0 u2
    · refine v_iconst C.1 0 (by decide) dX5_is_24 ?_
      exact v_hzret C dX5_is_25
  · refine v_iconst C.1 0 (by decide) dX5_is_24 ?_
    exact v_hzret C dX5_is_25
theorem cwX5_is {t : TT} {G : GH} {l : Launch} {p : Program} {s : State} {m : MethodId} {args : Array Value} {meth : Method} {c : Code} {y0 : MethodName} {cc0 : ByteArray} {nL0 : Nat} {ret0 : Option FieldType} (C : CxH t G l p s m args meth c y0 cc0 nL0 ret0) {index lv mc ms K1 K2 : Nat} (hq : Cond.methodLink y0.cls index yX5_is ∈ lw_all) (hR : 6 + 1 ≤ lv) : CallW (rmH lv K1 K2) s args y0.cls RX5 index yX5_is cX5_is 3 (some .boolean) (ws_ yX5_is cX5_is 3 (some .boolean)) (rmH 6 mc ms) mc ms 1 :=
  cwV 1 C.1.2.2.2.2.1 (lw_V hq q986 qs17 q132 q987) rfl rfl rfl (by decide +kernel) ⟨hR, by show 8 + (3 + 11) + 100 * 6 ≤ 100 * lv; omega⟩
def hJ3_init_2 (p0 : Nat) (p1 : Option Nat) (p2 : Option Nat) (p3 : Int32) (p4 : Int32) (u : HS) : Option (OH Unit) :=
  mchk (hC u p0 == 6) <|
  mlet (uR u p0 0 (some p0)) fun u2 =>
  mlet (hO u2 0) fun o3 =>
  mchk (hC u2 p0 == 6) <|
  mlet (uR u2 p0 1 o3) fun u7 =>
  mlet (hO u7 1) fun o8 =>
  mchk (hC u7 p0 == 6) <|
  mlet (uR u7 p0 2 o8) fun u12 =>
  if p4 = 0 then
    mchk (hC u12 p0 == 6) <|
    mlet (uR u12 p0 1 none) fun u14 =>
    mchk (hC u14 p0 == 6) <|
    mlet (uR u14 p0 3 p1) fun u16 =>
    mchk (hC u16 p0 == 6) <|
    mlet (uR u16 p0 0 p2) fun u18 =>
    if p3 = 0 then
      mchk (hC u18 p0 == 6) <|
      mlet (uR u18 p0 2 none) fun u20 =>
      hret () u20
    else
      hret () u18
  else
    none
theorem ctJ3_init_2 (t : TT) (G : GH) (l : Launch) (hl0 : l.stackTraces = false) (p0 : Nat) (p1 : Option Nat) (p2 : Option Nat) (p3 : Int32) (p4 : Int32) (u : HS) : CtH mkU t G l yJ3_init_2 cJ3_init_2 5 none 2 [.ref p0, va_rf p1, va_rf p2, .int p3, .int p4] u (hJ3_init_2 p0 p1 p2 p3 p4 u) := by
  refine ctH_of [(0, .ref p0), (1, va_rf p1), (2, va_rf p2), (3, .int p3), (4, .int p4)] hl0 rfl (by cases p1 <;> cases p2 <;> exact Nat.le_of_ble_eq_true rfl) (by cases p1 <;> cases p2 <;> rfl) (fun K1 K2 p e s m args below meth c C => ?_)
  unfold hJ3_init_2
  refine v_aload_n C.1 0 rfl rfl dJ3_init_2_0 ?_
  refine v_objInit C q788 q161 q162 (by exact Nat.le_of_ble_eq_true rfl) (by exact Nat.le_of_ble_eq_true rfl) dJ3_init_2_1 ?_
  refine v_aload_n C.1 0 rfl rfl dJ3_init_2_4 ?_
  refine v_aload_n C.1 0 rfl rfl dJ3_init_2_5 ?_
  refine v_chk (fun h1 => ?_)
  refine v_hputR C (some p0) 5 0 (eq_of_beq h1) (by decide) rfl in_X6 tyX6 tyX6_ok nmX6 (by decide) (by decide) q816 (fun _ h => h) (Or.inl rfl) rfl rfl dJ3_init_2_6 (fun u2 => ?_)
  refine v_aload_n C.1 0 rfl rfl dJ3_init_2_9 ?_
  refine v_K (fun _ ek5 => ?_)
  refine v_letE (fun o3 e4 => ?_)
  refine v_gets C (v := va_rf o3) (by rw [e4, ek5]; exact C.2.1.una) q789 (fun _ h => h) dJ3_init_2_10 ?_
  refine v_chk (fun h6 => ?_)
  refine v_hputR C o3 5 1 (eq_of_beq h6) (by decide) rfl in_X6 tyX6 tyX6_ok nmX6 (by decide) (by decide) q817 (fun _ h => h) (Or.inl rfl) rfl rfl dJ3_init_2_13 (fun u7 => ?_)
  refine v_aload_n C.1 0 rfl rfl dJ3_init_2_16 ?_
  refine v_K (fun _ ek10 => ?_)
  refine v_letE (fun o8 e9 => ?_)
  refine v_gets C (v := va_rf o8) (by rw [e9, ek10]; exact C.2.1.sup) q791 (fun _ h => h) dJ3_init_2_17 ?_
  refine v_chk (fun h11 => ?_)
  refine v_hputR C o8 5 2 (eq_of_beq h11) (by decide) rfl in_X6 tyX6 tyX6_ok nmX6 (by decide) (by decide) q818 (fun _ h => h) (Or.inl rfl) rfl rfl dJ3_init_2_20 (fun u12 => ?_)
  refine v_iload C.1 4 rfl dJ3_init_2_23 ?_
  refine v_if_eq C.1 36 (by decide) dJ3_init_2_25 (fun _ => ?_) (fun _ => ?_)
  · refine v_aload_n C.1 0 rfl rfl dJ3_init_2_36 ?_
    refine v_null C dJ3_init_2_37 ?_
    refine v_chk (fun h13 => ?_)
    refine v_hputR C none 5 1 (eq_of_beq h13) (by decide) rfl in_X6 tyX6 tyX6_ok nmX6 (by decide) (by decide) q817 (fun _ h => h) (Or.inl rfl) rfl rfl dJ3_init_2_38 (fun u14 => ?_)
    refine v_aload_n C.1 0 rfl rfl dJ3_init_2_41 ?_
    refine v_aload_nO C.1 1 rfl rfl dJ3_init_2_42 ?_
    refine v_chk (fun h15 => ?_)
    refine v_hputR C p1 5 3 (eq_of_beq h15) (by decide) rfl in_X6 tyX6 tyX6_ok nmX6 (by decide) (by decide) q815 (fun _ h => h) (Or.inl rfl) rfl rfl dJ3_init_2_43 (fun u16 => ?_)
    refine v_aload_n C.1 0 rfl rfl dJ3_init_2_46 ?_
    refine v_aload_nO C.1 2 rfl rfl dJ3_init_2_47 ?_
    refine v_chk (fun h17 => ?_)
    refine v_hputR C p2 5 0 (eq_of_beq h17) (by decide) rfl in_X6 tyX6 tyX6_ok nmX6 (by decide) (by decide) q816 (fun _ h => h) (Or.inl rfl) rfl rfl dJ3_init_2_48 (fun u18 => ?_)
    refine v_iload_n C.1 3 rfl rfl dJ3_init_2_51 ?_
    refine v_if_ne C.1 60 (by decide) dJ3_init_2_52 (fun _ => ?_) (fun _ => ?_)
    · refine v_aload_n C.1 0 rfl rfl dJ3_init_2_55 ?_
      refine v_null C dJ3_init_2_56 ?_
      refine v_chk (fun h19 => ?_)
      refine v_hputR C none 5 2 (eq_of_beq h19) (by decide) rfl in_X6 tyX6 tyX6_ok nmX6 (by decide) (by decide) q818 (fun _ h => h) (Or.inl rfl) rfl rfl dJ3_init_2_57 (fun u20 => ?_)
      exact v_hvret C dJ3_init_2_60
    · exact v_hvret C dJ3_init_2_60
  · refine v_aload_n C.1 0 rfl rfl dJ3_init_2_28 ?_
    exact v_none
theorem cwJ3_init_2 {t : TT} {G : GH} {l : Launch} {p : Program} {s : State} {m : MethodId} {args : Array Value} {meth : Method} {c : Code} {y0 : MethodName} {cc0 : ByteArray} {nL0 : Nat} {ret0 : Option FieldType} (C : CxH t G l p s m args meth c y0 cc0 nL0 ret0) {index lv mc ms K1 K2 : Nat} (hq : Cond.methodLink y0.cls index yJ3_init_2 ∈ lw_all) (hR : 2 + 1 ≤ lv) : CallB (rmH lv K1 K2) s args y0.cls index yJ3_init_2 cJ3_init_2 5 none (ws_ yJ3_init_2 cJ3_init_2 5 none) (rmH 2 mc ms) mc ms 4 ∧ yJ3_init_2.name = "<init>" ∧ (Cond.instanceMethod yJ3_init_2).before args s = true :=
  cwI 4 C.1.2.2.2.2.1 (lw_meth q1029) rfl rfl rfl (C.1.2.2.2.2.1 _ q128) (C.1.2.2.2.2.1 _ hq) (C.1.2.2.2.2.1 _ q1028) rfl (by decide +kernel) ⟨hR, by show 8 + (5 + 11) + 100 * 2 ≤ 100 * lv; omega⟩
def hJ4_init_2 (p0 : Nat) (p1 : Option Nat) (p2 : Option Nat) (p3 : Int32) (p4 : Int32) (u : HS) : Option (OH Unit) :=
  hb (hJ3_init_2 p0 p1 p2 p3 p4 u) fun _ u1 =>
  hret () u1
theorem ctJ4_init_2 (t : TT) (G : GH) (l : Launch) (hl0 : l.stackTraces = false) (p0 : Nat) (p1 : Option Nat) (p2 : Option Nat) (p3 : Int32) (p4 : Int32) (u : HS) : CtH mkU t G l yJ4_init_2 cJ4_init_2 5 none 3 [.ref p0, va_rf p1, va_rf p2, .int p3, .int p4] u (hJ4_init_2 p0 p1 p2 p3 p4 u) := by
  refine ctH_of [(0, .ref p0), (1, va_rf p1), (2, va_rf p2), (3, .int p3), (4, .int p4)] hl0 rfl (by cases p1 <;> cases p2 <;> exact Nat.le_of_ble_eq_true rfl) (by cases p1 <;> cases p2 <;> rfl) (fun K1 K2 p e s m args below meth c C => ?_)
  unfold hJ4_init_2
  refine v_aload_n C.1 0 rfl rfl dJ4_init_2_0 ?_
  refine v_aload_nO C.1 1 rfl rfl dJ4_init_2_1 ?_
  refine v_aload_nO C.1 2 rfl rfl dJ4_init_2_2 ?_
  refine v_iload_n C.1 3 rfl rfl dJ4_init_2_3 ?_
  refine v_iload C.1 4 rfl dJ4_init_2_4 ?_
  refine v_callIH C [va_rf p1, va_rf p2, .int p3, .int p4] [] (ctJ3_init_2 t G l hl0 p0 p1 p2 p3 p4 u) (fun _ _ => cwJ3_init_2 C q1027 (by decide)) rfl rfl (by exact Nat.le_of_ble_eq_true rfl) dJ4_init_2_6 (fun _ u1 => ?_)
  exact v_hvret C dJ4_init_2_9
theorem cwJ4_init_2 {t : TT} {G : GH} {l : Launch} {p : Program} {s : State} {m : MethodId} {args : Array Value} {meth : Method} {c : Code} {y0 : MethodName} {cc0 : ByteArray} {nL0 : Nat} {ret0 : Option FieldType} (C : CxH t G l p s m args meth c y0 cc0 nL0 ret0) {index lv mc ms K1 K2 : Nat} (hq : Cond.methodLink y0.cls index yJ4_init_2 ∈ lw_all) (hR : 3 + 1 ≤ lv) : CallB (rmH lv K1 K2) s args y0.cls index yJ4_init_2 cJ4_init_2 5 none (ws_ yJ4_init_2 cJ4_init_2 5 none) (rmH 3 mc ms) mc ms 4 ∧ yJ4_init_2.name = "<init>" ∧ (Cond.instanceMethod yJ4_init_2).before args s = true :=
  cwI 4 C.1.2.2.2.2.1 (lw_meth q1026) rfl rfl rfl (C.1.2.2.2.2.1 _ q129) (C.1.2.2.2.2.1 _ hq) (C.1.2.2.2.2.1 _ q1025) rfl (by decide +kernel) ⟨hR, by show 8 + (5 + 11) + 100 * 3 ≤ 100 * lv; omega⟩
def hX6_init (p0 : Nat) (p1 : Int32) (u : HS) : Option (OH Unit) :=
  hb (hJ4_init_2 p0 none none 0 0 u) fun _ u1 =>
  mchk (hC u1 p0 == 6) <|
  mlet (uI u1 p0 6 p1) fun u3 =>
  hret () u3
theorem ctX6_init (t : TT) (G : GH) (l : Launch) (hl0 : l.stackTraces = false) (p0 : Nat) (p1 : Int32) (u : HS) : CtH mkU t G l yX6_init cX6_init 2 none 4 [.ref p0, .int p1] u (hX6_init p0 p1 u) := by
  refine ctH_of [(0, .ref p0), (1, .int p1)] hl0 rfl (Nat.le_of_ble_eq_true rfl) rfl (fun K1 K2 p e s m args below meth c C => ?_)
  unfold hX6_init
  refine v_aload_n C.1 0 rfl rfl dX6_init_0 ?_
  refine v_null C dX6_init_1 ?_
  refine v_null C dX6_init_2 ?_
  refine v_iconst C.1 0 (by decide) dX6_init_3 ?_
  refine v_iconst C.1 0 (by decide) dX6_init_4 ?_
  refine v_callIH C [.null, .null, .int 0, .int 0] [] (ctJ4_init_2 t G l hl0 p0 none none 0 0 u) (fun _ _ => cwJ4_init_2 C q1024 (by decide)) rfl rfl (by exact Nat.le_of_ble_eq_true rfl) dX6_init_5 (fun _ u1 => ?_)
  refine v_aload_n C.1 0 rfl rfl dX6_init_8 ?_
  refine v_iload_n C.1 1 rfl rfl dX6_init_9 ?_
  refine v_chk (fun h2 => ?_)
  refine v_hputI C 5 6 (eq_of_beq h2) (by decide) rfl in_X6 tyX6 tyX6_ok nmX6 (by decide) (by decide) q1030 (fun _ h => h) (Or.inr ⟨rfl, rfl, rfl⟩) ⟨rfl, rfl⟩ dX6_init_10 (fun u3 => ?_)
  exact v_hvret C dX6_init_13
theorem cwX6_init {t : TT} {G : GH} {l : Launch} {p : Program} {s : State} {m : MethodId} {args : Array Value} {meth : Method} {c : Code} {y0 : MethodName} {cc0 : ByteArray} {nL0 : Nat} {ret0 : Option FieldType} (C : CxH t G l p s m args meth c y0 cc0 nL0 ret0) {index lv mc ms K1 K2 : Nat} (hq : Cond.methodLink y0.cls index yX6_init ∈ lw_all) (hR : 4 + 1 ≤ lv) : CallB (rmH lv K1 K2) s args y0.cls index yX6_init cX6_init 2 none (ws_ yX6_init cX6_init 2 none) (rmH 4 mc ms) mc ms 1 ∧ yX6_init.name = "<init>" ∧ (Cond.instanceMethod yX6_init).before args s = true :=
  cwI 1 C.1.2.2.2.2.1 (lw_meth q1023) rfl rfl rfl (C.1.2.2.2.2.1 _ q139) (C.1.2.2.2.2.1 _ hq) (C.1.2.2.2.2.1 _ q1022) rfl (by decide +kernel) ⟨hR, by show 8 + (2 + 11) + 100 * 4 ≤ 100 * lv; omega⟩
def hX5_want (p0 : Nat) (p1 : Int32) (p2 : Int32) (u : HS) : Option (OH (PX Unit)) :=
  if p1 = 0 then
    mlet (hZ u) fun a1 =>
    addc 1 (cN 5) <|
    mlet (nO u 5) fun u3 =>
    hb (hX6_init a1 p2 u3) fun _ u4 =>
    mchk (hC u4 a1 == 6) <|
    hthrowA 5 a1 u4
  else
    hret (.inl ()) u
theorem ctX5_want (t : TT) (G : GH) (l : Launch) (hl0 : l.stackTraces = false) (p0 : Nat) (p1 : Int32) (p2 : Int32) (u : HS) : CtX mkU t G l yX5_want cX5_want 3 none 8 [.ref p0, .int p1, .int p2] u (hX5_want p0 p1 p2 u) := by
  refine ctX_of [(0, .ref p0), (1, .int p1), (2, .int p2)] hl0 rfl (Nat.le_of_ble_eq_true rfl) rfl (fun K1 K2 p e s m args below meth c C => ?_)
  unfold hX5_want
  refine v_iload_n C.1.1 1 rfl rfl dX5_want_0 ?_
  refine v_if_ne C.1.1 13 (by decide) dX5_want_1 (fun _ => ?_) (fun _ => ?_)
  · refine v_letE (fun a1 e2 => ?_)
    refine v_hnew C.1 5 e2 (by decide) rfl in_X6 tyX6 tyX6_ok df_X6 q1012 q1013 q139 dX5_want_4 (fun u3 => ?_)
    refine v_dup C.1.1 rfl dX5_want_7 ?_
    refine v_iload_n C.1.1 2 rfl rfl dX5_want_8 ?_
    refine v_callIH C.1 [.int p2] [.ref a1] (ctX6_init t G l hl0 a1 p2 u3) (fun _ _ => cwX6_init C.1 q1021 (by decide)) rfl rfl (by exact Nat.le_of_ble_eq_true rfl) dX5_want_9 (fun _ u4 => ?_)
    refine v_chk (fun h5 => ?_)
    exact v_xathrow C (eq_of_beq h5) dX5_want_12
  · exact v_xvret C.1 dX5_want_13
theorem cwX5_want {t : TT} {G : GH} {l : Launch} {p : Program} {s : State} {m : MethodId} {args : Array Value} {meth : Method} {c : Code} {y0 : MethodName} {cc0 : ByteArray} {nL0 : Nat} {ret0 : Option FieldType} (C : CxH t G l p s m args meth c y0 cc0 nL0 ret0) {index lv mc ms K1 K2 : Nat} (hq : Cond.methodLink y0.cls index yX5_want ∈ lw_all) (hR : 8 + 1 ≤ lv) : CallW (rmH lv K1 K2) s args y0.cls RX5 index yX5_want cX5_want 3 none (ws_ yX5_want cX5_want 3 none) (rmH 8 mc ms) mc ms 2 :=
  cwV 2 C.1.2.2.2.2.1 (lw_V hq q1010 qs19 q132 q1011) rfl rfl rfl (by decide +kernel) ⟨hR, by show 8 + (3 + 11) + 100 * 8 ≤ 100 * lv; omega⟩
def hX5_numberNow_53 (p0 : Nat) (p1 : Int32) (p2 : Int32) (s0 : Nat) (s1 : Int32) (u : HS) : Option (OH (PX Int32)) :=
  mchk (hC u s0 == 5) <|
  hx (hX5_want s0 s1 2 u) fun _ u1 =>
  mchk (hC u1 p0 == 5) <|
  hret (.inl (hI u1 p0 8)) u1
theorem whX5_numberNow_53 {K1 K2 : Nat} {p : Program} {e : Env} {s : State} {m : MethodId} {args : Array Value} {below : List Frame} {meth : Method} {c : Code} (hl0 : l.stackTraces = false) (C : CxX t G l p s m args meth c yX5_numberNow cX5_numberNow 3 (some .int)) (p0 : Nat) (p1 : Int32) (p2 : Int32) (s0 : Nat) (s1 : Int32) (u : HS) : VX mkI t G p l e 9 K1 K2 s m args below meth c 3 53 [(0, .ref p0)] [.int s1, .ref s0] u (hX5_numberNow_53 p0 p1 p2 s0 s1 u) := by
  unfold hX5_numberNow_53
  refine v_iconst C.1.1 2 (by decide) dX5_numberNow_53 ?_
  refine v_chk (fun h2 => ?_)
  refine v_callVX C [.int s1, .int 2] [] (ctX5_want t G l hl0 s0 s1 2 u) (fun _ _ => cwX5_want C.1 q1008 (by decide)) (recO C.1 (ci := 4) (eq_of_beq h2) (by decide) rfl) rfl rfl (by exact Nat.le_of_ble_eq_true rfl) dX5_numberNow_54 (fun _ u1 => ?_)
  refine v_aload_n C.1.1 0 rfl rfl dX5_numberNow_57 ?_
  refine v_chk (fun h3 => ?_)
  refine v_hget C.1 (v := .int (hI u1 p0 8)) 4 8 (eq_of_beq h3) (by decide) rfl in_X5 (by decide) (Or.inl q857) (fun _ h => h) (hF_i (ci := 4) (eq_of_beq h3) (by decide)) dX5_numberNow_58 ?_
  exact v_xiret C.1 dX5_numberNow_61
def hX5_numberNow_14 (p0 : Nat) (p1 : Int32) (p2 : Int32) (s0 : Nat) (s1 : Int32) (u : HS) : Option (OH (PX Int32)) :=
  mchk (hC u s0 == 5) <|
  hx (hX5_want s0 s1 1 u) fun _ u1 =>
  mchk (hC u1 p0 == 5) <|
  mchk (hC u1 p0 == 5) <|
  if 4 < ((hI u1 p0 7) - (hI u1 p0 6)) then
    hX5_numberNow_53 p0 p1 p2 p0 0 u1
  else
    mchk (hC u1 p0 == 5) <|
    if (hI u1 p0 8) < p1 then
      hX5_numberNow_53 p0 p1 p2 p0 0 u1
    else
      mchk (hC u1 p0 == 5) <|
      if p2 < (hI u1 p0 8) then
        hX5_numberNow_53 p0 p1 p2 p0 0 u1
      else
        hX5_numberNow_53 p0 p1 p2 p0 1 u1
theorem whX5_numberNow_14 {K1 K2 : Nat} {p : Program} {e : Env} {s : State} {m : MethodId} {args : Array Value} {below : List Frame} {meth : Method} {c : Code} (hl0 : l.stackTraces = false) (C : CxX t G l p s m args meth c yX5_numberNow cX5_numberNow 3 (some .int)) (p0 : Nat) (p1 : Int32) (p2 : Int32) (s0 : Nat) (s1 : Int32) (u : HS) : VX mkI t G p l e 9 K1 K2 s m args below meth c 3 14 [(0, .ref p0), (1, .int p1), (2, .int p2)] [.int s1, .ref s0] u (hX5_numberNow_14 p0 p1 p2 s0 s1 u) := by
  unfold hX5_numberNow_14
  refine v_iconst C.1.1 1 (by decide) dX5_numberNow_14 ?_
  refine v_chk (fun h2 => ?_)
  refine v_callVX C [.int s1, .int 1] [] (ctX5_want t G l hl0 s0 s1 1 u) (fun _ _ => cwX5_want C.1 q1008 (by decide)) (recO C.1 (ci := 4) (eq_of_beq h2) (by decide) rfl) rfl rfl (by exact Nat.le_of_ble_eq_true rfl) dX5_numberNow_15 (fun _ u1 => ?_)
  refine v_aload_n C.1.1 0 rfl rfl dX5_numberNow_18 ?_
  refine v_aload_n C.1.1 0 rfl rfl dX5_numberNow_19 ?_
  refine v_chk (fun h3 => ?_)
  refine v_hget C.1 (v := .int (hI u1 p0 7)) 4 7 (eq_of_beq h3) (by decide) rfl in_X5 (by decide) (Or.inl q856) (fun _ h => h) (hF_i (ci := 4) (eq_of_beq h3) (by decide)) dX5_numberNow_20 ?_
  refine v_aload_n C.1.1 0 rfl rfl dX5_numberNow_23 ?_
  refine v_chk (fun h4 => ?_)
  refine v_hget C.1 (v := .int (hI u1 p0 6)) 4 6 (eq_of_beq h4) (by decide) rfl in_X5 (by decide) (Or.inl q854) (fun _ h => h) (hF_i (ci := 4) (eq_of_beq h4) (by decide)) dX5_numberNow_24 ?_
  refine v_isub C.1.1 dX5_numberNow_27 ?_
  refine v_iconst C.1.1 4 (by decide) dX5_numberNow_28 ?_
  refine v_icmp_gt C.1.1 52 (by decide) dX5_numberNow_29 (fun _ => ?_) (fun _ => ?_)
  · refine v_iconst C.1.1 0 (by decide) dX5_numberNow_52 ?_
    refine v_sub [0] rfl ?_
    exact whX5_numberNow_53 hl0 C p0 p1 p2 p0 0 u1
  · refine v_aload_n C.1.1 0 rfl rfl dX5_numberNow_32 ?_
    refine v_chk (fun h5 => ?_)
    refine v_hget C.1 (v := .int (hI u1 p0 8)) 4 8 (eq_of_beq h5) (by decide) rfl in_X5 (by decide) (Or.inl q857) (fun _ h => h) (hF_i (ci := 4) (eq_of_beq h5) (by decide)) dX5_numberNow_33 ?_
    refine v_iload_n C.1.1 1 rfl rfl dX5_numberNow_36 ?_
    refine v_icmp_lt C.1.1 52 (by decide) dX5_numberNow_37 (fun _ => ?_) (fun _ => ?_)
    · refine v_iconst C.1.1 0 (by decide) dX5_numberNow_52 ?_
      refine v_sub [0] rfl ?_
      exact whX5_numberNow_53 hl0 C p0 p1 p2 p0 0 u1
    · refine v_aload_n C.1.1 0 rfl rfl dX5_numberNow_40 ?_
      refine v_chk (fun h6 => ?_)
      refine v_hget C.1 (v := .int (hI u1 p0 8)) 4 8 (eq_of_beq h6) (by decide) rfl in_X5 (by decide) (Or.inl q857) (fun _ h => h) (hF_i (ci := 4) (eq_of_beq h6) (by decide)) dX5_numberNow_41 ?_
      refine v_iload_n C.1.1 2 rfl rfl dX5_numberNow_44 ?_
      refine v_icmp_gt C.1.1 52 (by decide) dX5_numberNow_45 (fun _ => ?_) (fun _ => ?_)
      · refine v_iconst C.1.1 0 (by decide) dX5_numberNow_52 ?_
        refine v_sub [0] rfl ?_
        exact whX5_numberNow_53 hl0 C p0 p1 p2 p0 0 u1
      · refine v_iconst C.1.1 1 (by decide) dX5_numberNow_48 ?_
        refine v_goto C.1.1 53 (by decide) dX5_numberNow_49 ?_
        refine v_sub [0] rfl ?_
        exact whX5_numberNow_53 hl0 C p0 p1 p2 p0 1 u1
def hX5_numberNow (p0 : Nat) (p1 : Int32) (p2 : Int32) (u : HS) : Option (OH (PX Int32)) :=
  mchk (hC u p0 == 5) <|
  if (hI u p0 5) = 2 then
    hX5_numberNow_14 p0 p1 p2 p0 1 u
  else
    hX5_numberNow_14 p0 p1 p2 p0 0 u
theorem ctX5_numberNow (t : TT) (G : GH) (l : Launch) (hl0 : l.stackTraces = false) (p0 : Nat) (p1 : Int32) (p2 : Int32) (u : HS) : CtX mkI t G l yX5_numberNow cX5_numberNow 3 (some .int) 9 [.ref p0, .int p1, .int p2] u (hX5_numberNow p0 p1 p2 u) := by
  refine ctX_of [(0, .ref p0), (1, .int p1), (2, .int p2)] hl0 rfl (Nat.le_of_ble_eq_true rfl) rfl (fun K1 K2 p e s m args below meth c C => ?_)
  unfold hX5_numberNow
  refine v_aload_n C.1.1 0 rfl rfl dX5_numberNow_0 ?_
  refine v_aload_n C.1.1 0 rfl rfl dX5_numberNow_1 ?_
  refine v_chk (fun h1 => ?_)
  refine v_hget C.1 (v := .int (hI u p0 5)) 4 5 (eq_of_beq h1) (by decide) rfl in_X5 (by decide) (Or.inl q853) (fun _ h => h) (hF_i (ci := 4) (eq_of_beq h1) (by decide)) dX5_numberNow_2 ?_
  refine v_iconst C.1.1 2 (by decide) dX5_numberNow_5 ?_
  refine v_icmp_ne C.1.1 13 (by decide) dX5_numberNow_6 (fun _ => ?_) (fun _ => ?_)
  · refine v_iconst C.1.1 1 (by decide) dX5_numberNow_9 ?_
    refine v_goto C.1.1 14 (by decide) dX5_numberNow_10 ?_
    exact whX5_numberNow_14 hl0 C p0 p1 p2 p0 1 u
  · refine v_iconst C.1.1 0 (by decide) dX5_numberNow_13 ?_
    exact whX5_numberNow_14 hl0 C p0 p1 p2 p0 0 u
theorem cwX5_numberNow {t : TT} {G : GH} {l : Launch} {p : Program} {s : State} {m : MethodId} {args : Array Value} {meth : Method} {c : Code} {y0 : MethodName} {cc0 : ByteArray} {nL0 : Nat} {ret0 : Option FieldType} (C : CxH t G l p s m args meth c y0 cc0 nL0 ret0) {index lv mc ms K1 K2 : Nat} (hq : Cond.methodLink y0.cls index yX5_numberNow ∈ lw_all) (hR : 9 + 1 ≤ lv) : CallW (rmH lv K1 K2) s args y0.cls RX5 index yX5_numberNow cX5_numberNow 3 (some .int) (ws_ yX5_numberNow cX5_numberNow 3 (some .int)) (rmH 9 mc ms) mc ms 2 :=
  cwV 2 C.1.2.2.2.2.1 (lw_V hq q1042 qs21 q132 q1043) rfl rfl rfl (by decide +kernel) ⟨hR, by show 8 + (3 + 11) + 100 * 9 ≤ 100 * lv; omega⟩
def hX5_number (p0 : Nat) (p1 : Int32) (p2 : Int32) (u : HS) : Option (OH (PX Int32)) :=
  mchk (hC u p0 == 5) <|
  hx (hX5_numberNow p0 p1 p2 u) fun r2 u1 =>
  mchk (hC u1 p0 == 5) <|
  hb (hX5_next p0 u1) fun _ u4 =>
  hret (.inl r2) u4
theorem ctX5_number (t : TT) (G : GH) (l : Launch) (hl0 : l.stackTraces = false) (p0 : Nat) (p1 : Int32) (p2 : Int32) (u : HS) : CtX mkI t G l yX5_number cX5_number 4 (some .int) 10 [.ref p0, .int p1, .int p2] u (hX5_number p0 p1 p2 u) := by
  refine ctX_of [(0, .ref p0), (1, .int p1), (2, .int p2)] hl0 rfl (Nat.le_of_ble_eq_true rfl) rfl (fun K1 K2 p e s m args below meth c C => ?_)
  unfold hX5_number
  refine v_aload_n C.1.1 0 rfl rfl dX5_number_0 ?_
  refine v_iload_n C.1.1 1 rfl rfl dX5_number_1 ?_
  refine v_iload_n C.1.1 2 rfl rfl dX5_number_2 ?_
  refine v_chk (fun h3 => ?_)
  refine v_callVX C [.int p1, .int p2] [] (ctX5_numberNow t G l hl0 p0 p1 p2 u) (fun _ _ => cwX5_numberNow C.1 q1040 (by decide)) (recO C.1 (ci := 4) (eq_of_beq h3) (by decide) rfl) rfl rfl (by exact Nat.le_of_ble_eq_true rfl) dX5_number_3 (fun r2 u1 => ?_)
  refine v_istore_n C.1.1 [(3, .int r2), (0, .ref p0), (1, .int p1), (2, .int p2)] rfl (by decide) rfl dX5_number_6 ?_
  refine v_aload_n C.1.1 1 rfl rfl dX5_number_7 ?_
  refine v_chk (fun h5 => ?_)
  refine v_callVH C.1 [] [] (ctX5_next t G l hl0 p0 u1) (fun _ _ => cwX5_next C.1 q890 (by decide)) (recO C.1 (ci := 4) (eq_of_beq h5) (by decide) rfl) rfl rfl (by exact Nat.le_of_ble_eq_true rfl) dX5_number_8 (fun _ u4 => ?_)
  refine v_iload_n C.1.1 0 rfl rfl dX5_number_11 ?_
  exact v_xiret C.1 dX5_number_12
theorem cwX5_number {t : TT} {G : GH} {l : Launch} {p : Program} {s : State} {m : MethodId} {args : Array Value} {meth : Method} {c : Code} {y0 : MethodName} {cc0 : ByteArray} {nL0 : Nat} {ret0 : Option FieldType} (C : CxH t G l p s m args meth c y0 cc0 nL0 ret0) {index lv mc ms K1 K2 : Nat} (hq : Cond.methodLink y0.cls index yX5_number ∈ lw_all) (hR : 10 + 1 ≤ lv) : CallW (rmH lv K1 K2) s args y0.cls RX5 index yX5_number cX5_number 4 (some .int) (ws_ yX5_number cX5_number 4 (some .int)) (rmH 10 mc ms) mc ms 2 :=
  cwV 2 C.1.2.2.2.2.1 (lw_V hq q1038 qs20 q132 q1039) rfl rfl rfl (by decide +kernel) ⟨hR, by show 8 + (4 + 11) + 100 * 10 ≤ 100 * lv; omega⟩
def hX5_master_17 (p0 : Nat) (s0 : Nat) (s1 : Int32) (u : HS) : Option (OH (PX Unit)) :=
  mchk (hC u s0 == 5) <|
  hx (hX5_want s0 s1 2 u) fun _ u1 =>
  mchk (hC u1 p0 == 5) <|
  hb (hX5_next p0 u1) fun _ u3 =>
  mchk (hC u3 p0 == 5) <|
  mderef (hR u3 p0 2) fun a6 =>
  mchk (hC u3 a6 == 3) <|
  mderef (hR u3 a6 3) fun a9 =>
  mchk (hC u3 p0 == 5) <|
  mderef (hR u3 p0 1) fun a12 =>
  mchk (hC u3 a12 == 2) <|
  mchk (hC u3 p0 == 5) <|
  hx (hX5_number p0 0 999 u3) fun r16 u15 =>
  mchk (inA u15 (hI u3 a12 7) a9 21) <|
  mlet (uA u15 a9 (hI u3 a12 7).toNatClampNeg r16) fun u18 =>
  mchk (hC u18 p0 == 5) <|
  mderef (hR u18 p0 1) fun a21 =>
  mchk (hC u18 a21 == 2) <|
  mderef (hR u18 a21 6) fun a24 =>
  mlet (hZ u18) fun a26 =>
  addc 1 (cN 11) <|
  mlet (nO u18 11) fun u28 =>
  hb (hJ2_init a26 u28) fun _ u29 =>
  mchk (hC u29 a24 == 12) <|
  hb (hJ2_add a24 a26 u29) fun r31 u30 =>
  mchk (hC u30 p0 == 5) <|
  mderef (hR u30 p0 1) fun a34 =>
  mchk (hC u30 a34 == 2) <|
  mchk (hC u30 a34 == 2) <|
  mlet (uI u30 a34 7 ((hI u30 a34 7) + 1)) fun u38 =>
  hret (.inl ()) u38
theorem whX5_master_17 {K1 K2 : Nat} {p : Program} {e : Env} {s : State} {m : MethodId} {args : Array Value} {below : List Frame} {meth : Method} {c : Code} (hl0 : l.stackTraces = false) (C : CxX t G l p s m args meth c yX5_master cX5_master 1 none) (p0 : Nat) (s0 : Nat) (s1 : Int32) (u : HS) : VX mkU t G p l e 11 K1 K2 s m args below meth c 1 17 [(0, .ref p0)] [.int s1, .ref s0] u (hX5_master_17 p0 s0 s1 u) := by
  unfold hX5_master_17
  refine v_iconst C.1.1 2 (by decide) dX5_master_17 ?_
  refine v_chk (fun h2 => ?_)
  refine v_callVX C [.int s1, .int 2] [] (ctX5_want t G l hl0 s0 s1 2 u) (fun _ _ => cwX5_want C.1 q1008 (by decide)) (recO C.1 (ci := 4) (eq_of_beq h2) (by decide) rfl) rfl rfl (by exact Nat.le_of_ble_eq_true rfl) dX5_master_18 (fun _ u1 => ?_)
  refine v_aload_n C.1.1 0 rfl rfl dX5_master_21 ?_
  refine v_chk (fun h4 => ?_)
  refine v_callVH C.1 [] [] (ctX5_next t G l hl0 p0 u1) (fun _ _ => cwX5_next C.1 q890 (by decide)) (recO C.1 (ci := 4) (eq_of_beq h4) (by decide) rfl) rfl rfl (by exact Nat.le_of_ble_eq_true rfl) dX5_master_22 (fun _ u3 => ?_)
  refine v_aload_n C.1.1 0 rfl rfl dX5_master_25 ?_
  refine v_chk (fun h5 => ?_)
  refine v_hget C.1 (v := va_rf (hR u3 p0 2)) 4 2 (eq_of_beq h5) (by decide) rfl in_X5 (by decide) (Or.inl q849) (fun _ h => h) (hF_r (ci := 4) (eq_of_beq h5) (by decide)) dX5_master_26 ?_
  refine v_deref (fun a6 e7 => ?_)
  refine v_chk (fun h8 => ?_)
  refine v_hget C.1 (v := va_rf (hR u3 a6 3)) 2 3 (eq_of_beq h8) (by decide) rfl in_X3 (by decide) (Or.inr ⟨_, q263⟩) (fun _ h => h) (hF_r (ci := 2) (eq_of_beq h8) (by decide)) dX5_master_29 ?_
  refine v_deref (fun a9 e10 => ?_)
  refine v_aload_n C.1.1 0 rfl rfl dX5_master_32 ?_
  refine v_chk (fun h11 => ?_)
  refine v_hget C.1 (v := va_rf (hR u3 p0 1)) 4 1 (eq_of_beq h11) (by decide) rfl in_X5 (by decide) (Or.inl q848) (fun _ h => h) (hF_r (ci := 4) (eq_of_beq h11) (by decide)) dX5_master_33 ?_
  refine v_deref (fun a12 e13 => ?_)
  refine v_chk (fun h14 => ?_)
  refine v_hget C.1 (v := .int (hI u3 a12 7)) 1 7 (eq_of_beq h14) (by decide) rfl in_X2 (by decide) (Or.inr ⟨_, q224⟩) (fun _ h => h) (hF_i (ci := 1) (eq_of_beq h14) (by decide)) dX5_master_36 ?_
  refine v_aload_n C.1.1 0 rfl rfl dX5_master_39 ?_
  refine v_iconst C.1.1 0 (by decide) dX5_master_40 ?_
  refine v_sipush C.1.1 999 (by decide) dX5_master_41 ?_
  refine v_chk (fun h17 => ?_)
  refine v_callVX C [.int 0, .int 999] [.int (hI u3 a12 7), .ref a9] (ctX5_number t G l hl0 p0 0 999 u3) (fun _ _ => cwX5_number C.1 q1036 (by decide)) (recO C.1 (ci := 4) (eq_of_beq h17) (by decide) rfl) rfl rfl (by exact Nat.le_of_ble_eq_true rfl) dX5_master_44 (fun r16 u15 => ?_)
  refine v_chk (fun h19 => ?_)
  refine v_haiast C.1 h19 dX5_master_47 (fun u18 => ?_)
  refine v_aload_n C.1.1 0 rfl rfl dX5_master_48 ?_
  refine v_chk (fun h20 => ?_)
  refine v_hget C.1 (v := va_rf (hR u18 p0 1)) 4 1 (eq_of_beq h20) (by decide) rfl in_X5 (by decide) (Or.inl q848) (fun _ h => h) (hF_r (ci := 4) (eq_of_beq h20) (by decide)) dX5_master_49 ?_
  refine v_deref (fun a21 e22 => ?_)
  refine v_chk (fun h23 => ?_)
  refine v_hget C.1 (v := va_rf (hR u18 a21 6)) 1 6 (eq_of_beq h23) (by decide) rfl in_X2 (by decide) (Or.inr ⟨_, q220⟩) (fun _ h => h) (hF_r (ci := 1) (eq_of_beq h23) (by decide)) dX5_master_52 ?_
  refine v_deref (fun a24 e25 => ?_)
  refine v_letE (fun a26 e27 => ?_)
  refine v_hnew C.1 11 e27 (by decide) rfl in_J2 tyJ2 tyJ2_ok df_J2 q1044 q170 q125 dX5_master_55 (fun u28 => ?_)
  refine v_dup C.1.1 rfl dX5_master_58 ?_
  refine v_callIH C.1 [] [.ref a26, .ref a24] (ctJ2_init t G l hl0 a26 u28) (fun _ _ => cwJ2_init C.1 q1045 (by decide)) rfl rfl (by exact Nat.le_of_ble_eq_true rfl) dX5_master_59 (fun _ u29 => ?_)
  refine v_chk (fun h32 => ?_)
  refine v_callFH C.1 [.ref a26] [] (ctJ2_add t G l hl0 a24 a26 u29) (fun _ _ => cwJ2_addF C.1 q1047 (by decide)) (eq_of_beq h32) (by decide) rfl rfl rfl (by exact Nat.le_of_ble_eq_true rfl) dX5_master_62 (fun r31 u30 => ?_)
  refine v_pop C.1.1 rfl dX5_master_67 ?_
  refine v_aload_n C.1.1 0 rfl rfl dX5_master_68 ?_
  refine v_chk (fun h33 => ?_)
  refine v_hget C.1 (v := va_rf (hR u30 p0 1)) 4 1 (eq_of_beq h33) (by decide) rfl in_X5 (by decide) (Or.inl q848) (fun _ h => h) (hF_r (ci := 4) (eq_of_beq h33) (by decide)) dX5_master_69 ?_
  refine v_deref (fun a34 e35 => ?_)
  refine v_dup C.1.1 rfl dX5_master_72 ?_
  refine v_chk (fun h36 => ?_)
  refine v_hget C.1 (v := .int (hI u30 a34 7)) 1 7 (eq_of_beq h36) (by decide) rfl in_X2 (by decide) (Or.inr ⟨_, q224⟩) (fun _ h => h) (hF_i (ci := 1) (eq_of_beq h36) (by decide)) dX5_master_73 ?_
  refine v_iconst C.1.1 1 (by decide) dX5_master_76 ?_
  refine v_iadd C.1.1 dX5_master_77 ?_
  refine v_chk (fun h37 => ?_)
  refine v_hputIN C.1 1 7 (eq_of_beq h37) (by decide) rfl in_X2 tyX2 tyX2_ok nmX2 (by decide) (by decide) q224 (fun _ h => h) (Or.inl rfl) rfl ⟨rfl, rfl⟩ dX5_master_78 (fun u38 => ?_)
  exact v_xvret C.1 dX5_master_81
def hX5_master (p0 : Nat) (u : HS) : Option (OH (PX Unit)) :=
  mchk (hC u p0 == 5) <|
  mderef (hR u p0 1) fun a2 =>
  mchk (hC u a2 == 2) <|
  if 3 ≤ (hI u a2 7) then
    hX5_master_17 p0 p0 0 u
  else
    hX5_master_17 p0 p0 1 u
theorem ctX5_master (t : TT) (G : GH) (l : Launch) (hl0 : l.stackTraces = false) (p0 : Nat) (u : HS) : CtX mkU t G l yX5_master cX5_master 1 none 11 [.ref p0] u (hX5_master p0 u) := by
  refine ctX_of [(0, .ref p0)] hl0 rfl (Nat.le_of_ble_eq_true rfl) rfl (fun K1 K2 p e s m args below meth c C => ?_)
  unfold hX5_master
  refine v_aload_n C.1.1 0 rfl rfl dX5_master_0 ?_
  refine v_aload_n C.1.1 0 rfl rfl dX5_master_1 ?_
  refine v_chk (fun h1 => ?_)
  refine v_hget C.1 (v := va_rf (hR u p0 1)) 4 1 (eq_of_beq h1) (by decide) rfl in_X5 (by decide) (Or.inl q848) (fun _ h => h) (hF_r (ci := 4) (eq_of_beq h1) (by decide)) dX5_master_2 ?_
  refine v_deref (fun a2 e3 => ?_)
  refine v_chk (fun h4 => ?_)
  refine v_hget C.1 (v := .int (hI u a2 7)) 1 7 (eq_of_beq h4) (by decide) rfl in_X2 (by decide) (Or.inr ⟨_, q224⟩) (fun _ h => h) (hF_i (ci := 1) (eq_of_beq h4) (by decide)) dX5_master_5 ?_
  refine v_iconst C.1.1 3 (by decide) dX5_master_8 ?_
  refine v_icmp_ge C.1.1 16 (by decide) dX5_master_9 (fun _ => ?_) (fun _ => ?_)
  · refine v_iconst C.1.1 0 (by decide) dX5_master_16 ?_
    exact whX5_master_17 hl0 C p0 p0 0 u
  · refine v_iconst C.1.1 1 (by decide) dX5_master_12 ?_
    refine v_goto C.1.1 17 (by decide) dX5_master_13 ?_
    exact whX5_master_17 hl0 C p0 p0 1 u
theorem cwX5_master {t : TT} {G : GH} {l : Launch} {p : Program} {s : State} {m : MethodId} {args : Array Value} {meth : Method} {c : Code} {y0 : MethodName} {cc0 : ByteArray} {nL0 : Nat} {ret0 : Option FieldType} (C : CxH t G l p s m args meth c y0 cc0 nL0 ret0) {index lv mc ms K1 K2 : Nat} (hq : Cond.methodLink y0.cls index yX5_master ∈ lw_all) (hR : 11 + 1 ≤ lv) : CallW (rmH lv K1 K2) s args y0.cls RX5 index yX5_master cX5_master 1 none (ws_ yX5_master cX5_master 1 none) (rmH 11 mc ms) mc ms 0 :=
  cwV 0 C.1.2.2.2.2.1 (lw_V hq q1006 qs18 q132 q1007) rfl rfl rfl (by decide +kernel) ⟨hR, by show 8 + (1 + 11) + 100 * 11 ≤ 100 * lv; omega⟩
def hX5_place_53 (p0 : Nat) (p1 : Int32) (s0 : Nat) (s1 : Int32) (u : HS) : Option (OH (PX Unit)) :=
  hb (hJ16_valueOf s1 u) fun r2 u1 =>
  mchk (hC u1 s0 == 12) <|
  hb (hJ2_add s0 r2 u1) fun r4 u3 =>
  hret (.inl ()) u3
theorem whX5_place_53 {K1 K2 : Nat} {p : Program} {e : Env} {s : State} {m : MethodId} {args : Array Value} {below : List Frame} {meth : Method} {c : Code} (hl0 : l.stackTraces = false) (C : CxX t G l p s m args meth c yX5_place cX5_place 2 none) (p0 : Nat) (p1 : Int32) (s0 : Nat) (s1 : Int32) (u : HS) : VX mkU t G p l e 11 K1 K2 s m args below meth c 2 53 [] [.int s1, .ref s0] u (hX5_place_53 p0 p1 s0 s1 u) := by
  unfold hX5_place_53
  refine v_callSH C.1 [.int s1] [.ref s0] (ctJ16_valueOf t G l hl0 s1 u) (fun _ _ => cwJ16_valueOf C.1 q1056 (by decide)) rfl rfl (by exact Nat.le_of_ble_eq_true rfl) dX5_place_53 (fun r2 u1 => ?_)
  refine v_chk (fun h5 => ?_)
  refine v_callFH C.1 [.ref r2] [] (ctJ2_add t G l hl0 s0 r2 u1) (fun _ _ => cwJ2_addF C.1 q1047 (by decide)) (eq_of_beq h5) (by decide) rfl rfl rfl (by exact Nat.le_of_ble_eq_true rfl) dX5_place_56 (fun r4 u3 => ?_)
  refine v_pop C.1.1 rfl dX5_place_61 ?_
  exact v_xvret C.1 dX5_place_62
def hX5_place_23 (p0 : Nat) (p1 : Int32) (s0 : Nat) (s1 : Int32) (u : HS) : Option (OH (PX Unit)) :=
  mchk (hC u s0 == 5) <|
  hx (hX5_want s0 s1 2 u) fun _ u1 =>
  mchk (hC u1 p0 == 5) <|
  hb (hX5_next p0 u1) fun _ u3 =>
  mchk (hC u3 p0 == 5) <|
  mderef (hR u3 p0 1) fun a6 =>
  mchk (hC u3 a6 == 2) <|
  mderef (hR u3 a6 0) fun a9 =>
  if p1 = 0 then
    mchk (hC u3 p0 == 5) <|
    hx (hX5_number p0 0 9 u3) fun r12 u11 =>
    hX5_place_53 p0 p1 a9 r12 u11
  else
    hX5_place_53 p0 p1 a9 (-1) u3
theorem whX5_place_23 {K1 K2 : Nat} {p : Program} {e : Env} {s : State} {m : MethodId} {args : Array Value} {below : List Frame} {meth : Method} {c : Code} (hl0 : l.stackTraces = false) (C : CxX t G l p s m args meth c yX5_place cX5_place 2 none) (p0 : Nat) (p1 : Int32) (s0 : Nat) (s1 : Int32) (u : HS) : VX mkU t G p l e 11 K1 K2 s m args below meth c 2 23 [(0, .ref p0), (1, .int p1)] [.int s1, .ref s0] u (hX5_place_23 p0 p1 s0 s1 u) := by
  unfold hX5_place_23
  refine v_iconst C.1.1 2 (by decide) dX5_place_23 ?_
  refine v_chk (fun h2 => ?_)
  refine v_callVX C [.int s1, .int 2] [] (ctX5_want t G l hl0 s0 s1 2 u) (fun _ _ => cwX5_want C.1 q1008 (by decide)) (recO C.1 (ci := 4) (eq_of_beq h2) (by decide) rfl) rfl rfl (by exact Nat.le_of_ble_eq_true rfl) dX5_place_24 (fun _ u1 => ?_)
  refine v_aload_n C.1.1 0 rfl rfl dX5_place_27 ?_
  refine v_chk (fun h4 => ?_)
  refine v_callVH C.1 [] [] (ctX5_next t G l hl0 p0 u1) (fun _ _ => cwX5_next C.1 q890 (by decide)) (recO C.1 (ci := 4) (eq_of_beq h4) (by decide) rfl) rfl rfl (by exact Nat.le_of_ble_eq_true rfl) dX5_place_28 (fun _ u3 => ?_)
  refine v_aload_n C.1.1 0 rfl rfl dX5_place_31 ?_
  refine v_chk (fun h5 => ?_)
  refine v_hget C.1 (v := va_rf (hR u3 p0 1)) 4 1 (eq_of_beq h5) (by decide) rfl in_X5 (by decide) (Or.inl q848) (fun _ h => h) (hF_r (ci := 4) (eq_of_beq h5) (by decide)) dX5_place_32 ?_
  refine v_deref (fun a6 e7 => ?_)
  refine v_chk (fun h8 => ?_)
  refine v_hget C.1 (v := va_rf (hR u3 a6 0)) 1 0 (eq_of_beq h8) (by decide) rfl in_X2 (by decide) (Or.inr ⟨_, q199⟩) (fun _ h => h) (hF_r (ci := 1) (eq_of_beq h8) (by decide)) dX5_place_35 ?_
  refine v_deref (fun a9 e10 => ?_)
  refine v_iload_n C.1.1 1 rfl rfl dX5_place_38 ?_
  refine v_if_eq C.1.1 46 (by decide) dX5_place_39 (fun _ => ?_) (fun _ => ?_)
  · refine v_aload_n C.1.1 0 rfl rfl dX5_place_46 ?_
    refine v_iconst C.1.1 0 (by decide) dX5_place_47 ?_
    refine v_bipush C.1.1 9 (by decide) dX5_place_48 ?_
    refine v_chk (fun h13 => ?_)
    refine v_callVX C [.int 0, .int 9] [.ref a9] (ctX5_number t G l hl0 p0 0 9 u3) (fun _ _ => cwX5_number C.1 q1036 (by decide)) (recO C.1 (ci := 4) (eq_of_beq h13) (by decide) rfl) rfl rfl (by exact Nat.le_of_ble_eq_true rfl) dX5_place_50 (fun r12 u11 => ?_)
    refine v_sub [] rfl ?_
    exact whX5_place_53 hl0 C p0 p1 a9 r12 u11
  · refine v_iconst C.1.1 (-1) (by decide) dX5_place_42 ?_
    refine v_goto C.1.1 53 (by decide) dX5_place_43 ?_
    refine v_sub [] rfl ?_
    exact whX5_place_53 hl0 C p0 p1 a9 (-1) u3
def hX5_place (p0 : Nat) (p1 : Int32) (u : HS) : Option (OH (PX Unit)) :=
  mchk (hC u p0 == 5) <|
  mderef (hR u p0 1) fun a2 =>
  mchk (hC u a2 == 2) <|
  mderef (hR u a2 0) fun a5 =>
  mchk (hC u a5 == 12) <|
  hb (hJ2_size a5 u) fun r8 u7 =>
  if 8 ≤ r8 then
    hX5_place_23 p0 p1 p0 0 u7
  else
    hX5_place_23 p0 p1 p0 1 u7
theorem ctX5_place (t : TT) (G : GH) (l : Launch) (hl0 : l.stackTraces = false) (p0 : Nat) (p1 : Int32) (u : HS) : CtX mkU t G l yX5_place cX5_place 2 none 11 [.ref p0, .int p1] u (hX5_place p0 p1 u) := by
  refine ctX_of [(0, .ref p0), (1, .int p1)] hl0 rfl (Nat.le_of_ble_eq_true rfl) rfl (fun K1 K2 p e s m args below meth c C => ?_)
  unfold hX5_place
  refine v_aload_n C.1.1 0 rfl rfl dX5_place_0 ?_
  refine v_aload_n C.1.1 0 rfl rfl dX5_place_1 ?_
  refine v_chk (fun h1 => ?_)
  refine v_hget C.1 (v := va_rf (hR u p0 1)) 4 1 (eq_of_beq h1) (by decide) rfl in_X5 (by decide) (Or.inl q848) (fun _ h => h) (hF_r (ci := 4) (eq_of_beq h1) (by decide)) dX5_place_2 ?_
  refine v_deref (fun a2 e3 => ?_)
  refine v_chk (fun h4 => ?_)
  refine v_hget C.1 (v := va_rf (hR u a2 0)) 1 0 (eq_of_beq h4) (by decide) rfl in_X2 (by decide) (Or.inr ⟨_, q199⟩) (fun _ h => h) (hF_r (ci := 1) (eq_of_beq h4) (by decide)) dX5_place_5 ?_
  refine v_deref (fun a5 e6 => ?_)
  refine v_chk (fun h9 => ?_)
  refine v_callFH C.1 [] [.ref p0] (ctJ2_size t G l hl0 a5 u) (fun _ _ => cwJ2_sizeF C.1 q1055 (by decide)) (eq_of_beq h9) (by decide) rfl rfl rfl (by exact Nat.le_of_ble_eq_true rfl) dX5_place_8 (fun r8 u7 => ?_)
  refine v_bipush C.1.1 8 (by decide) dX5_place_13 ?_
  refine v_icmp_ge C.1.1 22 (by decide) dX5_place_15 (fun _ => ?_) (fun _ => ?_)
  · refine v_iconst C.1.1 0 (by decide) dX5_place_22 ?_
    exact whX5_place_23 hl0 C p0 p1 p0 0 u7
  · refine v_iconst C.1.1 1 (by decide) dX5_place_18 ?_
    refine v_goto C.1.1 23 (by decide) dX5_place_19 ?_
    exact whX5_place_23 hl0 C p0 p1 p0 1 u7
theorem cwX5_place {t : TT} {G : GH} {l : Launch} {p : Program} {s : State} {m : MethodId} {args : Array Value} {meth : Method} {c : Code} {y0 : MethodName} {cc0 : ByteArray} {nL0 : Nat} {ret0 : Option FieldType} (C : CxH t G l p s m args meth c y0 cc0 nL0 ret0) {index lv mc ms K1 K2 : Nat} (hq : Cond.methodLink y0.cls index yX5_place ∈ lw_all) (hR : 11 + 1 ≤ lv) : CallW (rmH lv K1 K2) s args y0.cls RX5 index yX5_place cX5_place 2 none (ws_ yX5_place cX5_place 2 none) (rmH 11 mc ms) mc ms 1 :=
  cwV 1 C.1.2.2.2.2.1 (lw_V hq q1052 qs22 q132 q1053) rfl rfl rfl (by decide +kernel) ⟨hR, by show 8 + (2 + 11) + 100 * 11 ≤ 100 * lv; omega⟩
def hX5_oneNow_20 (p0 : Nat) (p1 : Int32) (x2 : Int32) (s0 : Nat) (s1 : Int32) (u : HS) : Option (OH (PX Int32)) :=
  mchk (hC u s0 == 5) <|
  hx (hX5_want s0 s1 3 u) fun _ u1 =>
  hret (.inl x2) u1
theorem whX5_oneNow_20 {K1 K2 : Nat} {p : Program} {e : Env} {s : State} {m : MethodId} {args : Array Value} {below : List Frame} {meth : Method} {c : Code} (hl0 : l.stackTraces = false) (C : CxX t G l p s m args meth c yX5_oneNow cX5_oneNow 3 (some .int)) (p0 : Nat) (p1 : Int32) (x2 : Int32) (s0 : Nat) (s1 : Int32) (u : HS) : VX mkI t G p l e 10 K1 K2 s m args below meth c 3 20 [(2, .int x2)] [.int s1, .ref s0] u (hX5_oneNow_20 p0 p1 x2 s0 s1 u) := by
  unfold hX5_oneNow_20
  refine v_iconst C.1.1 3 (by decide) dX5_oneNow_20 ?_
  refine v_chk (fun h2 => ?_)
  refine v_callVX C [.int s1, .int 3] [] (ctX5_want t G l hl0 s0 s1 3 u) (fun _ _ => cwX5_want C.1 q1008 (by decide)) (recO C.1 (ci := 4) (eq_of_beq h2) (by decide) rfl) rfl rfl (by exact Nat.le_of_ble_eq_true rfl) dX5_oneNow_21 (fun _ u1 => ?_)
  refine v_iload_n C.1.1 0 rfl rfl dX5_oneNow_24 ?_
  exact v_xiret C.1 dX5_oneNow_25
def hX5_oneNow (p0 : Nat) (p1 : Int32) (u : HS) : Option (OH (PX Int32)) :=
  mchk (hC u p0 == 5) <|
  hx (hX5_numberNow p0 0 9999 u) fun r2 u1 =>
  if p1 ≤ r2 then
    hX5_oneNow_20 p0 p1 r2 p0 0 u1
  else
    hX5_oneNow_20 p0 p1 r2 p0 1 u1
theorem ctX5_oneNow (t : TT) (G : GH) (l : Launch) (hl0 : l.stackTraces = false) (p0 : Nat) (p1 : Int32) (u : HS) : CtX mkI t G l yX5_oneNow cX5_oneNow 3 (some .int) 10 [.ref p0, .int p1] u (hX5_oneNow p0 p1 u) := by
  refine ctX_of [(0, .ref p0), (1, .int p1)] hl0 rfl (Nat.le_of_ble_eq_true rfl) rfl (fun K1 K2 p e s m args below meth c C => ?_)
  unfold hX5_oneNow
  refine v_aload_n C.1.1 0 rfl rfl dX5_oneNow_0 ?_
  refine v_iconst C.1.1 0 (by decide) dX5_oneNow_1 ?_
  refine v_sipush C.1.1 9999 (by decide) dX5_oneNow_2 ?_
  refine v_chk (fun h3 => ?_)
  refine v_callVX C [.int 0, .int 9999] [] (ctX5_numberNow t G l hl0 p0 0 9999 u) (fun _ _ => cwX5_numberNow C.1 q1040 (by decide)) (recO C.1 (ci := 4) (eq_of_beq h3) (by decide) rfl) rfl rfl (by exact Nat.le_of_ble_eq_true rfl) dX5_oneNow_5 (fun r2 u1 => ?_)
  refine v_istore_n C.1.1 [(2, .int r2), (0, .ref p0), (1, .int p1)] rfl (by decide) rfl dX5_oneNow_8 ?_
  refine v_aload_n C.1.1 1 rfl rfl dX5_oneNow_9 ?_
  refine v_iload_n C.1.1 0 rfl rfl dX5_oneNow_10 ?_
  refine v_iload_n C.1.1 2 rfl rfl dX5_oneNow_11 ?_
  refine v_icmp_ge C.1.1 19 (by decide) dX5_oneNow_12 (fun _ => ?_) (fun _ => ?_)
  · refine v_iconst C.1.1 0 (by decide) dX5_oneNow_19 ?_
    refine v_sub [0] rfl ?_
    exact whX5_oneNow_20 hl0 C p0 p1 r2 p0 0 u1
  · refine v_iconst C.1.1 1 (by decide) dX5_oneNow_15 ?_
    refine v_goto C.1.1 20 (by decide) dX5_oneNow_16 ?_
    refine v_sub [0] rfl ?_
    exact whX5_oneNow_20 hl0 C p0 p1 r2 p0 1 u1
theorem cwX5_oneNow {t : TT} {G : GH} {l : Launch} {p : Program} {s : State} {m : MethodId} {args : Array Value} {meth : Method} {c : Code} {y0 : MethodName} {cc0 : ByteArray} {nL0 : Nat} {ret0 : Option FieldType} (C : CxH t G l p s m args meth c y0 cc0 nL0 ret0) {index lv mc ms K1 K2 : Nat} (hq : Cond.methodLink y0.cls index yX5_oneNow ∈ lw_all) (hR : 10 + 1 ≤ lv) : CallW (rmH lv K1 K2) s args y0.cls RX5 index yX5_oneNow cX5_oneNow 3 (some .int) (ws_ yX5_oneNow cX5_oneNow 3 (some .int)) (rmH 10 mc ms) mc ms 1 :=
  cwV 1 C.1.2.2.2.2.1 (lw_V hq q1068 qs25 q132 q1069) rfl rfl rfl (by decide +kernel) ⟨hR, by show 8 + (3 + 11) + 100 * 10 ≤ 100 * lv; omega⟩
def hX5_one (p0 : Nat) (p1 : Int32) (u : HS) : Option (OH (PX Int32)) :=
  mchk (hC u p0 == 5) <|
  hx (hX5_oneNow p0 p1 u) fun r2 u1 =>
  mchk (hC u1 p0 == 5) <|
  hb (hX5_next p0 u1) fun _ u4 =>
  hret (.inl r2) u4
theorem ctX5_one (t : TT) (G : GH) (l : Launch) (hl0 : l.stackTraces = false) (p0 : Nat) (p1 : Int32) (u : HS) : CtX mkI t G l yX5_one cX5_one 3 (some .int) 11 [.ref p0, .int p1] u (hX5_one p0 p1 u) := by
  refine ctX_of [(0, .ref p0), (1, .int p1)] hl0 rfl (Nat.le_of_ble_eq_true rfl) rfl (fun K1 K2 p e s m args below meth c C => ?_)
  unfold hX5_one
  refine v_aload_n C.1.1 0 rfl rfl dX5_one_0 ?_
  refine v_iload_n C.1.1 1 rfl rfl dX5_one_1 ?_
  refine v_chk (fun h3 => ?_)
  refine v_callVX C [.int p1] [] (ctX5_oneNow t G l hl0 p0 p1 u) (fun _ _ => cwX5_oneNow C.1 q1066 (by decide)) (recO C.1 (ci := 4) (eq_of_beq h3) (by decide) rfl) rfl rfl (by exact Nat.le_of_ble_eq_true rfl) dX5_one_2 (fun r2 u1 => ?_)
  refine v_istore_n C.1.1 [(2, .int r2), (0, .ref p0), (1, .int p1)] rfl (by decide) rfl dX5_one_5 ?_
  refine v_aload_n C.1.1 1 rfl rfl dX5_one_6 ?_
  refine v_chk (fun h5 => ?_)
  refine v_callVH C.1 [] [] (ctX5_next t G l hl0 p0 u1) (fun _ _ => cwX5_next C.1 q890 (by decide)) (recO C.1 (ci := 4) (eq_of_beq h5) (by decide) rfl) rfl rfl (by exact Nat.le_of_ble_eq_true rfl) dX5_one_7 (fun _ u4 => ?_)
  refine v_iload_n C.1.1 0 rfl rfl dX5_one_10 ?_
  exact v_xiret C.1 dX5_one_11
theorem cwX5_one {t : TT} {G : GH} {l : Launch} {p : Program} {s : State} {m : MethodId} {args : Array Value} {meth : Method} {c : Code} {y0 : MethodName} {cc0 : ByteArray} {nL0 : Nat} {ret0 : Option FieldType} (C : CxH t G l p s m args meth c y0 cc0 nL0 ret0) {index lv mc ms K1 K2 : Nat} (hq : Cond.methodLink y0.cls index yX5_one ∈ lw_all) (hR : 11 + 1 ≤ lv) : CallW (rmH lv K1 K2) s args y0.cls RX5 index yX5_one cX5_one 3 (some .int) (ws_ yX5_one cX5_one 3 (some .int)) (rmH 11 mc ms) mc ms 1 :=
  cwV 1 C.1.2.2.2.2.1 (lw_V hq q1064 qs24 q132 q1065) rfl rfl rfl (by decide +kernel) ⟨hR, by show 8 + (3 + 11) + 100 * 11 ≤ 100 * lv; omega⟩
def hX7_init (p0 : Nat) (p1 : Int32) (p2 : Int32) (p3 : Int32) (u : HS) : Option (OH Unit) :=
  mchk (hC u p0 == 7) <|
  mlet (uI u p0 0 p1) fun u2 =>
  mchk (hC u2 p0 == 7) <|
  mlet (uI u2 p0 1 p2) fun u4 =>
  mchk (hC u4 p0 == 7) <|
  mlet (uI u4 p0 2 p3) fun u6 =>
  hret () u6
theorem ctX7_init (t : TT) (G : GH) (l : Launch) (hl0 : l.stackTraces = false) (p0 : Nat) (p1 : Int32) (p2 : Int32) (p3 : Int32) (u : HS) : CtH mkU t G l yX7_init cX7_init 4 none 2 [.ref p0, .int p1, .int p2, .int p3] u (hX7_init p0 p1 p2 p3 u) := by
  refine ctH_of [(0, .ref p0), (1, .int p1), (2, .int p2), (3, .int p3)] hl0 rfl (Nat.le_of_ble_eq_true rfl) rfl (fun K1 K2 p e s m args below meth c C => ?_)
  unfold hX7_init
  refine v_aload_n C.1 0 rfl rfl dX7_init_0 ?_
  refine v_objInit C q1088 q161 q162 (by exact Nat.le_of_ble_eq_true rfl) (by exact Nat.le_of_ble_eq_true rfl) dX7_init_1 ?_
  refine v_aload_n C.1 0 rfl rfl dX7_init_4 ?_
  refine v_iload_n C.1 1 rfl rfl dX7_init_5 ?_
  refine v_chk (fun h1 => ?_)
  refine v_hputI C 6 0 (eq_of_beq h1) (by decide) rfl in_X7 tyX7 tyX7_ok nmX7 (by decide) (by decide) q1089 (fun _ h => h) (Or.inr ⟨rfl, rfl, rfl⟩) ⟨rfl, rfl⟩ dX7_init_6 (fun u2 => ?_)
  refine v_aload_n C.1 0 rfl rfl dX7_init_9 ?_
  refine v_iload_n C.1 2 rfl rfl dX7_init_10 ?_
  refine v_chk (fun h3 => ?_)
  refine v_hputI C 6 1 (eq_of_beq h3) (by decide) rfl in_X7 tyX7 tyX7_ok nmX7 (by decide) (by decide) q1091 (fun _ h => h) (Or.inr ⟨rfl, rfl, rfl⟩) ⟨rfl, rfl⟩ dX7_init_11 (fun u4 => ?_)
  refine v_aload_n C.1 0 rfl rfl dX7_init_14 ?_
  refine v_iload_n C.1 3 rfl rfl dX7_init_15 ?_
  refine v_chk (fun h5 => ?_)
  refine v_hputI C 6 2 (eq_of_beq h5) (by decide) rfl in_X7 tyX7 tyX7_ok nmX7 (by decide) (by decide) q1093 (fun _ h => h) (Or.inr ⟨rfl, rfl, rfl⟩) ⟨rfl, rfl⟩ dX7_init_16 (fun u6 => ?_)
  exact v_hvret C dX7_init_19
theorem cwX7_init {t : TT} {G : GH} {l : Launch} {p : Program} {s : State} {m : MethodId} {args : Array Value} {meth : Method} {c : Code} {y0 : MethodName} {cc0 : ByteArray} {nL0 : Nat} {ret0 : Option FieldType} (C : CxH t G l p s m args meth c y0 cc0 nL0 ret0) {index lv mc ms K1 K2 : Nat} (hq : Cond.methodLink y0.cls index yX7_init ∈ lw_all) (hR : 2 + 1 ≤ lv) : CallB (rmH lv K1 K2) s args y0.cls index yX7_init cX7_init 4 none (ws_ yX7_init cX7_init 4 none) (rmH 2 mc ms) mc ms 3 ∧ yX7_init.name = "<init>" ∧ (Cond.instanceMethod yX7_init).before args s = true :=
  cwI 3 C.1.2.2.2.2.1 (lw_meth q1087) rfl rfl rfl (C.1.2.2.2.2.1 _ q147) (C.1.2.2.2.2.1 _ hq) (C.1.2.2.2.2.1 _ q1086) rfl (by decide +kernel) ⟨hR, by show 8 + (4 + 11) + 100 * 2 ≤ 100 * lv; omega⟩
def hX5_way_88 (p0 : Nat) (x1 : Int32) (x2 : Int32) (s0 : Nat) (s1 : Int32) (u : HS) : Option (OH (PX Unit)) :=
  mchk (hC u s0 == 5) <|
  hx (hX5_want s0 s1 4 u) fun _ u1 =>
  mchk (hC u1 p0 == 5) <|
  hb (hX5_next p0 u1) fun _ u3 =>
  mchk (hC u3 p0 == 5) <|
  mderef (hR u3 p0 1) fun a6 =>
  mchk (hC u3 a6 == 2) <|
  mderef (hR u3 a6 2) fun a9 =>
  mlet (hZ u3) fun a11 =>
  addc 1 (cN 6) <|
  mlet (nO u3 6) fun u13 =>
  mchk (hC u13 p0 == 5) <|
  hx (hX5_number p0 0 60 u13) fun r15 u14 =>
  hb (hX7_init a11 x1 x2 r15 u14) fun _ u17 =>
  mchk (hC u17 a9 == 12) <|
  hb (hJ2_add a9 a11 u17) fun r19 u18 =>
  hret (.inl ()) u18
theorem whX5_way_88 {K1 K2 : Nat} {p : Program} {e : Env} {s : State} {m : MethodId} {args : Array Value} {below : List Frame} {meth : Method} {c : Code} (hl0 : l.stackTraces = false) (C : CxX t G l p s m args meth c yX5_way cX5_way 3 none) (p0 : Nat) (x1 : Int32) (x2 : Int32) (s0 : Nat) (s1 : Int32) (u : HS) : VX mkU t G p l e 12 K1 K2 s m args below meth c 3 88 [(0, .ref p0), (1, .int x1), (2, .int x2)] [.int s1, .ref s0] u (hX5_way_88 p0 x1 x2 s0 s1 u) := by
  unfold hX5_way_88
  refine v_iconst C.1.1 4 (by decide) dX5_way_88 ?_
  refine v_chk (fun h2 => ?_)
  refine v_callVX C [.int s1, .int 4] [] (ctX5_want t G l hl0 s0 s1 4 u) (fun _ _ => cwX5_want C.1 q1008 (by decide)) (recO C.1 (ci := 4) (eq_of_beq h2) (by decide) rfl) rfl rfl (by exact Nat.le_of_ble_eq_true rfl) dX5_way_89 (fun _ u1 => ?_)
  refine v_aload_n C.1.1 0 rfl rfl dX5_way_92 ?_
  refine v_chk (fun h4 => ?_)
  refine v_callVH C.1 [] [] (ctX5_next t G l hl0 p0 u1) (fun _ _ => cwX5_next C.1 q890 (by decide)) (recO C.1 (ci := 4) (eq_of_beq h4) (by decide) rfl) rfl rfl (by exact Nat.le_of_ble_eq_true rfl) dX5_way_93 (fun _ u3 => ?_)
  refine v_aload_n C.1.1 0 rfl rfl dX5_way_96 ?_
  refine v_chk (fun h5 => ?_)
  refine v_hget C.1 (v := va_rf (hR u3 p0 1)) 4 1 (eq_of_beq h5) (by decide) rfl in_X5 (by decide) (Or.inl q848) (fun _ h => h) (hF_r (ci := 4) (eq_of_beq h5) (by decide)) dX5_way_97 ?_
  refine v_deref (fun a6 e7 => ?_)
  refine v_chk (fun h8 => ?_)
  refine v_hget C.1 (v := va_rf (hR u3 a6 2)) 1 2 (eq_of_beq h8) (by decide) rfl in_X2 (by decide) (Or.inr ⟨_, q206⟩) (fun _ h => h) (hF_r (ci := 1) (eq_of_beq h8) (by decide)) dX5_way_100 ?_
  refine v_deref (fun a9 e10 => ?_)
  refine v_letE (fun a11 e12 => ?_)
  refine v_hnew C.1 6 e12 (by decide) rfl in_X7 tyX7 tyX7_ok df_X7 q1083 q1084 q147 dX5_way_103 (fun u13 => ?_)
  refine v_dup C.1.1 rfl dX5_way_106 ?_
  refine v_iload_n C.1.1 1 rfl rfl dX5_way_107 ?_
  refine v_iload_n C.1.1 2 rfl rfl dX5_way_108 ?_
  refine v_aload_n C.1.1 0 rfl rfl dX5_way_109 ?_
  refine v_iconst C.1.1 0 (by decide) dX5_way_110 ?_
  refine v_bipush C.1.1 60 (by decide) dX5_way_111 ?_
  refine v_chk (fun h16 => ?_)
  refine v_callVX C [.int 0, .int 60] [.int x2, .int x1, .ref a11, .ref a11, .ref a9] (ctX5_number t G l hl0 p0 0 60 u13) (fun _ _ => cwX5_number C.1 q1036 (by decide)) (recO C.1 (ci := 4) (eq_of_beq h16) (by decide) rfl) rfl rfl (by exact Nat.le_of_ble_eq_true rfl) dX5_way_113 (fun r15 u14 => ?_)
  refine v_callIH C.1 [.int x1, .int x2, .int r15] [.ref a11, .ref a9] (ctX7_init t G l hl0 a11 x1 x2 r15 u14) (fun _ _ => cwX7_init C.1 q1085 (by decide)) rfl rfl (by exact Nat.le_of_ble_eq_true rfl) dX5_way_116 (fun _ u17 => ?_)
  refine v_chk (fun h20 => ?_)
  refine v_callFH C.1 [.ref a11] [] (ctJ2_add t G l hl0 a9 a11 u17) (fun _ _ => cwJ2_addF C.1 q1047 (by decide)) (eq_of_beq h20) (by decide) rfl rfl rfl (by exact Nat.le_of_ble_eq_true rfl) dX5_way_119 (fun r19 u18 => ?_)
  refine v_pop C.1.1 rfl dX5_way_124 ?_
  exact v_xvret C.1 dX5_way_125
def hX5_way_23 (p0 : Nat) (s0 : Nat) (s1 : Int32) (u : HS) : Option (OH (PX Unit)) :=
  mchk (hC u s0 == 5) <|
  hx (hX5_want s0 s1 2 u) fun _ u1 =>
  mchk (hC u1 p0 == 5) <|
  hb (hX5_next p0 u1) fun _ u3 =>
  mchk (hC u3 p0 == 5) <|
  mderef (hR u3 p0 1) fun a6 =>
  mchk (hC u3 a6 == 2) <|
  mderef (hR u3 a6 0) fun a9 =>
  mchk (hC u3 a9 == 12) <|
  hb (hJ2_size a9 u3) fun r12 u11 =>
  mchk (hC u11 p0 == 5) <|
  hx (hX5_one p0 r12 u11) fun r15 u14 =>
  mchk (hC u14 p0 == 5) <|
  mderef (hR u14 p0 1) fun a18 =>
  mchk (hC u14 a18 == 2) <|
  mderef (hR u14 a18 0) fun a21 =>
  mchk (hC u14 a21 == 12) <|
  hb (hJ2_size a21 u14) fun r24 u23 =>
  mchk (hC u23 p0 == 5) <|
  hx (hX5_oneNow p0 r24 u23) fun r27 u26 =>
  if r15 = r27 then
    hX5_way_88 p0 r15 r27 p0 0 u26
  else
    mchk (hC u26 p0 == 5) <|
    mderef (hR u26 p0 1) fun a30 =>
    mchk (hC u26 a30 == 2) <|
    hb (hX2_isJoined a30 r15 r27 u26) fun r33 u32 =>
    if r33 = 0 then
      hX5_way_88 p0 r15 r27 p0 1 u32
    else
      hX5_way_88 p0 r15 r27 p0 0 u32
theorem whX5_way_23 {K1 K2 : Nat} {p : Program} {e : Env} {s : State} {m : MethodId} {args : Array Value} {below : List Frame} {meth : Method} {c : Code} (hl0 : l.stackTraces = false) (C : CxX t G l p s m args meth c yX5_way cX5_way 3 none) (p0 : Nat) (s0 : Nat) (s1 : Int32) (u : HS) : VX mkU t G p l e 12 K1 K2 s m args below meth c 3 23 [(0, .ref p0)] [.int s1, .ref s0] u (hX5_way_23 p0 s0 s1 u) := by
  unfold hX5_way_23
  refine v_iconst C.1.1 2 (by decide) dX5_way_23 ?_
  refine v_chk (fun h2 => ?_)
  refine v_callVX C [.int s1, .int 2] [] (ctX5_want t G l hl0 s0 s1 2 u) (fun _ _ => cwX5_want C.1 q1008 (by decide)) (recO C.1 (ci := 4) (eq_of_beq h2) (by decide) rfl) rfl rfl (by exact Nat.le_of_ble_eq_true rfl) dX5_way_24 (fun _ u1 => ?_)
  refine v_aload_n C.1.1 0 rfl rfl dX5_way_27 ?_
  refine v_chk (fun h4 => ?_)
  refine v_callVH C.1 [] [] (ctX5_next t G l hl0 p0 u1) (fun _ _ => cwX5_next C.1 q890 (by decide)) (recO C.1 (ci := 4) (eq_of_beq h4) (by decide) rfl) rfl rfl (by exact Nat.le_of_ble_eq_true rfl) dX5_way_28 (fun _ u3 => ?_)
  refine v_aload_n C.1.1 0 rfl rfl dX5_way_31 ?_
  refine v_aload_n C.1.1 0 rfl rfl dX5_way_32 ?_
  refine v_chk (fun h5 => ?_)
  refine v_hget C.1 (v := va_rf (hR u3 p0 1)) 4 1 (eq_of_beq h5) (by decide) rfl in_X5 (by decide) (Or.inl q848) (fun _ h => h) (hF_r (ci := 4) (eq_of_beq h5) (by decide)) dX5_way_33 ?_
  refine v_deref (fun a6 e7 => ?_)
  refine v_chk (fun h8 => ?_)
  refine v_hget C.1 (v := va_rf (hR u3 a6 0)) 1 0 (eq_of_beq h8) (by decide) rfl in_X2 (by decide) (Or.inr ⟨_, q199⟩) (fun _ h => h) (hF_r (ci := 1) (eq_of_beq h8) (by decide)) dX5_way_36 ?_
  refine v_deref (fun a9 e10 => ?_)
  refine v_chk (fun h13 => ?_)
  refine v_callFH C.1 [] [.ref p0] (ctJ2_size t G l hl0 a9 u3) (fun _ _ => cwJ2_sizeF C.1 q1055 (by decide)) (eq_of_beq h13) (by decide) rfl rfl rfl (by exact Nat.le_of_ble_eq_true rfl) dX5_way_39 (fun r12 u11 => ?_)
  refine v_chk (fun h16 => ?_)
  refine v_callVX C [.int r12] [] (ctX5_one t G l hl0 p0 r12 u11) (fun _ _ => cwX5_one C.1 q1062 (by decide)) (recO C.1 (ci := 4) (eq_of_beq h16) (by decide) rfl) rfl rfl (by exact Nat.le_of_ble_eq_true rfl) dX5_way_44 (fun r15 u14 => ?_)
  refine v_istore_n C.1.1 [(1, .int r15), (0, .ref p0)] rfl (by decide) rfl dX5_way_47 ?_
  refine v_aload_n C.1.1 1 rfl rfl dX5_way_48 ?_
  refine v_aload_n C.1.1 1 rfl rfl dX5_way_49 ?_
  refine v_chk (fun h17 => ?_)
  refine v_hget C.1 (v := va_rf (hR u14 p0 1)) 4 1 (eq_of_beq h17) (by decide) rfl in_X5 (by decide) (Or.inl q848) (fun _ h => h) (hF_r (ci := 4) (eq_of_beq h17) (by decide)) dX5_way_50 ?_
  refine v_deref (fun a18 e19 => ?_)
  refine v_chk (fun h20 => ?_)
  refine v_hget C.1 (v := va_rf (hR u14 a18 0)) 1 0 (eq_of_beq h20) (by decide) rfl in_X2 (by decide) (Or.inr ⟨_, q199⟩) (fun _ h => h) (hF_r (ci := 1) (eq_of_beq h20) (by decide)) dX5_way_53 ?_
  refine v_deref (fun a21 e22 => ?_)
  refine v_chk (fun h25 => ?_)
  refine v_callFH C.1 [] [.ref p0] (ctJ2_size t G l hl0 a21 u14) (fun _ _ => cwJ2_sizeF C.1 q1055 (by decide)) (eq_of_beq h25) (by decide) rfl rfl rfl (by exact Nat.le_of_ble_eq_true rfl) dX5_way_56 (fun r24 u23 => ?_)
  refine v_chk (fun h28 => ?_)
  refine v_callVX C [.int r24] [] (ctX5_oneNow t G l hl0 p0 r24 u23) (fun _ _ => cwX5_oneNow C.1 q1066 (by decide)) (recO C.1 (ci := 4) (eq_of_beq h28) (by decide) rfl) rfl rfl (by exact Nat.le_of_ble_eq_true rfl) dX5_way_61 (fun r27 u26 => ?_)
  refine v_istore_n C.1.1 [(2, .int r27), (1, .int r15), (0, .ref p0)] rfl (by decide) rfl dX5_way_64 ?_
  refine v_aload_n C.1.1 2 rfl rfl dX5_way_65 ?_
  refine v_iload_n C.1.1 1 rfl rfl dX5_way_66 ?_
  refine v_iload_n C.1.1 0 rfl rfl dX5_way_67 ?_
  refine v_icmp_eq C.1.1 87 (by decide) dX5_way_68 (fun _ => ?_) (fun _ => ?_)
  · refine v_iconst C.1.1 0 (by decide) dX5_way_87 ?_
    refine v_sub [2, 1, 0] rfl ?_
    exact whX5_way_88 hl0 C p0 r15 r27 p0 0 u26
  · refine v_aload_n C.1.1 2 rfl rfl dX5_way_71 ?_
    refine v_chk (fun h29 => ?_)
    refine v_hget C.1 (v := va_rf (hR u26 p0 1)) 4 1 (eq_of_beq h29) (by decide) rfl in_X5 (by decide) (Or.inl q848) (fun _ h => h) (hF_r (ci := 4) (eq_of_beq h29) (by decide)) dX5_way_72 ?_
    refine v_deref (fun a30 e31 => ?_)
    refine v_iload_n C.1.1 1 rfl rfl dX5_way_75 ?_
    refine v_iload_n C.1.1 0 rfl rfl dX5_way_76 ?_
    refine v_chk (fun h34 => ?_)
    refine v_callVH C.1 [.int r15, .int r27] [.ref p0] (ctX2_isJoined t G l hl0 a30 r15 r27 u26) (fun _ _ => cwX2_isJoined C.1 q1070 (by decide)) (recO C.1 (ci := 1) (eq_of_beq h34) (by decide) rfl) rfl rfl (by exact Nat.le_of_ble_eq_true rfl) dX5_way_77 (fun r33 u32 => ?_)
    refine v_if_ne C.1.1 87 (by decide) dX5_way_80 (fun _ => ?_) (fun _ => ?_)
    · refine v_iconst C.1.1 1 (by decide) dX5_way_83 ?_
      refine v_goto C.1.1 88 (by decide) dX5_way_84 ?_
      refine v_sub [2, 1, 0] rfl ?_
      exact whX5_way_88 hl0 C p0 r15 r27 p0 1 u32
    · refine v_iconst C.1.1 0 (by decide) dX5_way_87 ?_
      refine v_sub [2, 1, 0] rfl ?_
      exact whX5_way_88 hl0 C p0 r15 r27 p0 0 u32
def hX5_way (p0 : Nat) (u : HS) : Option (OH (PX Unit)) :=
  mchk (hC u p0 == 5) <|
  mderef (hR u p0 1) fun a2 =>
  mchk (hC u a2 == 2) <|
  mderef (hR u a2 2) fun a5 =>
  mchk (hC u a5 == 12) <|
  hb (hJ2_size a5 u) fun r8 u7 =>
  if 12 ≤ r8 then
    hX5_way_23 p0 p0 0 u7
  else
    hX5_way_23 p0 p0 1 u7
theorem ctX5_way (t : TT) (G : GH) (l : Launch) (hl0 : l.stackTraces = false) (p0 : Nat) (u : HS) : CtX mkU t G l yX5_way cX5_way 3 none 12 [.ref p0] u (hX5_way p0 u) := by
  refine ctX_of [(0, .ref p0)] hl0 rfl (Nat.le_of_ble_eq_true rfl) rfl (fun K1 K2 p e s m args below meth c C => ?_)
  unfold hX5_way
  refine v_aload_n C.1.1 0 rfl rfl dX5_way_0 ?_
  refine v_aload_n C.1.1 0 rfl rfl dX5_way_1 ?_
  refine v_chk (fun h1 => ?_)
  refine v_hget C.1 (v := va_rf (hR u p0 1)) 4 1 (eq_of_beq h1) (by decide) rfl in_X5 (by decide) (Or.inl q848) (fun _ h => h) (hF_r (ci := 4) (eq_of_beq h1) (by decide)) dX5_way_2 ?_
  refine v_deref (fun a2 e3 => ?_)
  refine v_chk (fun h4 => ?_)
  refine v_hget C.1 (v := va_rf (hR u a2 2)) 1 2 (eq_of_beq h4) (by decide) rfl in_X2 (by decide) (Or.inr ⟨_, q206⟩) (fun _ h => h) (hF_r (ci := 1) (eq_of_beq h4) (by decide)) dX5_way_5 ?_
  refine v_deref (fun a5 e6 => ?_)
  refine v_chk (fun h9 => ?_)
  refine v_callFH C.1 [] [.ref p0] (ctJ2_size t G l hl0 a5 u) (fun _ _ => cwJ2_sizeF C.1 q1055 (by decide)) (eq_of_beq h9) (by decide) rfl rfl rfl (by exact Nat.le_of_ble_eq_true rfl) dX5_way_8 (fun r8 u7 => ?_)
  refine v_bipush C.1.1 12 (by decide) dX5_way_13 ?_
  refine v_icmp_ge C.1.1 22 (by decide) dX5_way_15 (fun _ => ?_) (fun _ => ?_)
  · refine v_iconst C.1.1 0 (by decide) dX5_way_22 ?_
    exact whX5_way_23 hl0 C p0 p0 0 u7
  · refine v_iconst C.1.1 1 (by decide) dX5_way_18 ?_
    refine v_goto C.1.1 23 (by decide) dX5_way_19 ?_
    exact whX5_way_23 hl0 C p0 p0 1 u7
theorem cwX5_way {t : TT} {G : GH} {l : Launch} {p : Program} {s : State} {m : MethodId} {args : Array Value} {meth : Method} {c : Code} {y0 : MethodName} {cc0 : ByteArray} {nL0 : Nat} {ret0 : Option FieldType} (C : CxH t G l p s m args meth c y0 cc0 nL0 ret0) {index lv mc ms K1 K2 : Nat} (hq : Cond.methodLink y0.cls index yX5_way ∈ lw_all) (hR : 12 + 1 ≤ lv) : CallW (rmH lv K1 K2) s args y0.cls RX5 index yX5_way cX5_way 3 none (ws_ yX5_way cX5_way 3 none) (rmH 12 mc ms) mc ms 0 :=
  cwV 0 C.1.2.2.2.2.1 (lw_V hq q1060 qs23 q132 q1061) rfl rfl rfl (by decide +kernel) ⟨hR, by show 8 + (3 + 11) + 100 * 12 ≤ 100 * lv; omega⟩
def hX5_person_20 (p0 : Nat) (x1 : Int32) (s0 : Nat) (s1 : Int32) (u : HS) : Option (OH (PX Unit)) :=
  mchk (hC u s0 == 5) <|
  hx (hX5_want s0 s1 2 u) fun _ u1 =>
  mchk (hC u1 p0 == 5) <|
  hb (hX5_next p0 u1) fun _ u3 =>
  mchk (hC u3 p0 == 5) <|
  hx (hX5_number p0 0 99 u3) fun r6 u5 =>
  mchk (hC u5 p0 == 5) <|
  mderef (hR u5 p0 2) fun a9 =>
  mchk (hC u5 a9 == 3) <|
  mderef (hR u5 a9 2) fun a12 =>
  mchk (hC u5 p0 == 5) <|
  mderef (hR u5 p0 1) fun a15 =>
  mchk (hC u5 a15 == 2) <|
  mderef (hR u5 a15 0) fun a18 =>
  mchk (hC u5 a18 == 12) <|
  hb (hJ2_size a18 u5) fun r21 u20 =>
  mchk (hC u20 p0 == 5) <|
  hx (hX5_one p0 r21 u20) fun r24 u23 =>
  mchk (inA u23 x1 a12 21) <|
  mlet (uA u23 a12 x1.toNatClampNeg r24) fun u26 =>
  mchk (hC u26 p0 == 5) <|
  mderef (hR u26 p0 1) fun a29 =>
  mchk (hC u26 a29 == 2) <|
  mderef (hR u26 a29 1) fun a32 =>
  hb (hJ16_valueOf r6 u26) fun r35 u34 =>
  mchk (hC u34 a32 == 12) <|
  hb (hJ2_add a32 r35 u34) fun r37 u36 =>
  hret (.inl ()) u36
theorem whX5_person_20 {K1 K2 : Nat} {p : Program} {e : Env} {s : State} {m : MethodId} {args : Array Value} {below : List Frame} {meth : Method} {c : Code} (hl0 : l.stackTraces = false) (C : CxX t G l p s m args meth c yX5_person cX5_person 3 none) (p0 : Nat) (x1 : Int32) (s0 : Nat) (s1 : Int32) (u : HS) : VX mkU t G p l e 12 K1 K2 s m args below meth c 3 20 [(0, .ref p0), (1, .int x1)] [.int s1, .ref s0] u (hX5_person_20 p0 x1 s0 s1 u) := by
  unfold hX5_person_20
  refine v_iconst C.1.1 2 (by decide) dX5_person_20 ?_
  refine v_chk (fun h2 => ?_)
  refine v_callVX C [.int s1, .int 2] [] (ctX5_want t G l hl0 s0 s1 2 u) (fun _ _ => cwX5_want C.1 q1008 (by decide)) (recO C.1 (ci := 4) (eq_of_beq h2) (by decide) rfl) rfl rfl (by exact Nat.le_of_ble_eq_true rfl) dX5_person_21 (fun _ u1 => ?_)
  refine v_aload_n C.1.1 0 rfl rfl dX5_person_24 ?_
  refine v_chk (fun h4 => ?_)
  refine v_callVH C.1 [] [] (ctX5_next t G l hl0 p0 u1) (fun _ _ => cwX5_next C.1 q890 (by decide)) (recO C.1 (ci := 4) (eq_of_beq h4) (by decide) rfl) rfl rfl (by exact Nat.le_of_ble_eq_true rfl) dX5_person_25 (fun _ u3 => ?_)
  refine v_aload_n C.1.1 0 rfl rfl dX5_person_28 ?_
  refine v_iconst C.1.1 0 (by decide) dX5_person_29 ?_
  refine v_bipush C.1.1 99 (by decide) dX5_person_30 ?_
  refine v_chk (fun h7 => ?_)
  refine v_callVX C [.int 0, .int 99] [] (ctX5_number t G l hl0 p0 0 99 u3) (fun _ _ => cwX5_number C.1 q1036 (by decide)) (recO C.1 (ci := 4) (eq_of_beq h7) (by decide) rfl) rfl rfl (by exact Nat.le_of_ble_eq_true rfl) dX5_person_32 (fun r6 u5 => ?_)
  refine v_istore_n C.1.1 [(2, .int r6), (0, .ref p0), (1, .int x1)] rfl (by decide) rfl dX5_person_35 ?_
  refine v_aload_n C.1.1 1 rfl rfl dX5_person_36 ?_
  refine v_chk (fun h8 => ?_)
  refine v_hget C.1 (v := va_rf (hR u5 p0 2)) 4 2 (eq_of_beq h8) (by decide) rfl in_X5 (by decide) (Or.inl q849) (fun _ h => h) (hF_r (ci := 4) (eq_of_beq h8) (by decide)) dX5_person_37 ?_
  refine v_deref (fun a9 e10 => ?_)
  refine v_chk (fun h11 => ?_)
  refine v_hget C.1 (v := va_rf (hR u5 a9 2)) 2 2 (eq_of_beq h11) (by decide) rfl in_X3 (by decide) (Or.inr ⟨_, q260⟩) (fun _ h => h) (hF_r (ci := 2) (eq_of_beq h11) (by decide)) dX5_person_40 ?_
  refine v_deref (fun a12 e13 => ?_)
  refine v_iload_n C.1.1 2 rfl rfl dX5_person_43 ?_
  refine v_aload_n C.1.1 1 rfl rfl dX5_person_44 ?_
  refine v_aload_n C.1.1 1 rfl rfl dX5_person_45 ?_
  refine v_chk (fun h14 => ?_)
  refine v_hget C.1 (v := va_rf (hR u5 p0 1)) 4 1 (eq_of_beq h14) (by decide) rfl in_X5 (by decide) (Or.inl q848) (fun _ h => h) (hF_r (ci := 4) (eq_of_beq h14) (by decide)) dX5_person_46 ?_
  refine v_deref (fun a15 e16 => ?_)
  refine v_chk (fun h17 => ?_)
  refine v_hget C.1 (v := va_rf (hR u5 a15 0)) 1 0 (eq_of_beq h17) (by decide) rfl in_X2 (by decide) (Or.inr ⟨_, q199⟩) (fun _ h => h) (hF_r (ci := 1) (eq_of_beq h17) (by decide)) dX5_person_49 ?_
  refine v_deref (fun a18 e19 => ?_)
  refine v_chk (fun h22 => ?_)
  refine v_callFH C.1 [] [.ref p0, .int x1, .ref a12] (ctJ2_size t G l hl0 a18 u5) (fun _ _ => cwJ2_sizeF C.1 q1055 (by decide)) (eq_of_beq h22) (by decide) rfl rfl rfl (by exact Nat.le_of_ble_eq_true rfl) dX5_person_52 (fun r21 u20 => ?_)
  refine v_chk (fun h25 => ?_)
  refine v_callVX C [.int r21] [.int x1, .ref a12] (ctX5_one t G l hl0 p0 r21 u20) (fun _ _ => cwX5_one C.1 q1062 (by decide)) (recO C.1 (ci := 4) (eq_of_beq h25) (by decide) rfl) rfl rfl (by exact Nat.le_of_ble_eq_true rfl) dX5_person_57 (fun r24 u23 => ?_)
  refine v_chk (fun h27 => ?_)
  refine v_haiast C.1 h27 dX5_person_60 (fun u26 => ?_)
  refine v_aload_n C.1.1 1 rfl rfl dX5_person_61 ?_
  refine v_chk (fun h28 => ?_)
  refine v_hget C.1 (v := va_rf (hR u26 p0 1)) 4 1 (eq_of_beq h28) (by decide) rfl in_X5 (by decide) (Or.inl q848) (fun _ h => h) (hF_r (ci := 4) (eq_of_beq h28) (by decide)) dX5_person_62 ?_
  refine v_deref (fun a29 e30 => ?_)
  refine v_chk (fun h31 => ?_)
  refine v_hget C.1 (v := va_rf (hR u26 a29 1)) 1 1 (eq_of_beq h31) (by decide) rfl in_X2 (by decide) (Or.inr ⟨_, q203⟩) (fun _ h => h) (hF_r (ci := 1) (eq_of_beq h31) (by decide)) dX5_person_65 ?_
  refine v_deref (fun a32 e33 => ?_)
  refine v_iload_n C.1.1 0 rfl rfl dX5_person_68 ?_
  refine v_callSH C.1 [.int r6] [.ref a32] (ctJ16_valueOf t G l hl0 r6 u26) (fun _ _ => cwJ16_valueOf C.1 q1056 (by decide)) rfl rfl (by exact Nat.le_of_ble_eq_true rfl) dX5_person_69 (fun r35 u34 => ?_)
  refine v_chk (fun h38 => ?_)
  refine v_callFH C.1 [.ref r35] [] (ctJ2_add t G l hl0 a32 r35 u34) (fun _ _ => cwJ2_addF C.1 q1047 (by decide)) (eq_of_beq h38) (by decide) rfl rfl rfl (by exact Nat.le_of_ble_eq_true rfl) dX5_person_72 (fun r37 u36 => ?_)
  refine v_pop C.1.1 rfl dX5_person_77 ?_
  exact v_xvret C.1 dX5_person_78
def hX5_person (p0 : Nat) (u : HS) : Option (OH (PX Unit)) :=
  mchk (hC u p0 == 5) <|
  mderef (hR u p0 1) fun a2 =>
  mchk (hC u a2 == 2) <|
  hb (hX2_people a2 u) fun r5 u4 =>
  if 9 ≤ r5 then
    hX5_person_20 p0 r5 p0 0 u4
  else
    hX5_person_20 p0 r5 p0 1 u4
theorem ctX5_person (t : TT) (G : GH) (l : Launch) (hl0 : l.stackTraces = false) (p0 : Nat) (u : HS) : CtX mkU t G l yX5_person cX5_person 3 none 12 [.ref p0] u (hX5_person p0 u) := by
  refine ctX_of [(0, .ref p0)] hl0 rfl (Nat.le_of_ble_eq_true rfl) rfl (fun K1 K2 p e s m args below meth c C => ?_)
  unfold hX5_person
  refine v_aload_n C.1.1 0 rfl rfl dX5_person_0 ?_
  refine v_chk (fun h1 => ?_)
  refine v_hget C.1 (v := va_rf (hR u p0 1)) 4 1 (eq_of_beq h1) (by decide) rfl in_X5 (by decide) (Or.inl q848) (fun _ h => h) (hF_r (ci := 4) (eq_of_beq h1) (by decide)) dX5_person_1 ?_
  refine v_deref (fun a2 e3 => ?_)
  refine v_chk (fun h6 => ?_)
  refine v_callVH C.1 [] [] (ctX2_people t G l hl0 a2 u) (fun _ _ => cwX2_people C.1 q1107 (by decide)) (recO C.1 (ci := 1) (eq_of_beq h6) (by decide) rfl) rfl rfl (by exact Nat.le_of_ble_eq_true rfl) dX5_person_4 (fun r5 u4 => ?_)
  refine v_istore_n C.1.1 [(1, .int r5), (0, .ref p0)] rfl (by decide) rfl dX5_person_7 ?_
  refine v_aload_n C.1.1 1 rfl rfl dX5_person_8 ?_
  refine v_iload_n C.1.1 0 rfl rfl dX5_person_9 ?_
  refine v_bipush C.1.1 9 (by decide) dX5_person_10 ?_
  refine v_icmp_ge C.1.1 19 (by decide) dX5_person_12 (fun _ => ?_) (fun _ => ?_)
  · refine v_iconst C.1.1 0 (by decide) dX5_person_19 ?_
    refine v_sub [1, 0] rfl ?_
    exact whX5_person_20 hl0 C p0 r5 p0 0 u4
  · refine v_iconst C.1.1 1 (by decide) dX5_person_15 ?_
    refine v_goto C.1.1 20 (by decide) dX5_person_16 ?_
    refine v_sub [1, 0] rfl ?_
    exact whX5_person_20 hl0 C p0 r5 p0 1 u4
theorem cwX5_person {t : TT} {G : GH} {l : Launch} {p : Program} {s : State} {m : MethodId} {args : Array Value} {meth : Method} {c : Code} {y0 : MethodName} {cc0 : ByteArray} {nL0 : Nat} {ret0 : Option FieldType} (C : CxH t G l p s m args meth c y0 cc0 nL0 ret0) {index lv mc ms K1 K2 : Nat} (hq : Cond.methodLink y0.cls index yX5_person ∈ lw_all) (hR : 12 + 1 ≤ lv) : CallW (rmH lv K1 K2) s args y0.cls RX5 index yX5_person cX5_person 3 none (ws_ yX5_person cX5_person 3 none) (rmH 12 mc ms) mc ms 0 :=
  cwV 0 C.1.2.2.2.2.1 (lw_V hq q1105 qs26 q132 q1106) rfl rfl rfl (by decide +kernel) ⟨hR, by show 8 + (3 + 11) + 100 * 12 ≤ 100 * lv; omega⟩
def hX5_kin_74 (p0 : Nat) (x1 : Int32) (x2 : Int32) (s0 : Nat) (s1 : Int32) (u : HS) : Option (OH (PX Unit)) :=
  mchk (hC u s0 == 5) <|
  hx (hX5_want s0 s1 4 u) fun _ u1 =>
  mchk (hC u1 p0 == 5) <|
  hb (hX5_next p0 u1) fun _ u3 =>
  mchk (hC u3 p0 == 5) <|
  mderef (hR u3 p0 1) fun a6 =>
  mchk (hC u3 a6 == 2) <|
  mderef (hR u3 a6 3) fun a9 =>
  mchk (inA u3 x1 a9 21) <|
  mchk (inA u3 x1 a9 21) <|
  mlet (uA u3 a9 x1.toNatClampNeg ((hA u3 a9 x1.toNatClampNeg) ||| ((1 : Int32) <<< (x2 &&& 31)))) fun u12 =>
  mchk (hC u12 p0 == 5) <|
  mderef (hR u12 p0 1) fun a15 =>
  mchk (hC u12 a15 == 2) <|
  mderef (hR u12 a15 3) fun a18 =>
  mchk (inA u12 x2 a18 21) <|
  mchk (inA u12 x2 a18 21) <|
  mlet (uA u12 a18 x2.toNatClampNeg ((hA u12 a18 x2.toNatClampNeg) ||| ((1 : Int32) <<< (x1 &&& 31)))) fun u21 =>
  mchk (hC u21 p0 == 5) <|
  mchk (hC u21 p0 == 5) <|
  mlet (uI u21 p0 9 ((hI u21 p0 9) + 1)) fun u25 =>
  hret (.inl ()) u25
theorem whX5_kin_74 {K1 K2 : Nat} {p : Program} {e : Env} {s : State} {m : MethodId} {args : Array Value} {below : List Frame} {meth : Method} {c : Code} (hl0 : l.stackTraces = false) (C : CxX t G l p s m args meth c yX5_kin cX5_kin 3 none) (p0 : Nat) (x1 : Int32) (x2 : Int32) (s0 : Nat) (s1 : Int32) (u : HS) : VX mkU t G p l e 12 K1 K2 s m args below meth c 3 74 [(0, .ref p0), (1, .int x1), (2, .int x2)] [.int s1, .ref s0] u (hX5_kin_74 p0 x1 x2 s0 s1 u) := by
  unfold hX5_kin_74
  refine v_iconst C.1.1 4 (by decide) dX5_kin_74 ?_
  refine v_chk (fun h2 => ?_)
  refine v_callVX C [.int s1, .int 4] [] (ctX5_want t G l hl0 s0 s1 4 u) (fun _ _ => cwX5_want C.1 q1008 (by decide)) (recO C.1 (ci := 4) (eq_of_beq h2) (by decide) rfl) rfl rfl (by exact Nat.le_of_ble_eq_true rfl) dX5_kin_75 (fun _ u1 => ?_)
  refine v_aload_n C.1.1 0 rfl rfl dX5_kin_78 ?_
  refine v_chk (fun h4 => ?_)
  refine v_callVH C.1 [] [] (ctX5_next t G l hl0 p0 u1) (fun _ _ => cwX5_next C.1 q890 (by decide)) (recO C.1 (ci := 4) (eq_of_beq h4) (by decide) rfl) rfl rfl (by exact Nat.le_of_ble_eq_true rfl) dX5_kin_79 (fun _ u3 => ?_)
  refine v_aload_n C.1.1 0 rfl rfl dX5_kin_82 ?_
  refine v_chk (fun h5 => ?_)
  refine v_hget C.1 (v := va_rf (hR u3 p0 1)) 4 1 (eq_of_beq h5) (by decide) rfl in_X5 (by decide) (Or.inl q848) (fun _ h => h) (hF_r (ci := 4) (eq_of_beq h5) (by decide)) dX5_kin_83 ?_
  refine v_deref (fun a6 e7 => ?_)
  refine v_chk (fun h8 => ?_)
  refine v_hget C.1 (v := va_rf (hR u3 a6 3)) 1 3 (eq_of_beq h8) (by decide) rfl in_X2 (by decide) (Or.inr ⟨_, q210⟩) (fun _ h => h) (hF_r (ci := 1) (eq_of_beq h8) (by decide)) dX5_kin_86 ?_
  refine v_deref (fun a9 e10 => ?_)
  refine v_iload_n C.1.1 1 rfl rfl dX5_kin_89 ?_
  refine v_dup2 C.1.1 rfl rfl dX5_kin_90 ?_
  refine v_chk (fun h11 => ?_)
  refine v_haiald C.1 h11 dX5_kin_91 ?_
  refine v_iconst C.1.1 1 (by decide) dX5_kin_92 ?_
  refine v_iload_n C.1.1 2 rfl rfl dX5_kin_93 ?_
  refine v_ishl C.1.1 dX5_kin_94 ?_
  refine v_ior C.1.1 dX5_kin_95 ?_
  refine v_chk (fun h13 => ?_)
  refine v_haiast C.1 h13 dX5_kin_96 (fun u12 => ?_)
  refine v_aload_n C.1.1 0 rfl rfl dX5_kin_97 ?_
  refine v_chk (fun h14 => ?_)
  refine v_hget C.1 (v := va_rf (hR u12 p0 1)) 4 1 (eq_of_beq h14) (by decide) rfl in_X5 (by decide) (Or.inl q848) (fun _ h => h) (hF_r (ci := 4) (eq_of_beq h14) (by decide)) dX5_kin_98 ?_
  refine v_deref (fun a15 e16 => ?_)
  refine v_chk (fun h17 => ?_)
  refine v_hget C.1 (v := va_rf (hR u12 a15 3)) 1 3 (eq_of_beq h17) (by decide) rfl in_X2 (by decide) (Or.inr ⟨_, q210⟩) (fun _ h => h) (hF_r (ci := 1) (eq_of_beq h17) (by decide)) dX5_kin_101 ?_
  refine v_deref (fun a18 e19 => ?_)
  refine v_iload_n C.1.1 2 rfl rfl dX5_kin_104 ?_
  refine v_dup2 C.1.1 rfl rfl dX5_kin_105 ?_
  refine v_chk (fun h20 => ?_)
  refine v_haiald C.1 h20 dX5_kin_106 ?_
  refine v_iconst C.1.1 1 (by decide) dX5_kin_107 ?_
  refine v_iload_n C.1.1 1 rfl rfl dX5_kin_108 ?_
  refine v_ishl C.1.1 dX5_kin_109 ?_
  refine v_ior C.1.1 dX5_kin_110 ?_
  refine v_chk (fun h22 => ?_)
  refine v_haiast C.1 h22 dX5_kin_111 (fun u21 => ?_)
  refine v_aload_n C.1.1 0 rfl rfl dX5_kin_112 ?_
  refine v_dup C.1.1 rfl dX5_kin_113 ?_
  refine v_chk (fun h23 => ?_)
  refine v_hget C.1 (v := .int (hI u21 p0 9)) 4 9 (eq_of_beq h23) (by decide) rfl in_X5 (by decide) (Or.inl q858) (fun _ h => h) (hF_i (ci := 4) (eq_of_beq h23) (by decide)) dX5_kin_114 ?_
  refine v_iconst C.1.1 1 (by decide) dX5_kin_117 ?_
  refine v_iadd C.1.1 dX5_kin_118 ?_
  refine v_chk (fun h24 => ?_)
  refine v_hputI C.1 4 9 (eq_of_beq h24) (by decide) rfl in_X5 tyX5 tyX5_ok nmX5 (by decide) (by decide) q858 (fun _ h => h) (Or.inl rfl) ⟨rfl, rfl⟩ dX5_kin_119 (fun u25 => ?_)
  exact v_xvret C.1 dX5_kin_122
def hX5_kin_15 (p0 : Nat) (s0 : Nat) (s1 : Int32) (u : HS) : Option (OH (PX Unit)) :=
  mchk (hC u s0 == 5) <|
  hx (hX5_want s0 s1 2 u) fun _ u1 =>
  mchk (hC u1 p0 == 5) <|
  hb (hX5_next p0 u1) fun _ u3 =>
  mchk (hC u3 p0 == 5) <|
  mderef (hR u3 p0 1) fun a6 =>
  mchk (hC u3 a6 == 2) <|
  hb (hX2_people a6 u3) fun r9 u8 =>
  mchk (hC u8 p0 == 5) <|
  hx (hX5_one p0 r9 u8) fun r12 u11 =>
  mchk (hC u11 p0 == 5) <|
  mderef (hR u11 p0 1) fun a15 =>
  mchk (hC u11 a15 == 2) <|
  hb (hX2_people a15 u11) fun r18 u17 =>
  mchk (hC u17 p0 == 5) <|
  hx (hX5_oneNow p0 r18 u17) fun r21 u20 =>
  if r12 = r21 then
    hX5_kin_74 p0 r12 r21 p0 0 u20
  else
    mchk (hC u20 p0 == 5) <|
    mderef (hR u20 p0 1) fun a24 =>
    mchk (hC u20 a24 == 2) <|
    mderef (hR u20 a24 3) fun a27 =>
    mchk (inA u20 r12 a27 21) <|
    hb (hX1_isOf (hA u20 a27 r12.toNatClampNeg) r21 u20) fun r31 u30 =>
    if r31 = 0 then
      hX5_kin_74 p0 r12 r21 p0 1 u30
    else
      hX5_kin_74 p0 r12 r21 p0 0 u30
theorem whX5_kin_15 {K1 K2 : Nat} {p : Program} {e : Env} {s : State} {m : MethodId} {args : Array Value} {below : List Frame} {meth : Method} {c : Code} (hl0 : l.stackTraces = false) (C : CxX t G l p s m args meth c yX5_kin cX5_kin 3 none) (p0 : Nat) (s0 : Nat) (s1 : Int32) (u : HS) : VX mkU t G p l e 12 K1 K2 s m args below meth c 3 15 [(0, .ref p0)] [.int s1, .ref s0] u (hX5_kin_15 p0 s0 s1 u) := by
  unfold hX5_kin_15
  refine v_iconst C.1.1 2 (by decide) dX5_kin_15 ?_
  refine v_chk (fun h2 => ?_)
  refine v_callVX C [.int s1, .int 2] [] (ctX5_want t G l hl0 s0 s1 2 u) (fun _ _ => cwX5_want C.1 q1008 (by decide)) (recO C.1 (ci := 4) (eq_of_beq h2) (by decide) rfl) rfl rfl (by exact Nat.le_of_ble_eq_true rfl) dX5_kin_16 (fun _ u1 => ?_)
  refine v_aload_n C.1.1 0 rfl rfl dX5_kin_19 ?_
  refine v_chk (fun h4 => ?_)
  refine v_callVH C.1 [] [] (ctX5_next t G l hl0 p0 u1) (fun _ _ => cwX5_next C.1 q890 (by decide)) (recO C.1 (ci := 4) (eq_of_beq h4) (by decide) rfl) rfl rfl (by exact Nat.le_of_ble_eq_true rfl) dX5_kin_20 (fun _ u3 => ?_)
  refine v_aload_n C.1.1 0 rfl rfl dX5_kin_23 ?_
  refine v_aload_n C.1.1 0 rfl rfl dX5_kin_24 ?_
  refine v_chk (fun h5 => ?_)
  refine v_hget C.1 (v := va_rf (hR u3 p0 1)) 4 1 (eq_of_beq h5) (by decide) rfl in_X5 (by decide) (Or.inl q848) (fun _ h => h) (hF_r (ci := 4) (eq_of_beq h5) (by decide)) dX5_kin_25 ?_
  refine v_deref (fun a6 e7 => ?_)
  refine v_chk (fun h10 => ?_)
  refine v_callVH C.1 [] [.ref p0] (ctX2_people t G l hl0 a6 u3) (fun _ _ => cwX2_people C.1 q1107 (by decide)) (recO C.1 (ci := 1) (eq_of_beq h10) (by decide) rfl) rfl rfl (by exact Nat.le_of_ble_eq_true rfl) dX5_kin_28 (fun r9 u8 => ?_)
  refine v_chk (fun h13 => ?_)
  refine v_callVX C [.int r9] [] (ctX5_one t G l hl0 p0 r9 u8) (fun _ _ => cwX5_one C.1 q1062 (by decide)) (recO C.1 (ci := 4) (eq_of_beq h13) (by decide) rfl) rfl rfl (by exact Nat.le_of_ble_eq_true rfl) dX5_kin_31 (fun r12 u11 => ?_)
  refine v_istore_n C.1.1 [(1, .int r12), (0, .ref p0)] rfl (by decide) rfl dX5_kin_34 ?_
  refine v_aload_n C.1.1 1 rfl rfl dX5_kin_35 ?_
  refine v_aload_n C.1.1 1 rfl rfl dX5_kin_36 ?_
  refine v_chk (fun h14 => ?_)
  refine v_hget C.1 (v := va_rf (hR u11 p0 1)) 4 1 (eq_of_beq h14) (by decide) rfl in_X5 (by decide) (Or.inl q848) (fun _ h => h) (hF_r (ci := 4) (eq_of_beq h14) (by decide)) dX5_kin_37 ?_
  refine v_deref (fun a15 e16 => ?_)
  refine v_chk (fun h19 => ?_)
  refine v_callVH C.1 [] [.ref p0] (ctX2_people t G l hl0 a15 u11) (fun _ _ => cwX2_people C.1 q1107 (by decide)) (recO C.1 (ci := 1) (eq_of_beq h19) (by decide) rfl) rfl rfl (by exact Nat.le_of_ble_eq_true rfl) dX5_kin_40 (fun r18 u17 => ?_)
  refine v_chk (fun h22 => ?_)
  refine v_callVX C [.int r18] [] (ctX5_oneNow t G l hl0 p0 r18 u17) (fun _ _ => cwX5_oneNow C.1 q1066 (by decide)) (recO C.1 (ci := 4) (eq_of_beq h22) (by decide) rfl) rfl rfl (by exact Nat.le_of_ble_eq_true rfl) dX5_kin_43 (fun r21 u20 => ?_)
  refine v_istore_n C.1.1 [(2, .int r21), (1, .int r12), (0, .ref p0)] rfl (by decide) rfl dX5_kin_46 ?_
  refine v_aload_n C.1.1 2 rfl rfl dX5_kin_47 ?_
  refine v_iload_n C.1.1 1 rfl rfl dX5_kin_48 ?_
  refine v_iload_n C.1.1 0 rfl rfl dX5_kin_49 ?_
  refine v_icmp_eq C.1.1 73 (by decide) dX5_kin_50 (fun _ => ?_) (fun _ => ?_)
  · refine v_iconst C.1.1 0 (by decide) dX5_kin_73 ?_
    refine v_sub [2, 1, 0] rfl ?_
    exact whX5_kin_74 hl0 C p0 r12 r21 p0 0 u20
  · refine v_aload_n C.1.1 2 rfl rfl dX5_kin_53 ?_
    refine v_chk (fun h23 => ?_)
    refine v_hget C.1 (v := va_rf (hR u20 p0 1)) 4 1 (eq_of_beq h23) (by decide) rfl in_X5 (by decide) (Or.inl q848) (fun _ h => h) (hF_r (ci := 4) (eq_of_beq h23) (by decide)) dX5_kin_54 ?_
    refine v_deref (fun a24 e25 => ?_)
    refine v_chk (fun h26 => ?_)
    refine v_hget C.1 (v := va_rf (hR u20 a24 3)) 1 3 (eq_of_beq h26) (by decide) rfl in_X2 (by decide) (Or.inr ⟨_, q210⟩) (fun _ h => h) (hF_r (ci := 1) (eq_of_beq h26) (by decide)) dX5_kin_57 ?_
    refine v_deref (fun a27 e28 => ?_)
    refine v_iload_n C.1.1 1 rfl rfl dX5_kin_60 ?_
    refine v_chk (fun h29 => ?_)
    refine v_haiald C.1 h29 dX5_kin_61 ?_
    refine v_iload_n C.1.1 0 rfl rfl dX5_kin_62 ?_
    refine v_callSNH C.1 [.int (hA u20 a27 r12.toNatClampNeg), .int r21] [.ref p0] (ctX1_isOf t G l hl0 (hA u20 a27 r12.toNatClampNeg) r21 u20) (fun _ _ => cwX1_isOfN C.1 q1112 (by decide)) rfl rfl (by exact Nat.le_of_ble_eq_true rfl) dX5_kin_63 (fun r31 u30 => ?_)
    refine v_if_ne C.1.1 73 (by decide) dX5_kin_66 (fun _ => ?_) (fun _ => ?_)
    · refine v_iconst C.1.1 1 (by decide) dX5_kin_69 ?_
      refine v_goto C.1.1 74 (by decide) dX5_kin_70 ?_
      refine v_sub [2, 1, 0] rfl ?_
      exact whX5_kin_74 hl0 C p0 r12 r21 p0 1 u30
    · refine v_iconst C.1.1 0 (by decide) dX5_kin_73 ?_
      refine v_sub [2, 1, 0] rfl ?_
      exact whX5_kin_74 hl0 C p0 r12 r21 p0 0 u30
def hX5_kin (p0 : Nat) (u : HS) : Option (OH (PX Unit)) :=
  mchk (hC u p0 == 5) <|
  if 9 ≤ (hI u p0 9) then
    hX5_kin_15 p0 p0 0 u
  else
    hX5_kin_15 p0 p0 1 u
theorem ctX5_kin (t : TT) (G : GH) (l : Launch) (hl0 : l.stackTraces = false) (p0 : Nat) (u : HS) : CtX mkU t G l yX5_kin cX5_kin 3 none 12 [.ref p0] u (hX5_kin p0 u) := by
  refine ctX_of [(0, .ref p0)] hl0 rfl (Nat.le_of_ble_eq_true rfl) rfl (fun K1 K2 p e s m args below meth c C => ?_)
  unfold hX5_kin
  refine v_aload_n C.1.1 0 rfl rfl dX5_kin_0 ?_
  refine v_aload_n C.1.1 0 rfl rfl dX5_kin_1 ?_
  refine v_chk (fun h1 => ?_)
  refine v_hget C.1 (v := .int (hI u p0 9)) 4 9 (eq_of_beq h1) (by decide) rfl in_X5 (by decide) (Or.inl q858) (fun _ h => h) (hF_i (ci := 4) (eq_of_beq h1) (by decide)) dX5_kin_2 ?_
  refine v_bipush C.1.1 9 (by decide) dX5_kin_5 ?_
  refine v_icmp_ge C.1.1 14 (by decide) dX5_kin_7 (fun _ => ?_) (fun _ => ?_)
  · refine v_iconst C.1.1 0 (by decide) dX5_kin_14 ?_
    exact whX5_kin_15 hl0 C p0 p0 0 u
  · refine v_iconst C.1.1 1 (by decide) dX5_kin_10 ?_
    refine v_goto C.1.1 15 (by decide) dX5_kin_11 ?_
    exact whX5_kin_15 hl0 C p0 p0 1 u
theorem cwX5_kin {t : TT} {G : GH} {l : Launch} {p : Program} {s : State} {m : MethodId} {args : Array Value} {meth : Method} {c : Code} {y0 : MethodName} {cc0 : ByteArray} {nL0 : Nat} {ret0 : Option FieldType} (C : CxH t G l p s m args meth c y0 cc0 nL0 ret0) {index lv mc ms K1 K2 : Nat} (hq : Cond.methodLink y0.cls index yX5_kin ∈ lw_all) (hR : 12 + 1 ≤ lv) : CallW (rmH lv K1 K2) s args y0.cls RX5 index yX5_kin cX5_kin 3 none (ws_ yX5_kin cX5_kin 3 none) (rmH 12 mc ms) mc ms 0 :=
  cwV 0 C.1.2.2.2.2.1 (lw_V hq q1110 qs27 q132 q1111) rfl rfl rfl (by decide +kernel) ⟨hR, by show 8 + (3 + 11) + 100 * 12 ≤ 100 * lv; omega⟩
def hX5_bond_79 (p0 : Nat) (p1 : Int32) (x2 : Int32) (x3 : Int32) (s0 : Nat) (s1 : Int32) (u : HS) : Option (OH (PX Unit)) :=
  mchk (hC u s0 == 5) <|
  hx (hX5_want s0 s1 4 u) fun _ u1 =>
  mchk (hC u1 p0 == 5) <|
  hb (hX5_next p0 u1) fun _ u3 =>
  if p1 = 0 then
    mchk (hC u3 p0 == 5) <|
    mderef (hR u3 p0 1) fun a6 =>
    mchk (hC u3 a6 == 2) <|
    mderef (hR u3 a6 5) fun a9 =>
    mchk (inA u3 x2 a9 21) <|
    mchk (inA u3 x2 a9 21) <|
    mlet (uA u3 a9 x2.toNatClampNeg ((hA u3 a9 x2.toNatClampNeg) ||| ((1 : Int32) <<< (x3 &&& 31)))) fun u12 =>
    mchk (hC u12 p0 == 5) <|
    mchk (hC u12 p0 == 5) <|
    mlet (uI u12 p0 10 ((hI u12 p0 10) + 1)) fun u16 =>
    hret (.inl ()) u16
  else
    mchk (hC u3 p0 == 5) <|
    mderef (hR u3 p0 1) fun a6 =>
    mchk (hC u3 a6 == 2) <|
    mderef (hR u3 a6 4) fun a9 =>
    mchk (inA u3 x2 a9 21) <|
    mchk (inA u3 x2 a9 21) <|
    mlet (uA u3 a9 x2.toNatClampNeg ((hA u3 a9 x2.toNatClampNeg) ||| ((1 : Int32) <<< (x3 &&& 31)))) fun u12 =>
    mchk (hC u12 p0 == 5) <|
    mderef (hR u12 p0 1) fun a15 =>
    mchk (hC u12 a15 == 2) <|
    mderef (hR u12 a15 6) fun a18 =>
    mchk (hC u12 a18 == 12) <|
    hb (hJ2_get a18 x2 u12) fun r21 u20 =>
    mchk (hC u20 r21 == 12) <|
    hb (hJ16_valueOf x3 u20) fun r25 u24 =>
    mchk (hC u24 r21 == 12) <|
    hb (hJ2_add r21 r25 u24) fun r27 u26 =>
    mchk (hC u26 p0 == 5) <|
    mchk (hC u26 p0 == 5) <|
    mlet (uI u26 p0 10 ((hI u26 p0 10) + 1)) fun u31 =>
    hret (.inl ()) u31
theorem whX5_bond_79 {K1 K2 : Nat} {p : Program} {e : Env} {s : State} {m : MethodId} {args : Array Value} {below : List Frame} {meth : Method} {c : Code} (hl0 : l.stackTraces = false) (C : CxX t G l p s m args meth c yX5_bond cX5_bond 4 none) (p0 : Nat) (p1 : Int32) (x2 : Int32) (x3 : Int32) (s0 : Nat) (s1 : Int32) (u : HS) : VX mkU t G p l e 12 K1 K2 s m args below meth c 4 79 [(0, .ref p0), (1, .int p1), (2, .int x2), (3, .int x3)] [.int s1, .ref s0] u (hX5_bond_79 p0 p1 x2 x3 s0 s1 u) := by
  unfold hX5_bond_79
  refine v_iconst C.1.1 4 (by decide) dX5_bond_79 ?_
  refine v_chk (fun h2 => ?_)
  refine v_callVX C [.int s1, .int 4] [] (ctX5_want t G l hl0 s0 s1 4 u) (fun _ _ => cwX5_want C.1 q1008 (by decide)) (recO C.1 (ci := 4) (eq_of_beq h2) (by decide) rfl) rfl rfl (by exact Nat.le_of_ble_eq_true rfl) dX5_bond_80 (fun _ u1 => ?_)
  refine v_aload_n C.1.1 0 rfl rfl dX5_bond_83 ?_
  refine v_chk (fun h4 => ?_)
  refine v_callVH C.1 [] [] (ctX5_next t G l hl0 p0 u1) (fun _ _ => cwX5_next C.1 q890 (by decide)) (recO C.1 (ci := 4) (eq_of_beq h4) (by decide) rfl) rfl rfl (by exact Nat.le_of_ble_eq_true rfl) dX5_bond_84 (fun _ u3 => ?_)
  refine v_iload_n C.1.1 1 rfl rfl dX5_bond_87 ?_
  refine v_if_eq C.1.1 135 (by decide) dX5_bond_88 (fun _ => ?_) (fun _ => ?_)
  · refine v_aload_n C.1.1 0 rfl rfl dX5_bond_135 ?_
    refine v_chk (fun h5 => ?_)
    refine v_hget C.1 (v := va_rf (hR u3 p0 1)) 4 1 (eq_of_beq h5) (by decide) rfl in_X5 (by decide) (Or.inl q848) (fun _ h => h) (hF_r (ci := 4) (eq_of_beq h5) (by decide)) dX5_bond_136 ?_
    refine v_deref (fun a6 e7 => ?_)
    refine v_chk (fun h8 => ?_)
    refine v_hget C.1 (v := va_rf (hR u3 a6 5)) 1 5 (eq_of_beq h8) (by decide) rfl in_X2 (by decide) (Or.inr ⟨_, q218⟩) (fun _ h => h) (hF_r (ci := 1) (eq_of_beq h8) (by decide)) dX5_bond_139 ?_
    refine v_deref (fun a9 e10 => ?_)
    refine v_iload_n C.1.1 2 rfl rfl dX5_bond_142 ?_
    refine v_dup2 C.1.1 rfl rfl dX5_bond_143 ?_
    refine v_chk (fun h11 => ?_)
    refine v_haiald C.1 h11 dX5_bond_144 ?_
    refine v_iconst C.1.1 1 (by decide) dX5_bond_145 ?_
    refine v_iload_n C.1.1 3 rfl rfl dX5_bond_146 ?_
    refine v_ishl C.1.1 dX5_bond_147 ?_
    refine v_ior C.1.1 dX5_bond_148 ?_
    refine v_chk (fun h13 => ?_)
    refine v_haiast C.1 h13 dX5_bond_149 (fun u12 => ?_)
    refine v_aload_n C.1.1 0 rfl rfl dX5_bond_150 ?_
    refine v_dup C.1.1 rfl dX5_bond_151 ?_
    refine v_chk (fun h14 => ?_)
    refine v_hget C.1 (v := .int (hI u12 p0 10)) 4 10 (eq_of_beq h14) (by decide) rfl in_X5 (by decide) (Or.inl q859) (fun _ h => h) (hF_i (ci := 4) (eq_of_beq h14) (by decide)) dX5_bond_152 ?_
    refine v_iconst C.1.1 1 (by decide) dX5_bond_155 ?_
    refine v_iadd C.1.1 dX5_bond_156 ?_
    refine v_chk (fun h15 => ?_)
    refine v_hputI C.1 4 10 (eq_of_beq h15) (by decide) rfl in_X5 tyX5 tyX5_ok nmX5 (by decide) (by decide) q859 (fun _ h => h) (Or.inl rfl) ⟨rfl, rfl⟩ dX5_bond_157 (fun u16 => ?_)
    exact v_xvret C.1 dX5_bond_160
  · refine v_aload_n C.1.1 0 rfl rfl dX5_bond_91 ?_
    refine v_chk (fun h5 => ?_)
    refine v_hget C.1 (v := va_rf (hR u3 p0 1)) 4 1 (eq_of_beq h5) (by decide) rfl in_X5 (by decide) (Or.inl q848) (fun _ h => h) (hF_r (ci := 4) (eq_of_beq h5) (by decide)) dX5_bond_92 ?_
    refine v_deref (fun a6 e7 => ?_)
    refine v_chk (fun h8 => ?_)
    refine v_hget C.1 (v := va_rf (hR u3 a6 4)) 1 4 (eq_of_beq h8) (by decide) rfl in_X2 (by decide) (Or.inr ⟨_, q214⟩) (fun _ h => h) (hF_r (ci := 1) (eq_of_beq h8) (by decide)) dX5_bond_95 ?_
    refine v_deref (fun a9 e10 => ?_)
    refine v_iload_n C.1.1 2 rfl rfl dX5_bond_98 ?_
    refine v_dup2 C.1.1 rfl rfl dX5_bond_99 ?_
    refine v_chk (fun h11 => ?_)
    refine v_haiald C.1 h11 dX5_bond_100 ?_
    refine v_iconst C.1.1 1 (by decide) dX5_bond_101 ?_
    refine v_iload_n C.1.1 3 rfl rfl dX5_bond_102 ?_
    refine v_ishl C.1.1 dX5_bond_103 ?_
    refine v_ior C.1.1 dX5_bond_104 ?_
    refine v_chk (fun h13 => ?_)
    refine v_haiast C.1 h13 dX5_bond_105 (fun u12 => ?_)
    refine v_aload_n C.1.1 0 rfl rfl dX5_bond_106 ?_
    refine v_chk (fun h14 => ?_)
    refine v_hget C.1 (v := va_rf (hR u12 p0 1)) 4 1 (eq_of_beq h14) (by decide) rfl in_X5 (by decide) (Or.inl q848) (fun _ h => h) (hF_r (ci := 4) (eq_of_beq h14) (by decide)) dX5_bond_107 ?_
    refine v_deref (fun a15 e16 => ?_)
    refine v_chk (fun h17 => ?_)
    refine v_hget C.1 (v := va_rf (hR u12 a15 6)) 1 6 (eq_of_beq h17) (by decide) rfl in_X2 (by decide) (Or.inr ⟨_, q220⟩) (fun _ h => h) (hF_r (ci := 1) (eq_of_beq h17) (by decide)) dX5_bond_110 ?_
    refine v_deref (fun a18 e19 => ?_)
    refine v_iload_n C.1.1 2 rfl rfl dX5_bond_113 ?_
    refine v_chk (fun h22 => ?_)
    refine v_callFH C.1 [.int x2] [] (ctJ2_get t G l hl0 a18 x2 u12) (fun _ _ => cwJ2_getF C.1 q1118 (by decide)) (eq_of_beq h22) (by decide) rfl rfl rfl (by exact Nat.le_of_ble_eq_true rfl) dX5_bond_114 (fun r21 u20 => ?_)
    refine v_chk (fun h23 => ?_)
    refine v_hcastY C.1 11 (eq_of_beq h23) (by decide) rfl q1119 q387 dX5_bond_119 ?_
    refine v_iload_n C.1.1 3 rfl rfl dX5_bond_122 ?_
    refine v_callSH C.1 [.int x3] [.ref r21] (ctJ16_valueOf t G l hl0 x3 u20) (fun _ _ => cwJ16_valueOf C.1 q1056 (by decide)) rfl rfl (by exact Nat.le_of_ble_eq_true rfl) dX5_bond_123 (fun r25 u24 => ?_)
    refine v_chk (fun h28 => ?_)
    refine v_callFH C.1 [.ref r25] [] (ctJ2_add t G l hl0 r21 r25 u24) (fun _ _ => cwJ2_addF C.1 q1047 (by decide)) (eq_of_beq h28) (by decide) rfl rfl rfl (by exact Nat.le_of_ble_eq_true rfl) dX5_bond_126 (fun r27 u26 => ?_)
    refine v_pop C.1.1 rfl dX5_bond_131 ?_
    refine v_goto C.1.1 150 (by decide) dX5_bond_132 ?_
    refine v_aload_n C.1.1 0 rfl rfl dX5_bond_150 ?_
    refine v_dup C.1.1 rfl dX5_bond_151 ?_
    refine v_chk (fun h29 => ?_)
    refine v_hget C.1 (v := .int (hI u26 p0 10)) 4 10 (eq_of_beq h29) (by decide) rfl in_X5 (by decide) (Or.inl q859) (fun _ h => h) (hF_i (ci := 4) (eq_of_beq h29) (by decide)) dX5_bond_152 ?_
    refine v_iconst C.1.1 1 (by decide) dX5_bond_155 ?_
    refine v_iadd C.1.1 dX5_bond_156 ?_
    refine v_chk (fun h30 => ?_)
    refine v_hputI C.1 4 10 (eq_of_beq h30) (by decide) rfl in_X5 tyX5 tyX5_ok nmX5 (by decide) (by decide) q859 (fun _ h => h) (Or.inl rfl) ⟨rfl, rfl⟩ dX5_bond_157 (fun u31 => ?_)
    exact v_xvret C.1 dX5_bond_160
def hX5_bond_15 (p0 : Nat) (p1 : Int32) (s0 : Nat) (s1 : Int32) (u : HS) : Option (OH (PX Unit)) :=
  mchk (hC u s0 == 5) <|
  hx (hX5_want s0 s1 2 u) fun _ u1 =>
  mchk (hC u1 p0 == 5) <|
  hb (hX5_next p0 u1) fun _ u3 =>
  mchk (hC u3 p0 == 5) <|
  mderef (hR u3 p0 1) fun a6 =>
  mchk (hC u3 a6 == 2) <|
  mchk (hC u3 p0 == 5) <|
  hx (hX5_one p0 (hI u3 a6 7) u3) fun r10 u9 =>
  mchk (hC u9 p0 == 5) <|
  mderef (hR u9 p0 1) fun a13 =>
  mchk (hC u9 a13 == 2) <|
  hb (hX2_people a13 u9) fun r16 u15 =>
  mchk (hC u15 p0 == 5) <|
  hx (hX5_oneNow p0 r16 u15) fun r19 u18 =>
  mchk (hC u18 p0 == 5) <|
  mderef (hR u18 p0 1) fun a22 =>
  mchk (hC u18 a22 == 2) <|
  mderef (hR u18 a22 4) fun a25 =>
  mchk (inA u18 r10 a25 21) <|
  mchk (hC u18 p0 == 5) <|
  mderef (hR u18 p0 1) fun a29 =>
  mchk (hC u18 a29 == 2) <|
  mderef (hR u18 a29 5) fun a32 =>
  mchk (inA u18 r10 a32 21) <|
  hb (hX1_isOf ((hA u18 a25 r10.toNatClampNeg) ||| (hA u18 a32 r10.toNatClampNeg)) r19 u18) fun r36 u35 =>
  if r36 = 0 then
    hX5_bond_79 p0 p1 r10 r19 p0 1 u35
  else
    hX5_bond_79 p0 p1 r10 r19 p0 0 u35
theorem whX5_bond_15 {K1 K2 : Nat} {p : Program} {e : Env} {s : State} {m : MethodId} {args : Array Value} {below : List Frame} {meth : Method} {c : Code} (hl0 : l.stackTraces = false) (C : CxX t G l p s m args meth c yX5_bond cX5_bond 4 none) (p0 : Nat) (p1 : Int32) (s0 : Nat) (s1 : Int32) (u : HS) : VX mkU t G p l e 12 K1 K2 s m args below meth c 4 15 [(0, .ref p0), (1, .int p1)] [.int s1, .ref s0] u (hX5_bond_15 p0 p1 s0 s1 u) := by
  unfold hX5_bond_15
  refine v_iconst C.1.1 2 (by decide) dX5_bond_15 ?_
  refine v_chk (fun h2 => ?_)
  refine v_callVX C [.int s1, .int 2] [] (ctX5_want t G l hl0 s0 s1 2 u) (fun _ _ => cwX5_want C.1 q1008 (by decide)) (recO C.1 (ci := 4) (eq_of_beq h2) (by decide) rfl) rfl rfl (by exact Nat.le_of_ble_eq_true rfl) dX5_bond_16 (fun _ u1 => ?_)
  refine v_aload_n C.1.1 0 rfl rfl dX5_bond_19 ?_
  refine v_chk (fun h4 => ?_)
  refine v_callVH C.1 [] [] (ctX5_next t G l hl0 p0 u1) (fun _ _ => cwX5_next C.1 q890 (by decide)) (recO C.1 (ci := 4) (eq_of_beq h4) (by decide) rfl) rfl rfl (by exact Nat.le_of_ble_eq_true rfl) dX5_bond_20 (fun _ u3 => ?_)
  refine v_aload_n C.1.1 0 rfl rfl dX5_bond_23 ?_
  refine v_aload_n C.1.1 0 rfl rfl dX5_bond_24 ?_
  refine v_chk (fun h5 => ?_)
  refine v_hget C.1 (v := va_rf (hR u3 p0 1)) 4 1 (eq_of_beq h5) (by decide) rfl in_X5 (by decide) (Or.inl q848) (fun _ h => h) (hF_r (ci := 4) (eq_of_beq h5) (by decide)) dX5_bond_25 ?_
  refine v_deref (fun a6 e7 => ?_)
  refine v_chk (fun h8 => ?_)
  refine v_hget C.1 (v := .int (hI u3 a6 7)) 1 7 (eq_of_beq h8) (by decide) rfl in_X2 (by decide) (Or.inr ⟨_, q224⟩) (fun _ h => h) (hF_i (ci := 1) (eq_of_beq h8) (by decide)) dX5_bond_28 ?_
  refine v_chk (fun h11 => ?_)
  refine v_callVX C [.int (hI u3 a6 7)] [] (ctX5_one t G l hl0 p0 (hI u3 a6 7) u3) (fun _ _ => cwX5_one C.1 q1062 (by decide)) (recO C.1 (ci := 4) (eq_of_beq h11) (by decide) rfl) rfl rfl (by exact Nat.le_of_ble_eq_true rfl) dX5_bond_31 (fun r10 u9 => ?_)
  refine v_istore_n C.1.1 [(2, .int r10), (0, .ref p0), (1, .int p1)] rfl (by decide) rfl dX5_bond_34 ?_
  refine v_aload_n C.1.1 1 rfl rfl dX5_bond_35 ?_
  refine v_aload_n C.1.1 1 rfl rfl dX5_bond_36 ?_
  refine v_chk (fun h12 => ?_)
  refine v_hget C.1 (v := va_rf (hR u9 p0 1)) 4 1 (eq_of_beq h12) (by decide) rfl in_X5 (by decide) (Or.inl q848) (fun _ h => h) (hF_r (ci := 4) (eq_of_beq h12) (by decide)) dX5_bond_37 ?_
  refine v_deref (fun a13 e14 => ?_)
  refine v_chk (fun h17 => ?_)
  refine v_callVH C.1 [] [.ref p0] (ctX2_people t G l hl0 a13 u9) (fun _ _ => cwX2_people C.1 q1107 (by decide)) (recO C.1 (ci := 1) (eq_of_beq h17) (by decide) rfl) rfl rfl (by exact Nat.le_of_ble_eq_true rfl) dX5_bond_40 (fun r16 u15 => ?_)
  refine v_chk (fun h20 => ?_)
  refine v_callVX C [.int r16] [] (ctX5_oneNow t G l hl0 p0 r16 u15) (fun _ _ => cwX5_oneNow C.1 q1066 (by decide)) (recO C.1 (ci := 4) (eq_of_beq h20) (by decide) rfl) rfl rfl (by exact Nat.le_of_ble_eq_true rfl) dX5_bond_43 (fun r19 u18 => ?_)
  refine v_istore_n C.1.1 [(3, .int r19), (2, .int r10), (0, .ref p0), (1, .int p1)] rfl (by decide) rfl dX5_bond_46 ?_
  refine v_aload_n C.1.1 2 rfl rfl dX5_bond_47 ?_
  refine v_aload_n C.1.1 2 rfl rfl dX5_bond_48 ?_
  refine v_chk (fun h21 => ?_)
  refine v_hget C.1 (v := va_rf (hR u18 p0 1)) 4 1 (eq_of_beq h21) (by decide) rfl in_X5 (by decide) (Or.inl q848) (fun _ h => h) (hF_r (ci := 4) (eq_of_beq h21) (by decide)) dX5_bond_49 ?_
  refine v_deref (fun a22 e23 => ?_)
  refine v_chk (fun h24 => ?_)
  refine v_hget C.1 (v := va_rf (hR u18 a22 4)) 1 4 (eq_of_beq h24) (by decide) rfl in_X2 (by decide) (Or.inr ⟨_, q214⟩) (fun _ h => h) (hF_r (ci := 1) (eq_of_beq h24) (by decide)) dX5_bond_52 ?_
  refine v_deref (fun a25 e26 => ?_)
  refine v_iload_n C.1.1 1 rfl rfl dX5_bond_55 ?_
  refine v_chk (fun h27 => ?_)
  refine v_haiald C.1 h27 dX5_bond_56 ?_
  refine v_aload_n C.1.1 2 rfl rfl dX5_bond_57 ?_
  refine v_chk (fun h28 => ?_)
  refine v_hget C.1 (v := va_rf (hR u18 p0 1)) 4 1 (eq_of_beq h28) (by decide) rfl in_X5 (by decide) (Or.inl q848) (fun _ h => h) (hF_r (ci := 4) (eq_of_beq h28) (by decide)) dX5_bond_58 ?_
  refine v_deref (fun a29 e30 => ?_)
  refine v_chk (fun h31 => ?_)
  refine v_hget C.1 (v := va_rf (hR u18 a29 5)) 1 5 (eq_of_beq h31) (by decide) rfl in_X2 (by decide) (Or.inr ⟨_, q218⟩) (fun _ h => h) (hF_r (ci := 1) (eq_of_beq h31) (by decide)) dX5_bond_61 ?_
  refine v_deref (fun a32 e33 => ?_)
  refine v_iload_n C.1.1 1 rfl rfl dX5_bond_64 ?_
  refine v_chk (fun h34 => ?_)
  refine v_haiald C.1 h34 dX5_bond_65 ?_
  refine v_ior C.1.1 dX5_bond_66 ?_
  refine v_iload_n C.1.1 0 rfl rfl dX5_bond_67 ?_
  refine v_callSNH C.1 [.int ((hA u18 a25 r10.toNatClampNeg) ||| (hA u18 a32 r10.toNatClampNeg)), .int r19] [.ref p0] (ctX1_isOf t G l hl0 ((hA u18 a25 r10.toNatClampNeg) ||| (hA u18 a32 r10.toNatClampNeg)) r19 u18) (fun _ _ => cwX1_isOfN C.1 q1112 (by decide)) rfl rfl (by exact Nat.le_of_ble_eq_true rfl) dX5_bond_68 (fun r36 u35 => ?_)
  refine v_if_ne C.1.1 78 (by decide) dX5_bond_71 (fun _ => ?_) (fun _ => ?_)
  · refine v_iconst C.1.1 1 (by decide) dX5_bond_74 ?_
    refine v_goto C.1.1 79 (by decide) dX5_bond_75 ?_
    refine v_sub [2, 3, 1, 0] rfl ?_
    exact whX5_bond_79 hl0 C p0 p1 r10 r19 p0 1 u35
  · refine v_iconst C.1.1 0 (by decide) dX5_bond_78 ?_
    refine v_sub [2, 3, 1, 0] rfl ?_
    exact whX5_bond_79 hl0 C p0 p1 r10 r19 p0 0 u35
def hX5_bond (p0 : Nat) (p1 : Int32) (u : HS) : Option (OH (PX Unit)) :=
  mchk (hC u p0 == 5) <|
  if 12 ≤ (hI u p0 10) then
    hX5_bond_15 p0 p1 p0 0 u
  else
    hX5_bond_15 p0 p1 p0 1 u
theorem ctX5_bond (t : TT) (G : GH) (l : Launch) (hl0 : l.stackTraces = false) (p0 : Nat) (p1 : Int32) (u : HS) : CtX mkU t G l yX5_bond cX5_bond 4 none 12 [.ref p0, .int p1] u (hX5_bond p0 p1 u) := by
  refine ctX_of [(0, .ref p0), (1, .int p1)] hl0 rfl (Nat.le_of_ble_eq_true rfl) rfl (fun K1 K2 p e s m args below meth c C => ?_)
  unfold hX5_bond
  refine v_aload_n C.1.1 0 rfl rfl dX5_bond_0 ?_
  refine v_aload_n C.1.1 0 rfl rfl dX5_bond_1 ?_
  refine v_chk (fun h1 => ?_)
  refine v_hget C.1 (v := .int (hI u p0 10)) 4 10 (eq_of_beq h1) (by decide) rfl in_X5 (by decide) (Or.inl q859) (fun _ h => h) (hF_i (ci := 4) (eq_of_beq h1) (by decide)) dX5_bond_2 ?_
  refine v_bipush C.1.1 12 (by decide) dX5_bond_5 ?_
  refine v_icmp_ge C.1.1 14 (by decide) dX5_bond_7 (fun _ => ?_) (fun _ => ?_)
  · refine v_iconst C.1.1 0 (by decide) dX5_bond_14 ?_
    exact whX5_bond_15 hl0 C p0 p1 p0 0 u
  · refine v_iconst C.1.1 1 (by decide) dX5_bond_10 ?_
    refine v_goto C.1.1 15 (by decide) dX5_bond_11 ?_
    exact whX5_bond_15 hl0 C p0 p1 p0 1 u
theorem cwX5_bond {t : TT} {G : GH} {l : Launch} {p : Program} {s : State} {m : MethodId} {args : Array Value} {meth : Method} {c : Code} {y0 : MethodName} {cc0 : ByteArray} {nL0 : Nat} {ret0 : Option FieldType} (C : CxH t G l p s m args meth c y0 cc0 nL0 ret0) {index lv mc ms K1 K2 : Nat} (hq : Cond.methodLink y0.cls index yX5_bond ∈ lw_all) (hR : 12 + 1 ≤ lv) : CallW (rmH lv K1 K2) s args y0.cls RX5 index yX5_bond cX5_bond 4 none (ws_ yX5_bond cX5_bond 4 none) (rmH 12 mc ms) mc ms 1 :=
  cwV 1 C.1.2.2.2.2.1 (lw_V hq q1115 qs28 q132 q1116) rfl rfl rfl (by decide +kernel) ⟨hR, by show 8 + (4 + 11) + 100 * 12 ≤ 100 * lv; omega⟩
end
