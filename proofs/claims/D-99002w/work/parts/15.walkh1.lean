/-! walks in mode H, printed by tools/genh.py -/
set_option maxRecDepth 100000
section
variable {t : TT} {G : GH} {l : Launch}
theorem xw_IAE : ∀ w ∈ vx_at0 RX1 9 "java/lang/IllegalArgumentException" exChain, w ∈ lw_tbl ∧ (goodWord w || nestWord w) = true := by decide +kernel
theorem xw_NSE : ∀ w ∈ vx_at0 RX1 3 "java/util/NoSuchElementException" exChain, w ∈ lw_tbl ∧ (goodWord w || nestWord w) = true := by decide +kernel
def hX4_init (p0 : Nat) (u : HS) : Option (OH Unit) :=
  mchk (hC u p0 == 4) <|
  mlet (uI u p0 7 (-1)) fun u2 =>
  mlet (hZ u2) fun a3 =>
  addc 1 (8) <|
  mlet (nA u2 1 (8)) fun u5 =>
  mchk (hC u5 p0 == 4) <|
  mlet (uR u5 p0 8 (some a3)) fun u7 =>
  mlet (hZ u7) fun a8 =>
  addc 1 (12) <|
  mlet (nA u7 1 (12)) fun u10 =>
  mchk (hC u10 p0 == 4) <|
  mlet (uR u10 p0 9 (some a8)) fun u12 =>
  mlet (hZ u12) fun a13 =>
  addc 1 (12) <|
  mlet (nA u12 1 (12)) fun u15 =>
  mchk (hC u15 p0 == 4) <|
  mlet (uR u15 p0 10 (some a13)) fun u17 =>
  mlet (hZ u17) fun a18 =>
  addc 1 (12) <|
  mlet (nA u17 1 (12)) fun u20 =>
  mchk (hC u20 p0 == 4) <|
  mlet (uR u20 p0 11 (some a18)) fun u22 =>
  mlet (hZ u22) fun a23 =>
  addc 1 (9) <|
  mlet (nA u22 1 (9)) fun u25 =>
  mchk (hC u25 p0 == 4) <|
  mlet (uR u25 p0 12 (some a23)) fun u27 =>
  mlet (hZ u27) fun a28 =>
  addc 1 (9) <|
  mlet (nA u27 1 (9)) fun u30 =>
  mchk (hC u30 p0 == 4) <|
  mlet (uR u30 p0 13 (some a28)) fun u32 =>
  mlet (hZ u32) fun a33 =>
  addc 1 (12) <|
  mlet (nA u32 1 (12)) fun u35 =>
  mchk (hC u35 p0 == 4) <|
  mlet (uR u35 p0 14 (some a33)) fun u37 =>
  mlet (hZ u37) fun a38 =>
  addc 1 (12) <|
  mlet (nA u37 1 (12)) fun u40 =>
  mchk (hC u40 p0 == 4) <|
  mlet (uR u40 p0 15 (some a38)) fun u42 =>
  mlet (hZ u42) fun a43 =>
  addc 1 (12) <|
  mlet (nA u42 1 (12)) fun u45 =>
  mchk (hC u45 p0 == 4) <|
  mlet (uR u45 p0 16 (some a43)) fun u47 =>
  mlet (hZ u47) fun a48 =>
  addc 1 (1400) <|
  mlet (nA u47 1 (1400)) fun u50 =>
  mchk (hC u50 p0 == 4) <|
  mlet (uR u50 p0 17 (some a48)) fun u52 =>
  mlet (hZ u52) fun a53 =>
  addc 1 (700) <|
  mlet (nA u52 1 (700)) fun u55 =>
  mchk (hC u55 p0 == 4) <|
  mlet (uR u55 p0 18 (some a53)) fun u57 =>
  mchk (hC u57 p0 == 4) <|
  mlet (uI u57 p0 21 (-1)) fun u59 =>
  mlet (hZ u59) fun a60 =>
  addc 1 (3) <|
  mlet (nA u59 1 (3)) fun u62 =>
  mchk (hC u62 p0 == 4) <|
  mlet (uR u62 p0 22 (some a60)) fun u64 =>
  mlet (hZ u64) fun a65 =>
  addc 1 (8) <|
  mlet (nA u64 1 (8)) fun u67 =>
  mchk (hC u67 p0 == 4) <|
  mlet (uR u67 p0 41 (some a65)) fun u69 =>
  mlet (hZ u69) fun a70 =>
  addc 1 (12) <|
  mlet (nA u69 1 (12)) fun u72 =>
  mchk (hC u72 p0 == 4) <|
  mlet (uR u72 p0 42 (some a70)) fun u74 =>
  mlet (hZ u74) fun a75 =>
  addc 1 (12) <|
  mlet (nA u74 1 (12)) fun u77 =>
  mchk (hC u77 p0 == 4) <|
  mlet (uR u77 p0 43 (some a75)) fun u79 =>
  mlet (hZ u79) fun a80 =>
  addc 1 (12) <|
  mlet (nA u79 1 (12)) fun u82 =>
  mchk (hC u82 p0 == 4) <|
  mlet (uR u82 p0 44 (some a80)) fun u84 =>
  mlet (hZ u84) fun a85 =>
  addc 1 (9) <|
  mlet (nA u84 1 (9)) fun u87 =>
  mchk (hC u87 p0 == 4) <|
  mlet (uR u87 p0 45 (some a85)) fun u89 =>
  mlet (hZ u89) fun a90 =>
  addc 1 (9) <|
  mlet (nA u89 1 (9)) fun u92 =>
  mchk (hC u92 p0 == 4) <|
  mlet (uR u92 p0 46 (some a90)) fun u94 =>
  mlet (hZ u94) fun a95 =>
  addc 1 (12) <|
  mlet (nA u94 1 (12)) fun u97 =>
  mchk (hC u97 p0 == 4) <|
  mlet (uR u97 p0 47 (some a95)) fun u99 =>
  mlet (hZ u99) fun a100 =>
  addc 1 (12) <|
  mlet (nA u99 1 (12)) fun u102 =>
  mchk (hC u102 p0 == 4) <|
  mlet (uR u102 p0 48 (some a100)) fun u104 =>
  mlet (hZ u104) fun a105 =>
  addc 1 (12) <|
  mlet (nA u104 1 (12)) fun u107 =>
  mchk (hC u107 p0 == 4) <|
  mlet (uR u107 p0 49 (some a105)) fun u109 =>
  mlet (hZ u109) fun a110 =>
  addc 1 (34) <|
  mlet (nA u109 1 (34)) fun u112 =>
  mchk (hC u112 p0 == 4) <|
  mlet (uR u112 p0 50 (some a110)) fun u114 =>
  mlet (hZ u114) fun a115 =>
  addc 1 (1400) <|
  mlet (nA u114 1 (1400)) fun u117 =>
  mchk (hC u117 p0 == 4) <|
  mlet (uR u117 p0 51 (some a115)) fun u119 =>
  mlet (hZ u119) fun a120 =>
  addc 1 (950) <|
  mlet (nA u119 1 (950)) fun u122 =>
  mchk (hC u122 p0 == 4) <|
  mlet (uR u122 p0 52 (some a120)) fun u124 =>
  mlet (hZ u124) fun a125 =>
  addc 1 (9) <|
  mlet (nA u124 2 (9)) fun u127 =>
  mchk (hC u127 p0 == 4) <|
  mlet (uR u127 p0 53 (some a125)) fun u129 =>
  mlet (hZ u129) fun a130 =>
  addc 1 (34) <|
  mlet (nA u129 1 (34)) fun u132 =>
  mchk (hC u132 p0 == 4) <|
  mlet (uR u132 p0 54 (some a130)) fun u134 =>
  mlet (hZ u134) fun a135 =>
  addc 1 (1360) <|
  mlet (nA u134 1 (1360)) fun u137 =>
  mchk (hC u137 p0 == 4) <|
  mlet (uR u137 p0 55 (some a135)) fun u139 =>
  mlet (hZ u139) fun a140 =>
  addc 1 (8) <|
  mlet (nA u139 1 (8)) fun u142 =>
  mchk (hC u142 p0 == 4) <|
  mlet (uR u142 p0 57 (some a140)) fun u144 =>
  mlet (hZ u144) fun a145 =>
  addc 1 (950) <|
  mlet (nA u144 1 (950)) fun u147 =>
  mchk (hC u147 p0 == 4) <|
  mlet (uR u147 p0 58 (some a145)) fun u149 =>
  mlet (hZ u149) fun a150 =>
  addc 1 (3) <|
  mlet (nA u149 1 (3)) fun u152 =>
  mchk (hC u152 p0 == 4) <|
  mlet (uR u152 p0 59 (some a150)) fun u154 =>
  mchk (hC u154 p0 == 4) <|
  mlet (uI u154 p0 61 (-1)) fun u156 =>
  mlet (hZ u156) fun a157 =>
  addc 1 (9) <|
  mlet (nA u156 1 (9)) fun u159 =>
  mchk (hC u159 p0 == 4) <|
  mlet (uR u159 p0 63 (some a157)) fun u161 =>
  mlet (hZ u161) fun a162 =>
  addc 1 (9) <|
  mlet (nA u161 1 (9)) fun u164 =>
  mchk (hC u164 p0 == 4) <|
  mlet (uR u164 p0 64 (some a162)) fun u166 =>
  mlet (hZ u166) fun a167 =>
  addc 1 (30) <|
  mlet (nA u166 1 (30)) fun u169 =>
  mchk (hC u169 p0 == 4) <|
  mlet (uR u169 p0 65 (some a167)) fun u171 =>
  mlet (hZ u171) fun a172 =>
  addc 1 (30) <|
  mlet (nA u171 1 (30)) fun u174 =>
  mchk (hC u174 p0 == 4) <|
  mlet (uR u174 p0 66 (some a172)) fun u176 =>
  mlet (hZ u176) fun a177 =>
  addc 1 (30) <|
  mlet (nA u176 1 (30)) fun u179 =>
  mchk (hC u179 p0 == 4) <|
  mlet (uR u179 p0 67 (some a177)) fun u181 =>
  mlet (hZ u181) fun a182 =>
  addc 1 (34) <|
  mlet (nA u181 1 (34)) fun u184 =>
  mchk (hC u184 p0 == 4) <|
  mlet (uR u184 p0 68 (some a182)) fun u186 =>
  mchk (hC u186 p0 == 4) <|
  mlet (uI u186 p0 69 (-1)) fun u188 =>
  mlet (hZ u188) fun a189 =>
  addc 1 (9) <|
  mlet (nA u188 1 (9)) fun u191 =>
  mchk (hC u191 p0 == 4) <|
  mlet (uR u191 p0 70 (some a189)) fun u193 =>
  mlet (hZ u193) fun a194 =>
  addc 1 (8) <|
  mlet (nA u193 2 (8)) fun u196 =>
  mchk (hC u196 p0 == 4) <|
  mlet (uR u196 p0 71 (some a194)) fun u198 =>
  mlet (hZ u198) fun a199 =>
  addc 1 (8) <|
  mlet (nA u198 2 (8)) fun u201 =>
  mchk (hC u201 p0 == 4) <|
  mlet (uR u201 p0 72 (some a199)) fun u203 =>
  mlet (hZ u203) fun a204 =>
  addc 1 (8) <|
  mlet (nA u203 1 (8)) fun u206 =>
  mchk (hC u206 p0 == 4) <|
  mlet (uR u206 p0 73 (some a204)) fun u208 =>
  mlet (hZ u208) fun a209 =>
  addc 1 (8) <|
  mlet (nA u208 1 (8)) fun u211 =>
  mchk (hC u211 p0 == 4) <|
  mlet (uR u211 p0 74 (some a209)) fun u213 =>
  mlet (hZ u213) fun a214 =>
  addc 1 (8) <|
  mlet (nA u213 2 (8)) fun u216 =>
  mchk (hC u216 p0 == 4) <|
  mlet (uR u216 p0 75 (some a214)) fun u218 =>
  mlet (hZ u218) fun a219 =>
  addc 1 (24) <|
  mlet (nA u218 1 (24)) fun u221 =>
  mchk (hC u221 p0 == 4) <|
  mlet (uR u221 p0 77 (some a219)) fun u223 =>
  mlet (hZ u223) fun a224 =>
  addc 1 (2700) <|
  mlet (nA u223 1 (2700)) fun u226 =>
  mchk (hC u226 p0 == 4) <|
  mlet (uR u226 p0 78 (some a224)) fun u228 =>
  mlet (hZ u228) fun a229 =>
  addc 1 (8) <|
  mlet (nA u228 1 (8)) fun u231 =>
  mchk (hC u231 p0 == 4) <|
  mlet (uR u231 p0 80 (some a229)) fun u233 =>
  mlet (hZ u233) fun a234 =>
  addc 1 (34) <|
  mlet (nA u233 1 (34)) fun u236 =>
  mchk (hC u236 p0 == 4) <|
  mlet (uR u236 p0 84 (some a234)) fun u238 =>
  mlet (hZ u238) fun a239 =>
  addc 1 (1360) <|
  mlet (nA u238 1 (1360)) fun u241 =>
  mchk (hC u241 p0 == 4) <|
  mlet (uR u241 p0 85 (some a239)) fun u243 =>
  mlet (hZ u243) fun a244 =>
  addc 1 (24) <|
  mlet (nA u243 1 (24)) fun u246 =>
  mchk (hC u246 p0 == 4) <|
  mlet (uR u246 p0 86 (some a244)) fun u248 =>
  mchk (hC u248 p0 == 4) <|
  mderef (hR u248 p0 54) fun a250 =>
  mchk (inA u248 3 a250 21) <|
  mlet (uA u248 a250 (3 : Int32).toNatClampNeg 1) fun u252 =>
  hret () u252
theorem ctX4_init (t : TT) (G : GH) (l : Launch) (hl0 : l.stackTraces = false) (p0 : Nat) (u : HS) : CtH mkU t G l yX4_init cX4_init 1 none 2 [.ref p0] u (hX4_init p0 u) := by
  refine ctH_of [(0, .ref p0)] hl0 rfl (Nat.le_of_ble_eq_true rfl) rfl (fun K1 K2 p e s m args below meth c C => ?_)
  unfold hX4_init
  refine v_aload_n C.1 0 rfl rfl dX4_init_0 ?_
  refine v_objInit C q1614 q161 q162 (by exact Nat.le_of_ble_eq_true rfl) (by exact Nat.le_of_ble_eq_true rfl) dX4_init_1 ?_
  refine v_aload_n C.1 0 rfl rfl dX4_init_4 ?_
  refine v_iconst C.1 (-1) (by decide) dX4_init_5 ?_
  refine v_chk (fun h1 => ?_)
  refine v_hputI C 3 7 (eq_of_beq h1) (by decide) rfl in_X4 tyX4 tyX4_ok nmX4 (by decide) (by decide) q1622 (fun _ h => h) (Or.inl rfl) ⟨rfl, rfl⟩ dX4_init_6 (fun u2 => ?_)
  refine v_aload_n C.1 0 rfl rfl dX4_init_9 ?_
  refine v_bipush C.1 8 (by decide) dX4_init_10 ?_
  refine v_letE (fun a3 e4 => ?_)
  refine v_hnewa C 1 e4 (by decide) rfl q195 (by decide) (by decide) (by decide) dX4_init_12 (fun u5 => ?_)
  refine v_chk (fun h6 => ?_)
  refine v_hputR C (some a3) 3 8 (eq_of_beq h6) (by decide) rfl in_X4 tyX4 tyX4_ok nmX4 (by decide) (by decide) q1623 (fun _ h => h) (Or.inr ⟨rfl, rfl, rfl⟩) rfl rfl dX4_init_14 (fun u7 => ?_)
  refine v_aload_n C.1 0 rfl rfl dX4_init_17 ?_
  refine v_bipush C.1 12 (by decide) dX4_init_18 ?_
  refine v_letE (fun a8 e9 => ?_)
  refine v_hnewa C 1 e9 (by decide) rfl q195 (by decide) (by decide) (by decide) dX4_init_20 (fun u10 => ?_)
  refine v_chk (fun h11 => ?_)
  refine v_hputR C (some a8) 3 9 (eq_of_beq h11) (by decide) rfl in_X4 tyX4 tyX4_ok nmX4 (by decide) (by decide) q1624 (fun _ h => h) (Or.inr ⟨rfl, rfl, rfl⟩) rfl rfl dX4_init_22 (fun u12 => ?_)
  refine v_aload_n C.1 0 rfl rfl dX4_init_25 ?_
  refine v_bipush C.1 12 (by decide) dX4_init_26 ?_
  refine v_letE (fun a13 e14 => ?_)
  refine v_hnewa C 1 e14 (by decide) rfl q195 (by decide) (by decide) (by decide) dX4_init_28 (fun u15 => ?_)
  refine v_chk (fun h16 => ?_)
  refine v_hputR C (some a13) 3 10 (eq_of_beq h16) (by decide) rfl in_X4 tyX4 tyX4_ok nmX4 (by decide) (by decide) q1625 (fun _ h => h) (Or.inr ⟨rfl, rfl, rfl⟩) rfl rfl dX4_init_30 (fun u17 => ?_)
  refine v_aload_n C.1 0 rfl rfl dX4_init_33 ?_
  refine v_bipush C.1 12 (by decide) dX4_init_34 ?_
  refine v_letE (fun a18 e19 => ?_)
  refine v_hnewa C 1 e19 (by decide) rfl q195 (by decide) (by decide) (by decide) dX4_init_36 (fun u20 => ?_)
  refine v_chk (fun h21 => ?_)
  refine v_hputR C (some a18) 3 11 (eq_of_beq h21) (by decide) rfl in_X4 tyX4 tyX4_ok nmX4 (by decide) (by decide) q1626 (fun _ h => h) (Or.inr ⟨rfl, rfl, rfl⟩) rfl rfl dX4_init_38 (fun u22 => ?_)
  refine v_aload_n C.1 0 rfl rfl dX4_init_41 ?_
  refine v_bipush C.1 9 (by decide) dX4_init_42 ?_
  refine v_letE (fun a23 e24 => ?_)
  refine v_hnewa C 1 e24 (by decide) rfl q195 (by decide) (by decide) (by decide) dX4_init_44 (fun u25 => ?_)
  refine v_chk (fun h26 => ?_)
  refine v_hputR C (some a23) 3 12 (eq_of_beq h26) (by decide) rfl in_X4 tyX4 tyX4_ok nmX4 (by decide) (by decide) q1627 (fun _ h => h) (Or.inr ⟨rfl, rfl, rfl⟩) rfl rfl dX4_init_46 (fun u27 => ?_)
  refine v_aload_n C.1 0 rfl rfl dX4_init_49 ?_
  refine v_bipush C.1 9 (by decide) dX4_init_50 ?_
  refine v_letE (fun a28 e29 => ?_)
  refine v_hnewa C 1 e29 (by decide) rfl q195 (by decide) (by decide) (by decide) dX4_init_52 (fun u30 => ?_)
  refine v_chk (fun h31 => ?_)
  refine v_hputR C (some a28) 3 13 (eq_of_beq h31) (by decide) rfl in_X4 tyX4 tyX4_ok nmX4 (by decide) (by decide) q1628 (fun _ h => h) (Or.inr ⟨rfl, rfl, rfl⟩) rfl rfl dX4_init_54 (fun u32 => ?_)
  refine v_aload_n C.1 0 rfl rfl dX4_init_57 ?_
  refine v_bipush C.1 12 (by decide) dX4_init_58 ?_
  refine v_letE (fun a33 e34 => ?_)
  refine v_hnewa C 1 e34 (by decide) rfl q195 (by decide) (by decide) (by decide) dX4_init_60 (fun u35 => ?_)
  refine v_chk (fun h36 => ?_)
  refine v_hputR C (some a33) 3 14 (eq_of_beq h36) (by decide) rfl in_X4 tyX4 tyX4_ok nmX4 (by decide) (by decide) q1629 (fun _ h => h) (Or.inr ⟨rfl, rfl, rfl⟩) rfl rfl dX4_init_62 (fun u37 => ?_)
  refine v_aload_n C.1 0 rfl rfl dX4_init_65 ?_
  refine v_bipush C.1 12 (by decide) dX4_init_66 ?_
  refine v_letE (fun a38 e39 => ?_)
  refine v_hnewa C 1 e39 (by decide) rfl q195 (by decide) (by decide) (by decide) dX4_init_68 (fun u40 => ?_)
  refine v_chk (fun h41 => ?_)
  refine v_hputR C (some a38) 3 15 (eq_of_beq h41) (by decide) rfl in_X4 tyX4 tyX4_ok nmX4 (by decide) (by decide) q1630 (fun _ h => h) (Or.inr ⟨rfl, rfl, rfl⟩) rfl rfl dX4_init_70 (fun u42 => ?_)
  refine v_aload_n C.1 0 rfl rfl dX4_init_73 ?_
  refine v_bipush C.1 12 (by decide) dX4_init_74 ?_
  refine v_letE (fun a43 e44 => ?_)
  refine v_hnewa C 1 e44 (by decide) rfl q195 (by decide) (by decide) (by decide) dX4_init_76 (fun u45 => ?_)
  refine v_chk (fun h46 => ?_)
  refine v_hputR C (some a43) 3 16 (eq_of_beq h46) (by decide) rfl in_X4 tyX4 tyX4_ok nmX4 (by decide) (by decide) q1631 (fun _ h => h) (Or.inr ⟨rfl, rfl, rfl⟩) rfl rfl dX4_init_78 (fun u47 => ?_)
  refine v_aload_n C.1 0 rfl rfl dX4_init_81 ?_
  refine v_sipush C.1 1400 (by decide) dX4_init_82 ?_
  refine v_letE (fun a48 e49 => ?_)
  refine v_hnewa C 1 e49 (by decide) rfl q195 (by decide) (by decide) (by decide) dX4_init_85 (fun u50 => ?_)
  refine v_chk (fun h51 => ?_)
  refine v_hputR C (some a48) 3 17 (eq_of_beq h51) (by decide) rfl in_X4 tyX4 tyX4_ok nmX4 (by decide) (by decide) q1632 (fun _ h => h) (Or.inr ⟨rfl, rfl, rfl⟩) rfl rfl dX4_init_87 (fun u52 => ?_)
  refine v_aload_n C.1 0 rfl rfl dX4_init_90 ?_
  refine v_sipush C.1 700 (by decide) dX4_init_91 ?_
  refine v_letE (fun a53 e54 => ?_)
  refine v_hnewa C 1 e54 (by decide) rfl q195 (by decide) (by decide) (by decide) dX4_init_94 (fun u55 => ?_)
  refine v_chk (fun h56 => ?_)
  refine v_hputR C (some a53) 3 18 (eq_of_beq h56) (by decide) rfl in_X4 tyX4 tyX4_ok nmX4 (by decide) (by decide) q1633 (fun _ h => h) (Or.inr ⟨rfl, rfl, rfl⟩) rfl rfl dX4_init_96 (fun u57 => ?_)
  refine v_aload_n C.1 0 rfl rfl dX4_init_99 ?_
  refine v_iconst C.1 (-1) (by decide) dX4_init_100 ?_
  refine v_chk (fun h58 => ?_)
  refine v_hputI C 3 21 (eq_of_beq h58) (by decide) rfl in_X4 tyX4 tyX4_ok nmX4 (by decide) (by decide) q1636 (fun _ h => h) (Or.inl rfl) ⟨rfl, rfl⟩ dX4_init_101 (fun u59 => ?_)
  refine v_aload_n C.1 0 rfl rfl dX4_init_104 ?_
  refine v_iconst C.1 3 (by decide) dX4_init_105 ?_
  refine v_letE (fun a60 e61 => ?_)
  refine v_hnewa C 1 e61 (by decide) rfl q195 (by decide) (by decide) (by decide) dX4_init_106 (fun u62 => ?_)
  refine v_chk (fun h63 => ?_)
  refine v_hputR C (some a60) 3 22 (eq_of_beq h63) (by decide) rfl in_X4 tyX4 tyX4_ok nmX4 (by decide) (by decide) q1637 (fun _ h => h) (Or.inr ⟨rfl, rfl, rfl⟩) rfl rfl dX4_init_108 (fun u64 => ?_)
  refine v_aload_n C.1 0 rfl rfl dX4_init_111 ?_
  refine v_bipush C.1 8 (by decide) dX4_init_112 ?_
  refine v_letE (fun a65 e66 => ?_)
  refine v_hnewa C 1 e66 (by decide) rfl q195 (by decide) (by decide) (by decide) dX4_init_114 (fun u67 => ?_)
  refine v_chk (fun h68 => ?_)
  refine v_hputR C (some a65) 3 41 (eq_of_beq h68) (by decide) rfl in_X4 tyX4 tyX4_ok nmX4 (by decide) (by decide) q1656 (fun _ h => h) (Or.inr ⟨rfl, rfl, rfl⟩) rfl rfl dX4_init_116 (fun u69 => ?_)
  refine v_aload_n C.1 0 rfl rfl dX4_init_119 ?_
  refine v_bipush C.1 12 (by decide) dX4_init_120 ?_
  refine v_letE (fun a70 e71 => ?_)
  refine v_hnewa C 1 e71 (by decide) rfl q195 (by decide) (by decide) (by decide) dX4_init_122 (fun u72 => ?_)
  refine v_chk (fun h73 => ?_)
  refine v_hputR C (some a70) 3 42 (eq_of_beq h73) (by decide) rfl in_X4 tyX4 tyX4_ok nmX4 (by decide) (by decide) q1657 (fun _ h => h) (Or.inr ⟨rfl, rfl, rfl⟩) rfl rfl dX4_init_124 (fun u74 => ?_)
  refine v_aload_n C.1 0 rfl rfl dX4_init_127 ?_
  refine v_bipush C.1 12 (by decide) dX4_init_128 ?_
  refine v_letE (fun a75 e76 => ?_)
  refine v_hnewa C 1 e76 (by decide) rfl q195 (by decide) (by decide) (by decide) dX4_init_130 (fun u77 => ?_)
  refine v_chk (fun h78 => ?_)
  refine v_hputR C (some a75) 3 43 (eq_of_beq h78) (by decide) rfl in_X4 tyX4 tyX4_ok nmX4 (by decide) (by decide) q1658 (fun _ h => h) (Or.inr ⟨rfl, rfl, rfl⟩) rfl rfl dX4_init_132 (fun u79 => ?_)
  refine v_aload_n C.1 0 rfl rfl dX4_init_135 ?_
  refine v_bipush C.1 12 (by decide) dX4_init_136 ?_
  refine v_letE (fun a80 e81 => ?_)
  refine v_hnewa C 1 e81 (by decide) rfl q195 (by decide) (by decide) (by decide) dX4_init_138 (fun u82 => ?_)
  refine v_chk (fun h83 => ?_)
  refine v_hputR C (some a80) 3 44 (eq_of_beq h83) (by decide) rfl in_X4 tyX4 tyX4_ok nmX4 (by decide) (by decide) q1659 (fun _ h => h) (Or.inr ⟨rfl, rfl, rfl⟩) rfl rfl dX4_init_140 (fun u84 => ?_)
  refine v_aload_n C.1 0 rfl rfl dX4_init_143 ?_
  refine v_bipush C.1 9 (by decide) dX4_init_144 ?_
  refine v_letE (fun a85 e86 => ?_)
  refine v_hnewa C 1 e86 (by decide) rfl q195 (by decide) (by decide) (by decide) dX4_init_146 (fun u87 => ?_)
  refine v_chk (fun h88 => ?_)
  refine v_hputR C (some a85) 3 45 (eq_of_beq h88) (by decide) rfl in_X4 tyX4 tyX4_ok nmX4 (by decide) (by decide) q1660 (fun _ h => h) (Or.inr ⟨rfl, rfl, rfl⟩) rfl rfl dX4_init_148 (fun u89 => ?_)
  refine v_aload_n C.1 0 rfl rfl dX4_init_151 ?_
  refine v_bipush C.1 9 (by decide) dX4_init_152 ?_
  refine v_letE (fun a90 e91 => ?_)
  refine v_hnewa C 1 e91 (by decide) rfl q195 (by decide) (by decide) (by decide) dX4_init_154 (fun u92 => ?_)
  refine v_chk (fun h93 => ?_)
  refine v_hputR C (some a90) 3 46 (eq_of_beq h93) (by decide) rfl in_X4 tyX4 tyX4_ok nmX4 (by decide) (by decide) q1661 (fun _ h => h) (Or.inr ⟨rfl, rfl, rfl⟩) rfl rfl dX4_init_156 (fun u94 => ?_)
  refine v_aload_n C.1 0 rfl rfl dX4_init_159 ?_
  refine v_bipush C.1 12 (by decide) dX4_init_160 ?_
  refine v_letE (fun a95 e96 => ?_)
  refine v_hnewa C 1 e96 (by decide) rfl q195 (by decide) (by decide) (by decide) dX4_init_162 (fun u97 => ?_)
  refine v_chk (fun h98 => ?_)
  refine v_hputR C (some a95) 3 47 (eq_of_beq h98) (by decide) rfl in_X4 tyX4 tyX4_ok nmX4 (by decide) (by decide) q1662 (fun _ h => h) (Or.inr ⟨rfl, rfl, rfl⟩) rfl rfl dX4_init_164 (fun u99 => ?_)
  refine v_aload_n C.1 0 rfl rfl dX4_init_167 ?_
  refine v_bipush C.1 12 (by decide) dX4_init_168 ?_
  refine v_letE (fun a100 e101 => ?_)
  refine v_hnewa C 1 e101 (by decide) rfl q195 (by decide) (by decide) (by decide) dX4_init_170 (fun u102 => ?_)
  refine v_chk (fun h103 => ?_)
  refine v_hputR C (some a100) 3 48 (eq_of_beq h103) (by decide) rfl in_X4 tyX4 tyX4_ok nmX4 (by decide) (by decide) q1663 (fun _ h => h) (Or.inr ⟨rfl, rfl, rfl⟩) rfl rfl dX4_init_172 (fun u104 => ?_)
  refine v_aload_n C.1 0 rfl rfl dX4_init_175 ?_
  refine v_bipush C.1 12 (by decide) dX4_init_176 ?_
  refine v_letE (fun a105 e106 => ?_)
  refine v_hnewa C 1 e106 (by decide) rfl q195 (by decide) (by decide) (by decide) dX4_init_178 (fun u107 => ?_)
  refine v_chk (fun h108 => ?_)
  refine v_hputR C (some a105) 3 49 (eq_of_beq h108) (by decide) rfl in_X4 tyX4 tyX4_ok nmX4 (by decide) (by decide) q1664 (fun _ h => h) (Or.inr ⟨rfl, rfl, rfl⟩) rfl rfl dX4_init_180 (fun u109 => ?_)
  refine v_aload_n C.1 0 rfl rfl dX4_init_183 ?_
  refine v_bipush C.1 34 (by decide) dX4_init_184 ?_
  refine v_letE (fun a110 e111 => ?_)
  refine v_hnewa C 1 e111 (by decide) rfl q195 (by decide) (by decide) (by decide) dX4_init_186 (fun u112 => ?_)
  refine v_chk (fun h113 => ?_)
  refine v_hputR C (some a110) 3 50 (eq_of_beq h113) (by decide) rfl in_X4 tyX4 tyX4_ok nmX4 (by decide) (by decide) q1665 (fun _ h => h) (Or.inr ⟨rfl, rfl, rfl⟩) rfl rfl dX4_init_188 (fun u114 => ?_)
  refine v_aload_n C.1 0 rfl rfl dX4_init_191 ?_
  refine v_sipush C.1 1400 (by decide) dX4_init_192 ?_
  refine v_letE (fun a115 e116 => ?_)
  refine v_hnewa C 1 e116 (by decide) rfl q195 (by decide) (by decide) (by decide) dX4_init_195 (fun u117 => ?_)
  refine v_chk (fun h118 => ?_)
  refine v_hputR C (some a115) 3 51 (eq_of_beq h118) (by decide) rfl in_X4 tyX4 tyX4_ok nmX4 (by decide) (by decide) q1666 (fun _ h => h) (Or.inr ⟨rfl, rfl, rfl⟩) rfl rfl dX4_init_197 (fun u119 => ?_)
  refine v_aload_n C.1 0 rfl rfl dX4_init_200 ?_
  refine v_sipush C.1 950 (by decide) dX4_init_201 ?_
  refine v_letE (fun a120 e121 => ?_)
  refine v_hnewa C 1 e121 (by decide) rfl q195 (by decide) (by decide) (by decide) dX4_init_204 (fun u122 => ?_)
  refine v_chk (fun h123 => ?_)
  refine v_hputR C (some a120) 3 52 (eq_of_beq h123) (by decide) rfl in_X4 tyX4 tyX4_ok nmX4 (by decide) (by decide) q1667 (fun _ h => h) (Or.inr ⟨rfl, rfl, rfl⟩) rfl rfl dX4_init_206 (fun u124 => ?_)
  refine v_aload_n C.1 0 rfl rfl dX4_init_209 ?_
  refine v_bipush C.1 9 (by decide) dX4_init_210 ?_
  refine v_letE (fun a125 e126 => ?_)
  refine v_hnewa C 2 e126 (by decide) rfl q1877 (by decide) (by decide) (by decide) dX4_init_212 (fun u127 => ?_)
  refine v_chk (fun h128 => ?_)
  refine v_hputR C (some a125) 3 53 (eq_of_beq h128) (by decide) rfl in_X4 tyX4 tyX4_ok nmX4 (by decide) (by decide) q1668 (fun _ h => h) (Or.inr ⟨rfl, rfl, rfl⟩) rfl rfl dX4_init_214 (fun u129 => ?_)
  refine v_aload_n C.1 0 rfl rfl dX4_init_217 ?_
  refine v_bipush C.1 34 (by decide) dX4_init_218 ?_
  refine v_letE (fun a130 e131 => ?_)
  refine v_hnewa C 1 e131 (by decide) rfl q195 (by decide) (by decide) (by decide) dX4_init_220 (fun u132 => ?_)
  refine v_chk (fun h133 => ?_)
  refine v_hputR C (some a130) 3 54 (eq_of_beq h133) (by decide) rfl in_X4 tyX4 tyX4_ok nmX4 (by decide) (by decide) q1669 (fun _ h => h) (Or.inr ⟨rfl, rfl, rfl⟩) rfl rfl dX4_init_222 (fun u134 => ?_)
  refine v_aload_n C.1 0 rfl rfl dX4_init_225 ?_
  refine v_sipush C.1 1360 (by decide) dX4_init_226 ?_
  refine v_letE (fun a135 e136 => ?_)
  refine v_hnewa C 1 e136 (by decide) rfl q195 (by decide) (by decide) (by decide) dX4_init_229 (fun u137 => ?_)
  refine v_chk (fun h138 => ?_)
  refine v_hputR C (some a135) 3 55 (eq_of_beq h138) (by decide) rfl in_X4 tyX4 tyX4_ok nmX4 (by decide) (by decide) q1670 (fun _ h => h) (Or.inr ⟨rfl, rfl, rfl⟩) rfl rfl dX4_init_231 (fun u139 => ?_)
  refine v_aload_n C.1 0 rfl rfl dX4_init_234 ?_
  refine v_bipush C.1 8 (by decide) dX4_init_235 ?_
  refine v_letE (fun a140 e141 => ?_)
  refine v_hnewa C 1 e141 (by decide) rfl q195 (by decide) (by decide) (by decide) dX4_init_237 (fun u142 => ?_)
  refine v_chk (fun h143 => ?_)
  refine v_hputR C (some a140) 3 57 (eq_of_beq h143) (by decide) rfl in_X4 tyX4 tyX4_ok nmX4 (by decide) (by decide) q1672 (fun _ h => h) (Or.inr ⟨rfl, rfl, rfl⟩) rfl rfl dX4_init_239 (fun u144 => ?_)
  refine v_aload_n C.1 0 rfl rfl dX4_init_242 ?_
  refine v_sipush C.1 950 (by decide) dX4_init_243 ?_
  refine v_letE (fun a145 e146 => ?_)
  refine v_hnewa C 1 e146 (by decide) rfl q195 (by decide) (by decide) (by decide) dX4_init_246 (fun u147 => ?_)
  refine v_chk (fun h148 => ?_)
  refine v_hputR C (some a145) 3 58 (eq_of_beq h148) (by decide) rfl in_X4 tyX4 tyX4_ok nmX4 (by decide) (by decide) q1673 (fun _ h => h) (Or.inr ⟨rfl, rfl, rfl⟩) rfl rfl dX4_init_248 (fun u149 => ?_)
  refine v_aload_n C.1 0 rfl rfl dX4_init_251 ?_
  refine v_iconst C.1 3 (by decide) dX4_init_252 ?_
  refine v_letE (fun a150 e151 => ?_)
  refine v_hnewa C 1 e151 (by decide) rfl q195 (by decide) (by decide) (by decide) dX4_init_253 (fun u152 => ?_)
  refine v_chk (fun h153 => ?_)
  refine v_hputR C (some a150) 3 59 (eq_of_beq h153) (by decide) rfl in_X4 tyX4 tyX4_ok nmX4 (by decide) (by decide) q1674 (fun _ h => h) (Or.inr ⟨rfl, rfl, rfl⟩) rfl rfl dX4_init_255 (fun u154 => ?_)
  refine v_aload_n C.1 0 rfl rfl dX4_init_258 ?_
  refine v_iconst C.1 (-1) (by decide) dX4_init_259 ?_
  refine v_chk (fun h155 => ?_)
  refine v_hputI C 3 61 (eq_of_beq h155) (by decide) rfl in_X4 tyX4 tyX4_ok nmX4 (by decide) (by decide) q1676 (fun _ h => h) (Or.inl rfl) ⟨rfl, rfl⟩ dX4_init_260 (fun u156 => ?_)
  refine v_aload_n C.1 0 rfl rfl dX4_init_263 ?_
  refine v_bipush C.1 9 (by decide) dX4_init_264 ?_
  refine v_letE (fun a157 e158 => ?_)
  refine v_hnewa C 1 e158 (by decide) rfl q195 (by decide) (by decide) (by decide) dX4_init_266 (fun u159 => ?_)
  refine v_chk (fun h160 => ?_)
  refine v_hputR C (some a157) 3 63 (eq_of_beq h160) (by decide) rfl in_X4 tyX4 tyX4_ok nmX4 (by decide) (by decide) q1678 (fun _ h => h) (Or.inr ⟨rfl, rfl, rfl⟩) rfl rfl dX4_init_268 (fun u161 => ?_)
  refine v_aload_n C.1 0 rfl rfl dX4_init_271 ?_
  refine v_bipush C.1 9 (by decide) dX4_init_272 ?_
  refine v_letE (fun a162 e163 => ?_)
  refine v_hnewa C 1 e163 (by decide) rfl q195 (by decide) (by decide) (by decide) dX4_init_274 (fun u164 => ?_)
  refine v_chk (fun h165 => ?_)
  refine v_hputR C (some a162) 3 64 (eq_of_beq h165) (by decide) rfl in_X4 tyX4 tyX4_ok nmX4 (by decide) (by decide) q1679 (fun _ h => h) (Or.inr ⟨rfl, rfl, rfl⟩) rfl rfl dX4_init_276 (fun u166 => ?_)
  refine v_aload_n C.1 0 rfl rfl dX4_init_279 ?_
  refine v_bipush C.1 30 (by decide) dX4_init_280 ?_
  refine v_letE (fun a167 e168 => ?_)
  refine v_hnewa C 1 e168 (by decide) rfl q195 (by decide) (by decide) (by decide) dX4_init_282 (fun u169 => ?_)
  refine v_chk (fun h170 => ?_)
  refine v_hputR C (some a167) 3 65 (eq_of_beq h170) (by decide) rfl in_X4 tyX4 tyX4_ok nmX4 (by decide) (by decide) q1680 (fun _ h => h) (Or.inr ⟨rfl, rfl, rfl⟩) rfl rfl dX4_init_284 (fun u171 => ?_)
  refine v_aload_n C.1 0 rfl rfl dX4_init_287 ?_
  refine v_bipush C.1 30 (by decide) dX4_init_288 ?_
  refine v_letE (fun a172 e173 => ?_)
  refine v_hnewa C 1 e173 (by decide) rfl q195 (by decide) (by decide) (by decide) dX4_init_290 (fun u174 => ?_)
  refine v_chk (fun h175 => ?_)
  refine v_hputR C (some a172) 3 66 (eq_of_beq h175) (by decide) rfl in_X4 tyX4 tyX4_ok nmX4 (by decide) (by decide) q1681 (fun _ h => h) (Or.inr ⟨rfl, rfl, rfl⟩) rfl rfl dX4_init_292 (fun u176 => ?_)
  refine v_aload_n C.1 0 rfl rfl dX4_init_295 ?_
  refine v_bipush C.1 30 (by decide) dX4_init_296 ?_
  refine v_letE (fun a177 e178 => ?_)
  refine v_hnewa C 1 e178 (by decide) rfl q195 (by decide) (by decide) (by decide) dX4_init_298 (fun u179 => ?_)
  refine v_chk (fun h180 => ?_)
  refine v_hputR C (some a177) 3 67 (eq_of_beq h180) (by decide) rfl in_X4 tyX4 tyX4_ok nmX4 (by decide) (by decide) q1682 (fun _ h => h) (Or.inr ⟨rfl, rfl, rfl⟩) rfl rfl dX4_init_300 (fun u181 => ?_)
  refine v_aload_n C.1 0 rfl rfl dX4_init_303 ?_
  refine v_bipush C.1 34 (by decide) dX4_init_304 ?_
  refine v_letE (fun a182 e183 => ?_)
  refine v_hnewa C 1 e183 (by decide) rfl q195 (by decide) (by decide) (by decide) dX4_init_306 (fun u184 => ?_)
  refine v_chk (fun h185 => ?_)
  refine v_hputR C (some a182) 3 68 (eq_of_beq h185) (by decide) rfl in_X4 tyX4 tyX4_ok nmX4 (by decide) (by decide) q1683 (fun _ h => h) (Or.inr ⟨rfl, rfl, rfl⟩) rfl rfl dX4_init_308 (fun u186 => ?_)
  refine v_aload_n C.1 0 rfl rfl dX4_init_311 ?_
  refine v_iconst C.1 (-1) (by decide) dX4_init_312 ?_
  refine v_chk (fun h187 => ?_)
  refine v_hputI C 3 69 (eq_of_beq h187) (by decide) rfl in_X4 tyX4 tyX4_ok nmX4 (by decide) (by decide) q1684 (fun _ h => h) (Or.inl rfl) ⟨rfl, rfl⟩ dX4_init_313 (fun u188 => ?_)
  refine v_aload_n C.1 0 rfl rfl dX4_init_316 ?_
  refine v_bipush C.1 9 (by decide) dX4_init_317 ?_
  refine v_letE (fun a189 e190 => ?_)
  refine v_hnewa C 1 e190 (by decide) rfl q195 (by decide) (by decide) (by decide) dX4_init_319 (fun u191 => ?_)
  refine v_chk (fun h192 => ?_)
  refine v_hputR C (some a189) 3 70 (eq_of_beq h192) (by decide) rfl in_X4 tyX4 tyX4_ok nmX4 (by decide) (by decide) q1685 (fun _ h => h) (Or.inr ⟨rfl, rfl, rfl⟩) rfl rfl dX4_init_321 (fun u193 => ?_)
  refine v_aload_n C.1 0 rfl rfl dX4_init_324 ?_
  refine v_bipush C.1 8 (by decide) dX4_init_325 ?_
  refine v_letE (fun a194 e195 => ?_)
  refine v_hnewa C 2 e195 (by decide) rfl q1877 (by decide) (by decide) (by decide) dX4_init_327 (fun u196 => ?_)
  refine v_chk (fun h197 => ?_)
  refine v_hputR C (some a194) 3 71 (eq_of_beq h197) (by decide) rfl in_X4 tyX4 tyX4_ok nmX4 (by decide) (by decide) q1686 (fun _ h => h) (Or.inr ⟨rfl, rfl, rfl⟩) rfl rfl dX4_init_329 (fun u198 => ?_)
  refine v_aload_n C.1 0 rfl rfl dX4_init_332 ?_
  refine v_bipush C.1 8 (by decide) dX4_init_333 ?_
  refine v_letE (fun a199 e200 => ?_)
  refine v_hnewa C 2 e200 (by decide) rfl q1877 (by decide) (by decide) (by decide) dX4_init_335 (fun u201 => ?_)
  refine v_chk (fun h202 => ?_)
  refine v_hputR C (some a199) 3 72 (eq_of_beq h202) (by decide) rfl in_X4 tyX4 tyX4_ok nmX4 (by decide) (by decide) q1687 (fun _ h => h) (Or.inr ⟨rfl, rfl, rfl⟩) rfl rfl dX4_init_337 (fun u203 => ?_)
  refine v_aload_n C.1 0 rfl rfl dX4_init_340 ?_
  refine v_bipush C.1 8 (by decide) dX4_init_341 ?_
  refine v_letE (fun a204 e205 => ?_)
  refine v_hnewa C 1 e205 (by decide) rfl q195 (by decide) (by decide) (by decide) dX4_init_343 (fun u206 => ?_)
  refine v_chk (fun h207 => ?_)
  refine v_hputR C (some a204) 3 73 (eq_of_beq h207) (by decide) rfl in_X4 tyX4 tyX4_ok nmX4 (by decide) (by decide) q1688 (fun _ h => h) (Or.inr ⟨rfl, rfl, rfl⟩) rfl rfl dX4_init_345 (fun u208 => ?_)
  refine v_aload_n C.1 0 rfl rfl dX4_init_348 ?_
  refine v_bipush C.1 8 (by decide) dX4_init_349 ?_
  refine v_letE (fun a209 e210 => ?_)
  refine v_hnewa C 1 e210 (by decide) rfl q195 (by decide) (by decide) (by decide) dX4_init_351 (fun u211 => ?_)
  refine v_chk (fun h212 => ?_)
  refine v_hputR C (some a209) 3 74 (eq_of_beq h212) (by decide) rfl in_X4 tyX4 tyX4_ok nmX4 (by decide) (by decide) q1689 (fun _ h => h) (Or.inr ⟨rfl, rfl, rfl⟩) rfl rfl dX4_init_353 (fun u213 => ?_)
  refine v_aload_n C.1 0 rfl rfl dX4_init_356 ?_
  refine v_bipush C.1 8 (by decide) dX4_init_357 ?_
  refine v_letE (fun a214 e215 => ?_)
  refine v_hnewa C 2 e215 (by decide) rfl q1877 (by decide) (by decide) (by decide) dX4_init_359 (fun u216 => ?_)
  refine v_chk (fun h217 => ?_)
  refine v_hputR C (some a214) 3 75 (eq_of_beq h217) (by decide) rfl in_X4 tyX4 tyX4_ok nmX4 (by decide) (by decide) q1690 (fun _ h => h) (Or.inr ⟨rfl, rfl, rfl⟩) rfl rfl dX4_init_361 (fun u218 => ?_)
  refine v_aload_n C.1 0 rfl rfl dX4_init_364 ?_
  refine v_bipush C.1 24 (by decide) dX4_init_365 ?_
  refine v_letE (fun a219 e220 => ?_)
  refine v_hnewa C 1 e220 (by decide) rfl q195 (by decide) (by decide) (by decide) dX4_init_367 (fun u221 => ?_)
  refine v_chk (fun h222 => ?_)
  refine v_hputR C (some a219) 3 77 (eq_of_beq h222) (by decide) rfl in_X4 tyX4 tyX4_ok nmX4 (by decide) (by decide) q1692 (fun _ h => h) (Or.inr ⟨rfl, rfl, rfl⟩) rfl rfl dX4_init_369 (fun u223 => ?_)
  refine v_aload_n C.1 0 rfl rfl dX4_init_372 ?_
  refine v_sipush C.1 2700 (by decide) dX4_init_373 ?_
  refine v_letE (fun a224 e225 => ?_)
  refine v_hnewa C 1 e225 (by decide) rfl q195 (by decide) (by decide) (by decide) dX4_init_376 (fun u226 => ?_)
  refine v_chk (fun h227 => ?_)
  refine v_hputR C (some a224) 3 78 (eq_of_beq h227) (by decide) rfl in_X4 tyX4 tyX4_ok nmX4 (by decide) (by decide) q1693 (fun _ h => h) (Or.inr ⟨rfl, rfl, rfl⟩) rfl rfl dX4_init_378 (fun u228 => ?_)
  refine v_aload_n C.1 0 rfl rfl dX4_init_381 ?_
  refine v_bipush C.1 8 (by decide) dX4_init_382 ?_
  refine v_letE (fun a229 e230 => ?_)
  refine v_hnewa C 1 e230 (by decide) rfl q195 (by decide) (by decide) (by decide) dX4_init_384 (fun u231 => ?_)
  refine v_chk (fun h232 => ?_)
  refine v_hputR C (some a229) 3 80 (eq_of_beq h232) (by decide) rfl in_X4 tyX4 tyX4_ok nmX4 (by decide) (by decide) q1695 (fun _ h => h) (Or.inr ⟨rfl, rfl, rfl⟩) rfl rfl dX4_init_386 (fun u233 => ?_)
  refine v_aload_n C.1 0 rfl rfl dX4_init_389 ?_
  refine v_bipush C.1 34 (by decide) dX4_init_390 ?_
  refine v_letE (fun a234 e235 => ?_)
  refine v_hnewa C 1 e235 (by decide) rfl q195 (by decide) (by decide) (by decide) dX4_init_392 (fun u236 => ?_)
  refine v_chk (fun h237 => ?_)
  refine v_hputR C (some a234) 3 84 (eq_of_beq h237) (by decide) rfl in_X4 tyX4 tyX4_ok nmX4 (by decide) (by decide) q1699 (fun _ h => h) (Or.inr ⟨rfl, rfl, rfl⟩) rfl rfl dX4_init_394 (fun u238 => ?_)
  refine v_aload_n C.1 0 rfl rfl dX4_init_397 ?_
  refine v_sipush C.1 1360 (by decide) dX4_init_398 ?_
  refine v_letE (fun a239 e240 => ?_)
  refine v_hnewa C 1 e240 (by decide) rfl q195 (by decide) (by decide) (by decide) dX4_init_401 (fun u241 => ?_)
  refine v_chk (fun h242 => ?_)
  refine v_hputR C (some a239) 3 85 (eq_of_beq h242) (by decide) rfl in_X4 tyX4 tyX4_ok nmX4 (by decide) (by decide) q1700 (fun _ h => h) (Or.inr ⟨rfl, rfl, rfl⟩) rfl rfl dX4_init_403 (fun u243 => ?_)
  refine v_aload_n C.1 0 rfl rfl dX4_init_406 ?_
  refine v_bipush C.1 24 (by decide) dX4_init_407 ?_
  refine v_letE (fun a244 e245 => ?_)
  refine v_hnewa C 1 e245 (by decide) rfl q195 (by decide) (by decide) (by decide) dX4_init_409 (fun u246 => ?_)
  refine v_chk (fun h247 => ?_)
  refine v_hputR C (some a244) 3 86 (eq_of_beq h247) (by decide) rfl in_X4 tyX4 tyX4_ok nmX4 (by decide) (by decide) q1701 (fun _ h => h) (Or.inr ⟨rfl, rfl, rfl⟩) rfl rfl dX4_init_411 (fun u248 => ?_)
  refine v_aload_n C.1 0 rfl rfl dX4_init_414 ?_
  refine v_chk (fun h249 => ?_)
  refine v_hget C (v := va_rf (hR u248 p0 54)) 3 54 (eq_of_beq h249) (by decide) rfl in_X4 (by decide) (Or.inl q1669) (fun _ h => h) (hF_r (ci := 3) (eq_of_beq h249) (by decide)) dX4_init_415 ?_
  refine v_deref (fun a250 e251 => ?_)
  refine v_iconst C.1 3 (by decide) dX4_init_418 ?_
  refine v_iconst C.1 1 (by decide) dX4_init_419 ?_
  refine v_chk (fun h253 => ?_)
  refine v_haiast C h253 dX4_init_420 (fun u252 => ?_)
  exact v_hvret C dX4_init_421
def hJ0_init (p0 : Nat) (u : HS) : Option (OH Unit) :=
  hret () u
theorem ctJ0_init (t : TT) (G : GH) (l : Launch) (hl0 : l.stackTraces = false) (p0 : Nat) (u : HS) : CtH mkU t G l yJ0_init cJ0_init 1 none 2 [.ref p0] u (hJ0_init p0 u) := by
  refine ctH_of [(0, .ref p0)] hl0 rfl (Nat.le_of_ble_eq_true rfl) rfl (fun K1 K2 p e s m args below meth c C => ?_)
  unfold hJ0_init
  refine v_aload_n C.1 0 rfl rfl dJ0_init_0 ?_
  refine v_objInit C q180 q161 q162 (by exact Nat.le_of_ble_eq_true rfl) (by exact Nat.le_of_ble_eq_true rfl) dJ0_init_1 ?_
  exact v_hvret C dJ0_init_4
theorem cwJ0_init {t : TT} {G : GH} {l : Launch} {p : Program} {s : State} {m : MethodId} {args : Array Value} {meth : Method} {c : Code} {y0 : MethodName} {cc0 : ByteArray} {nL0 : Nat} {ret0 : Option FieldType} (C : CxH t G l p s m args meth c y0 cc0 nL0 ret0) {index lv mc ms K1 K2 : Nat} (hq : Cond.methodLink y0.cls index yJ0_init ∈ lw_all) (hR : 2 + 1 ≤ lv) : CallB (rmH lv K1 K2) s args y0.cls index yJ0_init cJ0_init 1 none (ws_ yJ0_init cJ0_init 1 none) (rmH 2 mc ms) mc ms 0 ∧ yJ0_init.name = "<init>" ∧ (Cond.instanceMethod yJ0_init).before args s = true :=
  cwI 0 C.1.2.2.2.2.1 (lw_meth q179) rfl rfl rfl (C.1.2.2.2.2.1 _ q123) (C.1.2.2.2.2.1 _ hq) (C.1.2.2.2.2.1 _ q178) rfl (by decide +kernel) ⟨hR, by show 8 + (1 + 11) + 100 * 2 ≤ 100 * lv; omega⟩
def hJ1_init (p0 : Nat) (u : HS) : Option (OH Unit) :=
  hb (hJ0_init p0 u) fun _ u1 =>
  mchk (hC u1 p0 == 12) <|
  mlet (uI u1 p0 0 0) fun u3 =>
  hret () u3
theorem ctJ1_init (t : TT) (G : GH) (l : Launch) (hl0 : l.stackTraces = false) (p0 : Nat) (u : HS) : CtH mkU t G l yJ1_init cJ1_init 1 none 3 [.ref p0] u (hJ1_init p0 u) := by
  refine ctH_of [(0, .ref p0)] hl0 rfl (Nat.le_of_ble_eq_true rfl) rfl (fun K1 K2 p e s m args below meth c C => ?_)
  unfold hJ1_init
  refine v_aload_n C.1 0 rfl rfl dJ1_init_0 ?_
  refine v_callIH C [] [] (ctJ0_init t G l hl0 p0 u) (fun _ _ => cwJ0_init C q177 (by decide)) rfl rfl (by exact Nat.le_of_ble_eq_true rfl) dJ1_init_1 (fun _ u1 => ?_)
  refine v_aload_n C.1 0 rfl rfl dJ1_init_4 ?_
  refine v_iconst C.1 0 (by decide) dJ1_init_5 ?_
  refine v_chk (fun h2 => ?_)
  refine v_hputI C 11 0 (eq_of_beq h2) (by decide) rfl in_J2 tyJ2 tyJ2_ok nmJ2 (by decide) (by decide) q185 (fun _ h => h) (Or.inl rfl) ⟨rfl, rfl⟩ dJ1_init_6 (fun u3 => ?_)
  exact v_hvret C dJ1_init_9
theorem cwJ1_init {t : TT} {G : GH} {l : Launch} {p : Program} {s : State} {m : MethodId} {args : Array Value} {meth : Method} {c : Code} {y0 : MethodName} {cc0 : ByteArray} {nL0 : Nat} {ret0 : Option FieldType} (C : CxH t G l p s m args meth c y0 cc0 nL0 ret0) {index lv mc ms K1 K2 : Nat} (hq : Cond.methodLink y0.cls index yJ1_init ∈ lw_all) (hR : 3 + 1 ≤ lv) : CallB (rmH lv K1 K2) s args y0.cls index yJ1_init cJ1_init 1 none (ws_ yJ1_init cJ1_init 1 none) (rmH 3 mc ms) mc ms 0 ∧ yJ1_init.name = "<init>" ∧ (Cond.instanceMethod yJ1_init).before args s = true :=
  cwI 0 C.1.2.2.2.2.1 (lw_meth q176) rfl rfl rfl (C.1.2.2.2.2.1 _ q124) (C.1.2.2.2.2.1 _ hq) (C.1.2.2.2.2.1 _ q175) rfl (by decide +kernel) ⟨hR, by show 8 + (1 + 11) + 100 * 3 ≤ 100 * lv; omega⟩
def hJ2_init (p0 : Nat) (u : HS) : Option (OH Unit) :=
  hb (hJ1_init p0 u) fun _ u1 =>
  mlet (hK u1 0) fun a2 =>
  mchk (hC u1 p0 == 12) <|
  mlet (uR u1 p0 1 (some a2)) fun u6 =>
  hret () u6
theorem ctJ2_init (t : TT) (G : GH) (l : Launch) (hl0 : l.stackTraces = false) (p0 : Nat) (u : HS) : CtH mkU t G l yJ2_init cJ2_init 1 none 4 [.ref p0] u (hJ2_init p0 u) := by
  refine ctH_of [(0, .ref p0)] hl0 rfl (Nat.le_of_ble_eq_true rfl) rfl (fun K1 K2 p e s m args below meth c C => ?_)
  unfold hJ2_init
  refine v_aload_n C.1 0 rfl rfl dJ2_init_0 ?_
  refine v_callIH C [] [] (ctJ1_init t G l hl0 p0 u) (fun _ _ => cwJ1_init C q174 (by decide)) rfl rfl (by exact Nat.le_of_ble_eq_true rfl) dJ2_init_1 (fun _ u1 => ?_)
  refine v_aload_n C.1 0 rfl rfl dJ2_init_4 ?_
  refine v_K (fun ek4 _ => ?_)
  refine v_letE (fun a2 e3 => ?_)
  refine v_gets C (v := .ref a2) (by rw [e3, ek4]; exact C.2.1.dflt) q181 (fun _ h => h) dJ2_init_5 ?_
  refine v_chk (fun h5 => ?_)
  refine v_hputR C (some a2) 11 1 (eq_of_beq h5) (by decide) rfl in_J2 tyJ2 tyJ2_ok nmJ2 (by decide) (by decide) q183 (fun _ h => h) (Or.inl rfl) rfl rfl dJ2_init_8 (fun u6 => ?_)
  exact v_hvret C dJ2_init_11
theorem cwJ2_init {t : TT} {G : GH} {l : Launch} {p : Program} {s : State} {m : MethodId} {args : Array Value} {meth : Method} {c : Code} {y0 : MethodName} {cc0 : ByteArray} {nL0 : Nat} {ret0 : Option FieldType} (C : CxH t G l p s m args meth c y0 cc0 nL0 ret0) {index lv mc ms K1 K2 : Nat} (hq : Cond.methodLink y0.cls index yJ2_init ∈ lw_all) (hR : 4 + 1 ≤ lv) : CallB (rmH lv K1 K2) s args y0.cls index yJ2_init cJ2_init 1 none (ws_ yJ2_init cJ2_init 1 none) (rmH 4 mc ms) mc ms 0 ∧ yJ2_init.name = "<init>" ∧ (Cond.instanceMethod yJ2_init).before args s = true :=
  cwI 0 C.1.2.2.2.2.1 (lw_meth q173) rfl rfl rfl (C.1.2.2.2.2.1 _ q125) (C.1.2.2.2.2.1 _ hq) (C.1.2.2.2.2.1 _ q172) rfl (by decide +kernel) ⟨hR, by show 8 + (1 + 11) + 100 * 4 ≤ 100 * lv; omega⟩
def hX2_init (p0 : Nat) (u : HS) : Option (OH Unit) :=
  mlet (hZ u) fun a1 =>
  addc 1 (cN 11) <|
  mlet (nO u 11) fun u3 =>
  hb (hJ2_init a1 u3) fun _ u4 =>
  mchk (hC u4 p0 == 2) <|
  mlet (uR u4 p0 0 (some a1)) fun u6 =>
  mlet (hZ u6) fun a7 =>
  addc 1 (cN 11) <|
  mlet (nO u6 11) fun u9 =>
  hb (hJ2_init a7 u9) fun _ u10 =>
  mchk (hC u10 p0 == 2) <|
  mlet (uR u10 p0 1 (some a7)) fun u12 =>
  mlet (hZ u12) fun a13 =>
  addc 1 (cN 11) <|
  mlet (nO u12 11) fun u15 =>
  hb (hJ2_init a13 u15) fun _ u16 =>
  mchk (hC u16 p0 == 2) <|
  mlet (uR u16 p0 2 (some a13)) fun u18 =>
  mlet (hZ u18) fun a19 =>
  addc 1 (9) <|
  mlet (nA u18 1 (9)) fun u21 =>
  mchk (hC u21 p0 == 2) <|
  mlet (uR u21 p0 3 (some a19)) fun u23 =>
  mlet (hZ u23) fun a24 =>
  addc 1 (3) <|
  mlet (nA u23 1 (3)) fun u26 =>
  mchk (hC u26 p0 == 2) <|
  mlet (uR u26 p0 4 (some a24)) fun u28 =>
  mlet (hZ u28) fun a29 =>
  addc 1 (3) <|
  mlet (nA u28 1 (3)) fun u31 =>
  mchk (hC u31 p0 == 2) <|
  mlet (uR u31 p0 5 (some a29)) fun u33 =>
  mlet (hZ u33) fun a34 =>
  addc 1 (cN 11) <|
  mlet (nO u33 11) fun u36 =>
  hb (hJ2_init a34 u36) fun _ u37 =>
  mchk (hC u37 p0 == 2) <|
  mlet (uR u37 p0 6 (some a34)) fun u39 =>
  hret () u39
theorem ctX2_init (t : TT) (G : GH) (l : Launch) (hl0 : l.stackTraces = false) (p0 : Nat) (u : HS) : CtH mkU t G l yX2_init cX2_init 1 none 5 [.ref p0] u (hX2_init p0 u) := by
  refine ctH_of [(0, .ref p0)] hl0 rfl (Nat.le_of_ble_eq_true rfl) rfl (fun K1 K2 p e s m args below meth c C => ?_)
  unfold hX2_init
  refine v_aload_n C.1 0 rfl rfl dX2_init_0 ?_
  refine v_objInit C q168 q161 q162 (by exact Nat.le_of_ble_eq_true rfl) (by exact Nat.le_of_ble_eq_true rfl) dX2_init_1 ?_
  refine v_aload_n C.1 0 rfl rfl dX2_init_4 ?_
  refine v_letE (fun a1 e2 => ?_)
  refine v_hnew C 11 e2 (by decide) rfl in_J2 tyJ2 tyJ2_ok df_J2 q169 q170 q125 dX2_init_5 (fun u3 => ?_)
  refine v_dup C.1 rfl dX2_init_8 ?_
  refine v_callIH C [] [.ref a1, .ref p0] (ctJ2_init t G l hl0 a1 u3) (fun _ _ => cwJ2_init C q171 (by decide)) rfl rfl (by exact Nat.le_of_ble_eq_true rfl) dX2_init_9 (fun _ u4 => ?_)
  refine v_chk (fun h5 => ?_)
  refine v_hputR C (some a1) 1 0 (eq_of_beq h5) (by decide) rfl in_X2 tyX2 tyX2_ok nmX2 (by decide) (by decide) q196 (fun _ h => h) (Or.inr ⟨rfl, rfl, rfl⟩) rfl rfl dX2_init_12 (fun u6 => ?_)
  refine v_aload_n C.1 0 rfl rfl dX2_init_15 ?_
  refine v_letE (fun a7 e8 => ?_)
  refine v_hnew C 11 e8 (by decide) rfl in_J2 tyJ2 tyJ2_ok df_J2 q169 q170 q125 dX2_init_16 (fun u9 => ?_)
  refine v_dup C.1 rfl dX2_init_19 ?_
  refine v_callIH C [] [.ref a7, .ref p0] (ctJ2_init t G l hl0 a7 u9) (fun _ _ => cwJ2_init C q171 (by decide)) rfl rfl (by exact Nat.le_of_ble_eq_true rfl) dX2_init_20 (fun _ u10 => ?_)
  refine v_chk (fun h11 => ?_)
  refine v_hputR C (some a7) 1 1 (eq_of_beq h11) (by decide) rfl in_X2 tyX2 tyX2_ok nmX2 (by decide) (by decide) q200 (fun _ h => h) (Or.inr ⟨rfl, rfl, rfl⟩) rfl rfl dX2_init_23 (fun u12 => ?_)
  refine v_aload_n C.1 0 rfl rfl dX2_init_26 ?_
  refine v_letE (fun a13 e14 => ?_)
  refine v_hnew C 11 e14 (by decide) rfl in_J2 tyJ2 tyJ2_ok df_J2 q169 q170 q125 dX2_init_27 (fun u15 => ?_)
  refine v_dup C.1 rfl dX2_init_30 ?_
  refine v_callIH C [] [.ref a13, .ref p0] (ctJ2_init t G l hl0 a13 u15) (fun _ _ => cwJ2_init C q171 (by decide)) rfl rfl (by exact Nat.le_of_ble_eq_true rfl) dX2_init_31 (fun _ u16 => ?_)
  refine v_chk (fun h17 => ?_)
  refine v_hputR C (some a13) 1 2 (eq_of_beq h17) (by decide) rfl in_X2 tyX2 tyX2_ok nmX2 (by decide) (by decide) q204 (fun _ h => h) (Or.inr ⟨rfl, rfl, rfl⟩) rfl rfl dX2_init_34 (fun u18 => ?_)
  refine v_aload_n C.1 0 rfl rfl dX2_init_37 ?_
  refine v_bipush C.1 9 (by decide) dX2_init_38 ?_
  refine v_letE (fun a19 e20 => ?_)
  refine v_hnewa C 1 e20 (by decide) rfl q195 (by decide) (by decide) (by decide) dX2_init_40 (fun u21 => ?_)
  refine v_chk (fun h22 => ?_)
  refine v_hputR C (some a19) 1 3 (eq_of_beq h22) (by decide) rfl in_X2 tyX2 tyX2_ok nmX2 (by decide) (by decide) q207 (fun _ h => h) (Or.inr ⟨rfl, rfl, rfl⟩) rfl rfl dX2_init_42 (fun u23 => ?_)
  refine v_aload_n C.1 0 rfl rfl dX2_init_45 ?_
  refine v_iconst C.1 3 (by decide) dX2_init_46 ?_
  refine v_letE (fun a24 e25 => ?_)
  refine v_hnewa C 1 e25 (by decide) rfl q195 (by decide) (by decide) (by decide) dX2_init_47 (fun u26 => ?_)
  refine v_chk (fun h27 => ?_)
  refine v_hputR C (some a24) 1 4 (eq_of_beq h27) (by decide) rfl in_X2 tyX2 tyX2_ok nmX2 (by decide) (by decide) q211 (fun _ h => h) (Or.inr ⟨rfl, rfl, rfl⟩) rfl rfl dX2_init_49 (fun u28 => ?_)
  refine v_aload_n C.1 0 rfl rfl dX2_init_52 ?_
  refine v_iconst C.1 3 (by decide) dX2_init_53 ?_
  refine v_letE (fun a29 e30 => ?_)
  refine v_hnewa C 1 e30 (by decide) rfl q195 (by decide) (by decide) (by decide) dX2_init_54 (fun u31 => ?_)
  refine v_chk (fun h32 => ?_)
  refine v_hputR C (some a29) 1 5 (eq_of_beq h32) (by decide) rfl in_X2 tyX2 tyX2_ok nmX2 (by decide) (by decide) q215 (fun _ h => h) (Or.inr ⟨rfl, rfl, rfl⟩) rfl rfl dX2_init_56 (fun u33 => ?_)
  refine v_aload_n C.1 0 rfl rfl dX2_init_59 ?_
  refine v_letE (fun a34 e35 => ?_)
  refine v_hnew C 11 e35 (by decide) rfl in_J2 tyJ2 tyJ2_ok df_J2 q169 q170 q125 dX2_init_60 (fun u36 => ?_)
  refine v_dup C.1 rfl dX2_init_63 ?_
  refine v_callIH C [] [.ref a34, .ref p0] (ctJ2_init t G l hl0 a34 u36) (fun _ _ => cwJ2_init C q171 (by decide)) rfl rfl (by exact Nat.le_of_ble_eq_true rfl) dX2_init_64 (fun _ u37 => ?_)
  refine v_chk (fun h38 => ?_)
  refine v_hputR C (some a34) 1 6 (eq_of_beq h38) (by decide) rfl in_X2 tyX2 tyX2_ok nmX2 (by decide) (by decide) q219 (fun _ h => h) (Or.inr ⟨rfl, rfl, rfl⟩) rfl rfl dX2_init_67 (fun u39 => ?_)
  exact v_hvret C dX2_init_70
theorem cwX2_initN {t : TT} {G : GH} {l : Launch} {p : Program} {s : State} {m : MethodId} {args : Array Value} {meth : Method} {c : Code} {y0 : MethodName} {cc0 : ByteArray} {nL0 : Nat} {ret0 : Option FieldType} (C : CxH t G l p s m args meth c y0 cc0 nL0 ret0) {index lv mc ms K1 K2 : Nat} {host : String} (hq : Cond.methodLinkNest y0.cls index yX2_init host ∈ lw_tbl) (hR : 5 + 1 ≤ lv) : va_CN (rmH lv K1 K2) s args y0.cls index yX2_init host cX2_init 1 none (ws_ yX2_init cX2_init 1 none) (rmH 5 mc ms) mc ms 0 ∧ yX2_init.name = "<init>" ∧ (Cond.instanceMethod yX2_init).before args s = true :=
  ⟨va_cnB 0 C.1.2.2.2.2.1 (lw_meth q167) rfl rfl rfl (C.1.2.2.2.2.2.2.2.2.2.1 _ hq rfl) (C.1.2.2.2.2.1 _ q122) (by decide +kernel) ⟨hR, by show 8 + (1 + 11) + 100 * 5 ≤ 100 * lv; omega⟩, ⟨rfl, C.1.2.2.2.2.1 _ q166⟩⟩
def hX3_init_65 (p0 : Nat) (p1 : Nat) (k : Int32 → HS → Option (OH Unit)) (x2 : Int32) (u : HS) : Option (OH Unit) :=
  if 9 ≤ x2 then
    hret () u
  else
    mchk (hC u p0 == 3) <|
    mderef (hR u p0 0) fun a2 =>
    mchk (inA u x2 a2 21) <|
    mlet (uA u a2 x2.toNatClampNeg (-1)) fun u4 =>
    mchk (hC u4 p0 == 3) <|
    mderef (hR u4 p0 1) fun a7 =>
    mchk (inA u4 x2 a7 21) <|
    mlet (uA u4 a7 x2.toNatClampNeg (-1)) fun u9 =>
    k (x2 + 1) u9
theorem whX3_init_65 {K1 K2 : Nat} {p : Program} {e : Env} {s : State} {m : MethodId} {args : Array Value} {below : List Frame} {meth : Method} {c : Code} (hl0 : l.stackTraces = false) (C : CxH t G l p s m args meth c yX3_init cX3_init 3 none) (p0 : Nat) (p1 : Nat) (n : Nat) (x2 : Int32) (u : HS) : VH mkU t G p l e 5 K1 K2 s m args below meth c 3 65 [(0, .ref p0), (2, .int x2)] [] u (ml1 (hX3_init_65 p0 p1) n x2 u) := by
  refine vl1 (L := fun x2 => [(0, .ref p0), (2, .int x2)]) (fun k hk x2 u => ?_) n x2 u
  unfold hX3_init_65
  refine v_iload_n C.1 1 rfl rfl dX3_init_65 ?_
  refine v_bipush C.1 9 (by decide) dX3_init_66 ?_
  refine v_icmp_ge C.1 91 (by decide) dX3_init_68 (fun _ => ?_) (fun _ => ?_)
  · exact v_hvret C dX3_init_91
  · refine v_aload_n C.1 0 rfl rfl dX3_init_71 ?_
    refine v_chk (fun h1 => ?_)
    refine v_hget C (v := va_rf (hR u p0 0)) 2 0 (eq_of_beq h1) (by decide) rfl in_X3 (by decide) (Or.inl q254) (fun _ h => h) (hF_r (ci := 2) (eq_of_beq h1) (by decide)) dX3_init_72 ?_
    refine v_deref (fun a2 e3 => ?_)
    refine v_iload_n C.1 1 rfl rfl dX3_init_75 ?_
    refine v_iconst C.1 (-1) (by decide) dX3_init_76 ?_
    refine v_chk (fun h5 => ?_)
    refine v_haiast C h5 dX3_init_77 (fun u4 => ?_)
    refine v_aload_n C.1 0 rfl rfl dX3_init_78 ?_
    refine v_chk (fun h6 => ?_)
    refine v_hget C (v := va_rf (hR u4 p0 1)) 2 1 (eq_of_beq h6) (by decide) rfl in_X3 (by decide) (Or.inl q256) (fun _ h => h) (hF_r (ci := 2) (eq_of_beq h6) (by decide)) dX3_init_79 ?_
    refine v_deref (fun a7 e8 => ?_)
    refine v_iload_n C.1 1 rfl rfl dX3_init_82 ?_
    refine v_iconst C.1 (-1) (by decide) dX3_init_83 ?_
    refine v_chk (fun h10 => ?_)
    refine v_haiast C h10 dX3_init_84 (fun u9 => ?_)
    refine v_iinc C.1 1 [(2, .int (x2 + 1)), (0, .ref p0)] 1 rfl (by decide) (by decide) rfl dX3_init_85 ?_
    refine v_goto C.1 65 (by decide) dX3_init_88 ?_
    refine v_sub [1, 0] rfl ?_
    exact hk (x2 + 1) u9
def hX3_init (p0 : Nat) (p1 : Nat) (u : HS) : Option (OH Unit) :=
  mchk (hC u p0 == 3) <|
  mlet (uR u p0 11 (some p1)) fun u2 =>
  mlet (hZ u2) fun a3 =>
  addc 1 (9) <|
  mlet (nA u2 1 (9)) fun u5 =>
  mchk (hC u5 p0 == 3) <|
  mlet (uR u5 p0 0 (some a3)) fun u7 =>
  mlet (hZ u7) fun a8 =>
  addc 1 (9) <|
  mlet (nA u7 1 (9)) fun u10 =>
  mchk (hC u10 p0 == 3) <|
  mlet (uR u10 p0 1 (some a8)) fun u12 =>
  mlet (hZ u12) fun a13 =>
  addc 1 (9) <|
  mlet (nA u12 1 (9)) fun u15 =>
  mchk (hC u15 p0 == 3) <|
  mlet (uR u15 p0 2 (some a13)) fun u17 =>
  mlet (hZ u17) fun a18 =>
  addc 1 (3) <|
  mlet (nA u17 1 (3)) fun u20 =>
  mchk (hC u20 p0 == 3) <|
  mlet (uR u20 p0 3 (some a18)) fun u22 =>
  mlet (hZ u22) fun a23 =>
  addc 1 (3) <|
  mlet (nA u22 1 (3)) fun u25 =>
  mchk (hC u25 p0 == 3) <|
  mlet (uR u25 p0 4 (some a23)) fun u27 =>
  mlet (hZ u27) fun a28 =>
  addc 1 (cN 11) <|
  mlet (nO u27 11) fun u30 =>
  hb (hJ2_init a28 u30) fun _ u31 =>
  mchk (hC u31 p0 == 3) <|
  mlet (uR u31 p0 5 (some a28)) fun u33 =>
  mchk (hC u33 p0 == 3) <|
  mlet (uI u33 p0 10 1) fun u35 =>
  ml1 (hX3_init_65 p0 p1) FUEL 0 u35
theorem ctX3_init (t : TT) (G : GH) (l : Launch) (hl0 : l.stackTraces = false) (p0 : Nat) (p1 : Nat) (u : HS) : CtH mkU t G l yX3_init cX3_init 3 none 5 [.ref p0, .ref p1] u (hX3_init p0 p1 u) := by
  refine ctH_of [(0, .ref p0), (1, .ref p1)] hl0 rfl (Nat.le_of_ble_eq_true rfl) rfl (fun K1 K2 p e s m args below meth c C => ?_)
  unfold hX3_init
  refine v_aload_n C.1 0 rfl rfl dX3_init_0 ?_
  refine v_aload_n C.1 1 rfl rfl dX3_init_1 ?_
  refine v_chk (fun h1 => ?_)
  refine v_hputR C (some p1) 2 11 (eq_of_beq h1) (by decide) rfl in_X3 tyX3 tyX3_ok nmX3 (by decide) (by decide) q278 (fun _ h => h) (Or.inr ⟨rfl, rfl, rfl⟩) rfl rfl dX3_init_2 (fun u2 => ?_)
  refine v_aload_n C.1 0 rfl rfl dX3_init_5 ?_
  refine v_objInit C q251 q161 q162 (by exact Nat.le_of_ble_eq_true rfl) (by exact Nat.le_of_ble_eq_true rfl) dX3_init_6 ?_
  refine v_aload_n C.1 0 rfl rfl dX3_init_9 ?_
  refine v_bipush C.1 9 (by decide) dX3_init_10 ?_
  refine v_letE (fun a3 e4 => ?_)
  refine v_hnewa C 1 e4 (by decide) rfl q195 (by decide) (by decide) (by decide) dX3_init_12 (fun u5 => ?_)
  refine v_chk (fun h6 => ?_)
  refine v_hputR C (some a3) 2 0 (eq_of_beq h6) (by decide) rfl in_X3 tyX3 tyX3_ok nmX3 (by decide) (by decide) q254 (fun _ h => h) (Or.inr ⟨rfl, rfl, rfl⟩) rfl rfl dX3_init_14 (fun u7 => ?_)
  refine v_aload_n C.1 0 rfl rfl dX3_init_17 ?_
  refine v_bipush C.1 9 (by decide) dX3_init_18 ?_
  refine v_letE (fun a8 e9 => ?_)
  refine v_hnewa C 1 e9 (by decide) rfl q195 (by decide) (by decide) (by decide) dX3_init_20 (fun u10 => ?_)
  refine v_chk (fun h11 => ?_)
  refine v_hputR C (some a8) 2 1 (eq_of_beq h11) (by decide) rfl in_X3 tyX3 tyX3_ok nmX3 (by decide) (by decide) q256 (fun _ h => h) (Or.inr ⟨rfl, rfl, rfl⟩) rfl rfl dX3_init_22 (fun u12 => ?_)
  refine v_aload_n C.1 0 rfl rfl dX3_init_25 ?_
  refine v_bipush C.1 9 (by decide) dX3_init_26 ?_
  refine v_letE (fun a13 e14 => ?_)
  refine v_hnewa C 1 e14 (by decide) rfl q195 (by decide) (by decide) (by decide) dX3_init_28 (fun u15 => ?_)
  refine v_chk (fun h16 => ?_)
  refine v_hputR C (some a13) 2 2 (eq_of_beq h16) (by decide) rfl in_X3 tyX3 tyX3_ok nmX3 (by decide) (by decide) q258 (fun _ h => h) (Or.inr ⟨rfl, rfl, rfl⟩) rfl rfl dX3_init_30 (fun u17 => ?_)
  refine v_aload_n C.1 0 rfl rfl dX3_init_33 ?_
  refine v_iconst C.1 3 (by decide) dX3_init_34 ?_
  refine v_letE (fun a18 e19 => ?_)
  refine v_hnewa C 1 e19 (by decide) rfl q195 (by decide) (by decide) (by decide) dX3_init_35 (fun u20 => ?_)
  refine v_chk (fun h21 => ?_)
  refine v_hputR C (some a18) 2 3 (eq_of_beq h21) (by decide) rfl in_X3 tyX3 tyX3_ok nmX3 (by decide) (by decide) q261 (fun _ h => h) (Or.inr ⟨rfl, rfl, rfl⟩) rfl rfl dX3_init_37 (fun u22 => ?_)
  refine v_aload_n C.1 0 rfl rfl dX3_init_40 ?_
  refine v_iconst C.1 3 (by decide) dX3_init_41 ?_
  refine v_letE (fun a23 e24 => ?_)
  refine v_hnewa C 1 e24 (by decide) rfl q195 (by decide) (by decide) (by decide) dX3_init_42 (fun u25 => ?_)
  refine v_chk (fun h26 => ?_)
  refine v_hputR C (some a23) 2 4 (eq_of_beq h26) (by decide) rfl in_X3 tyX3 tyX3_ok nmX3 (by decide) (by decide) q264 (fun _ h => h) (Or.inr ⟨rfl, rfl, rfl⟩) rfl rfl dX3_init_44 (fun u27 => ?_)
  refine v_aload_n C.1 0 rfl rfl dX3_init_47 ?_
  refine v_letE (fun a28 e29 => ?_)
  refine v_hnew C 11 e29 (by decide) rfl in_J2 tyJ2 tyJ2_ok df_J2 q252 q170 q125 dX3_init_48 (fun u30 => ?_)
  refine v_dup C.1 rfl dX3_init_51 ?_
  refine v_callIH C [] [.ref a28, .ref p0] (ctJ2_init t G l hl0 a28 u30) (fun _ _ => cwJ2_init C q253 (by decide)) rfl rfl (by exact Nat.le_of_ble_eq_true rfl) dX3_init_52 (fun _ u31 => ?_)
  refine v_chk (fun h32 => ?_)
  refine v_hputR C (some a28) 2 5 (eq_of_beq h32) (by decide) rfl in_X3 tyX3 tyX3_ok nmX3 (by decide) (by decide) q266 (fun _ h => h) (Or.inr ⟨rfl, rfl, rfl⟩) rfl rfl dX3_init_55 (fun u33 => ?_)
  refine v_aload_n C.1 0 rfl rfl dX3_init_58 ?_
  refine v_iconst C.1 1 (by decide) dX3_init_59 ?_
  refine v_chk (fun h34 => ?_)
  refine v_hputI C 2 10 (eq_of_beq h34) (by decide) rfl in_X3 tyX3 tyX3_ok nmX3 (by decide) (by decide) q276 (fun _ h => h) (Or.inl rfl) ⟨rfl, rfl⟩ dX3_init_60 (fun u35 => ?_)
  refine v_iconst C.1 0 (by decide) dX3_init_63 ?_
  refine v_istore_n C.1 [(2, .int 0), (0, .ref p0), (1, .ref p1)] rfl (by decide) rfl dX3_init_64 ?_
  refine v_sub [1, 0] rfl ?_
  exact whX3_init_65 hl0 C p0 p1 FUEL 0 u35
theorem cwX3_init {t : TT} {G : GH} {l : Launch} {p : Program} {s : State} {m : MethodId} {args : Array Value} {meth : Method} {c : Code} {y0 : MethodName} {cc0 : ByteArray} {nL0 : Nat} {ret0 : Option FieldType} (C : CxH t G l p s m args meth c y0 cc0 nL0 ret0) {index lv mc ms K1 K2 : Nat} (hq : Cond.methodLink y0.cls index yX3_init ∈ lw_all) (hR : 5 + 1 ≤ lv) : CallB (rmH lv K1 K2) s args y0.cls index yX3_init cX3_init 3 none (ws_ yX3_init cX3_init 3 none) (rmH 5 mc ms) mc ms 1 ∧ yX3_init.name = "<init>" ∧ (Cond.instanceMethod yX3_init).before args s = true :=
  cwI 1 C.1.2.2.2.2.1 (lw_meth q250) rfl rfl rfl (C.1.2.2.2.2.1 _ q126) (C.1.2.2.2.2.1 _ hq) (C.1.2.2.2.2.1 _ q249) rfl (by decide +kernel) ⟨hR, by show 8 + (3 + 11) + 100 * 5 ≤ 100 * lv; omega⟩
def hX1_init (p0 : Nat) (u : HS) : Option (OH Unit) :=
  mlet (hZ u) fun a1 =>
  addc 1 (8) <|
  mlet (nA u 1 (8)) fun u3 =>
  mchk (hC u3 p0 == 1) <|
  mlet (uR u3 p0 0 (some a1)) fun u5 =>
  mchk (hC u5 p0 == 1) <|
  mlet (uI u5 p0 1 (-1)) fun u7 =>
  mlet (hZ u7) fun a8 =>
  addc 1 (cN 1) <|
  mlet (nO u7 1) fun u10 =>
  hb (hX2_init a8 u10) fun _ u11 =>
  mchk (hC u11 p0 == 1) <|
  mlet (uR u11 p0 2 (some a8)) fun u13 =>
  mlet (hZ u13) fun a14 =>
  addc 1 (cN 2) <|
  mlet (nO u13 2) fun u16 =>
  hb (hX3_init a14 p0 u16) fun _ u17 =>
  mchk (hC u17 p0 == 1) <|
  mlet (uR u17 p0 3 (some a14)) fun u19 =>
  mlet (hZ u19) fun a20 =>
  addc 1 (700) <|
  mlet (nA u19 3 (700)) fun u22 =>
  mchk (hC u22 p0 == 1) <|
  mlet (uR u22 p0 4 (some a20)) fun u24 =>
  mchk (hC u24 p0 == 1) <|
  mlet (uI u24 p0 6 (-1)) fun u26 =>
  mlet (hZ u26) fun a27 =>
  addc 1 (3) <|
  mlet (nA u26 1 (3)) fun u29 =>
  mchk (hC u29 p0 == 1) <|
  mlet (uR u29 p0 7 (some a27)) fun u31 =>
  mlet (hZ u31) fun a32 =>
  addc 1 (cN 11) <|
  mlet (nO u31 11) fun u34 =>
  hb (hJ2_init a32 u34) fun _ u35 =>
  mchk (hC u35 p0 == 1) <|
  mlet (uR u35 p0 8 (some a32)) fun u37 =>
  mlet (hZ u37) fun a38 =>
  addc 1 (cN 11) <|
  mlet (nO u37 11) fun u40 =>
  hb (hJ2_init a38 u40) fun _ u41 =>
  mchk (hC u41 p0 == 1) <|
  mlet (uR u41 p0 9 (some a38)) fun u43 =>
  hret () u43
theorem ctX1_init (t : TT) (G : GH) (l : Launch) (hl0 : l.stackTraces = false) (p0 : Nat) (u : HS) : CtH mkU t G l yX1_init cX1_init 1 none 6 [.ref p0] u (hX1_init p0 u) := by
  refine ctH_of [(0, .ref p0)] hl0 rfl (Nat.le_of_ble_eq_true rfl) rfl (fun K1 K2 p e s m args below meth c C => ?_)
  unfold hX1_init
  refine v_aload_n C.1 0 rfl rfl dX1_init_0 ?_
  refine v_objInit C q160 q161 q162 (by exact Nat.le_of_ble_eq_true rfl) (by exact Nat.le_of_ble_eq_true rfl) dX1_init_1 ?_
  refine v_aload_n C.1 0 rfl rfl dX1_init_4 ?_
  refine v_bipush C.1 8 (by decide) dX1_init_5 ?_
  refine v_letE (fun a1 e2 => ?_)
  refine v_hnewa C 1 e2 (by decide) rfl q195 (by decide) (by decide) (by decide) dX1_init_7 (fun u3 => ?_)
  refine v_chk (fun h4 => ?_)
  refine v_hputR C (some a1) 0 0 (eq_of_beq h4) (by decide) rfl in_X1 tyX1 tyX1_ok nmX1 (by decide) (by decide) q306 (fun _ h => h) (Or.inr ⟨rfl, rfl, rfl⟩) rfl rfl dX1_init_9 (fun u5 => ?_)
  refine v_aload_n C.1 0 rfl rfl dX1_init_12 ?_
  refine v_iconst C.1 (-1) (by decide) dX1_init_13 ?_
  refine v_chk (fun h6 => ?_)
  refine v_hputI C 0 1 (eq_of_beq h6) (by decide) rfl in_X1 tyX1 tyX1_ok nmX1 (by decide) (by decide) q308 (fun _ h => h) (Or.inl rfl) ⟨rfl, rfl⟩ dX1_init_14 (fun u7 => ?_)
  refine v_aload_n C.1 0 rfl rfl dX1_init_17 ?_
  refine v_letE (fun a8 e9 => ?_)
  refine v_hnew C 1 e9 (by decide) rfl in_X2 tyX2 tyX2_ok df_X2 q163 q164 q122 dX1_init_18 (fun u10 => ?_)
  refine v_dup C.1 rfl dX1_init_21 ?_
  refine v_callINH C [] [.ref a8, .ref p0] (ctX2_init t G l hl0 a8 u10) (fun _ _ => cwX2_initN C q165 (by decide)) rfl rfl (by exact Nat.le_of_ble_eq_true rfl) dX1_init_22 (fun _ u11 => ?_)
  refine v_chk (fun h12 => ?_)
  refine v_hputR C (some a8) 0 2 (eq_of_beq h12) (by decide) rfl in_X1 tyX1 tyX1_ok nmX1 (by decide) (by decide) q311 (fun _ h => h) (Or.inl rfl) rfl rfl dX1_init_25 (fun u13 => ?_)
  refine v_aload_n C.1 0 rfl rfl dX1_init_28 ?_
  refine v_letE (fun a14 e15 => ?_)
  refine v_hnew C 2 e15 (by decide) rfl in_X3 tyX3 tyX3_ok df_X3 q246 q247 q126 dX1_init_29 (fun u16 => ?_)
  refine v_dup C.1 rfl dX1_init_32 ?_
  refine v_aload_n C.1 0 rfl rfl dX1_init_33 ?_
  refine v_callIH C [.ref p0] [.ref a14, .ref p0] (ctX3_init t G l hl0 a14 p0 u16) (fun _ _ => cwX3_init C q248 (by decide)) rfl rfl (by exact Nat.le_of_ble_eq_true rfl) dX1_init_34 (fun _ u17 => ?_)
  refine v_chk (fun h18 => ?_)
  refine v_hputR C (some a14) 0 3 (eq_of_beq h18) (by decide) rfl in_X1 tyX1 tyX1_ok nmX1 (by decide) (by decide) q312 (fun _ h => h) (Or.inl rfl) rfl rfl dX1_init_37 (fun u19 => ?_)
  refine v_aload_n C.1 0 rfl rfl dX1_init_40 ?_
  refine v_sipush C.1 700 (by decide) dX1_init_41 ?_
  refine v_letE (fun a20 e21 => ?_)
  refine v_hnewa C 3 e21 (by decide) rfl q353 (by decide) (by decide) (by decide) dX1_init_44 (fun u22 => ?_)
  refine v_chk (fun h23 => ?_)
  refine v_hputR C (some a20) 0 4 (eq_of_beq h23) (by decide) rfl in_X1 tyX1 tyX1_ok nmX1 (by decide) (by decide) q314 (fun _ h => h) (Or.inr ⟨rfl, rfl, rfl⟩) rfl rfl dX1_init_46 (fun u24 => ?_)
  refine v_aload_n C.1 0 rfl rfl dX1_init_49 ?_
  refine v_iconst C.1 (-1) (by decide) dX1_init_50 ?_
  refine v_chk (fun h25 => ?_)
  refine v_hputI C 0 6 (eq_of_beq h25) (by decide) rfl in_X1 tyX1 tyX1_ok nmX1 (by decide) (by decide) q316 (fun _ h => h) (Or.inl rfl) ⟨rfl, rfl⟩ dX1_init_51 (fun u26 => ?_)
  refine v_aload_n C.1 0 rfl rfl dX1_init_54 ?_
  refine v_iconst C.1 3 (by decide) dX1_init_55 ?_
  refine v_letE (fun a27 e28 => ?_)
  refine v_hnewa C 1 e28 (by decide) rfl q195 (by decide) (by decide) (by decide) dX1_init_56 (fun u29 => ?_)
  refine v_chk (fun h30 => ?_)
  refine v_hputR C (some a27) 0 7 (eq_of_beq h30) (by decide) rfl in_X1 tyX1 tyX1_ok nmX1 (by decide) (by decide) q317 (fun _ h => h) (Or.inr ⟨rfl, rfl, rfl⟩) rfl rfl dX1_init_58 (fun u31 => ?_)
  refine v_aload_n C.1 0 rfl rfl dX1_init_61 ?_
  refine v_letE (fun a32 e33 => ?_)
  refine v_hnew C 11 e33 (by decide) rfl in_J2 tyJ2 tyJ2_ok df_J2 q304 q170 q125 dX1_init_62 (fun u34 => ?_)
  refine v_dup C.1 rfl dX1_init_65 ?_
  refine v_callIH C [] [.ref a32, .ref p0] (ctJ2_init t G l hl0 a32 u34) (fun _ _ => cwJ2_init C q305 (by decide)) rfl rfl (by exact Nat.le_of_ble_eq_true rfl) dX1_init_66 (fun _ u35 => ?_)
  refine v_chk (fun h36 => ?_)
  refine v_hputR C (some a32) 0 8 (eq_of_beq h36) (by decide) rfl in_X1 tyX1 tyX1_ok nmX1 (by decide) (by decide) q318 (fun _ h => h) (Or.inl rfl) rfl rfl dX1_init_69 (fun u37 => ?_)
  refine v_aload_n C.1 0 rfl rfl dX1_init_72 ?_
  refine v_letE (fun a38 e39 => ?_)
  refine v_hnew C 11 e39 (by decide) rfl in_J2 tyJ2 tyJ2_ok df_J2 q304 q170 q125 dX1_init_73 (fun u40 => ?_)
  refine v_dup C.1 rfl dX1_init_76 ?_
  refine v_callIH C [] [.ref a38, .ref p0] (ctJ2_init t G l hl0 a38 u40) (fun _ _ => cwJ2_init C q305 (by decide)) rfl rfl (by exact Nat.le_of_ble_eq_true rfl) dX1_init_77 (fun _ u41 => ?_)
  refine v_chk (fun h42 => ?_)
  refine v_hputR C (some a38) 0 9 (eq_of_beq h42) (by decide) rfl in_X1 tyX1 tyX1_ok nmX1 (by decide) (by decide) q319 (fun _ h => h) (Or.inl rfl) rfl rfl dX1_init_80 (fun u43 => ?_)
  exact v_hvret C dX1_init_83
theorem cwX1_init {t : TT} {G : GH} {l : Launch} {p : Program} {s : State} {m : MethodId} {args : Array Value} {meth : Method} {c : Code} {y0 : MethodName} {cc0 : ByteArray} {nL0 : Nat} {ret0 : Option FieldType} (C : CxH t G l p s m args meth c y0 cc0 nL0 ret0) {index lv mc ms K1 K2 : Nat} (hq : Cond.methodLink y0.cls index yX1_init ∈ lw_all) (hR : 6 + 1 ≤ lv) : CallB (rmH lv K1 K2) s args y0.cls index yX1_init cX1_init 1 none (ws_ yX1_init cX1_init 1 none) (rmH 6 mc ms) mc ms 0 ∧ yX1_init.name = "<init>" ∧ (Cond.instanceMethod yX1_init).before args s = true :=
  cwI 0 C.1.2.2.2.2.1 (lw_meth q159) rfl rfl rfl (C.1.2.2.2.2.1 _ q121) (C.1.2.2.2.2.1 _ hq) (C.1.2.2.2.2.1 _ q158) rfl (by decide +kernel) ⟨hR, by show 8 + (1 + 11) + 100 * 6 ≤ 100 * lv; omega⟩
def hX1_feed_71 (p0 : Nat) (p1 : Int32) (p2 : Int32) (p3 : Int32) (p4 : Int32) (p5 : Int32) (k18 : Int32 → HS → Option (OH Int32)) (x6 : Int32) (s0 : Int32) (u : HS) : Option (OH Int32) :=
  mchk (hC u p0 == 1) <|
  mderef (hR u p0 4) fun a2 =>
  mchk (hC u p0 == 1) <|
  mchk (inA u ((hI u p0 5) + x6) a2 23) <|
  mlet (uA u a2 ((hI u p0 5) + x6).toNatClampNeg (Int32.toInt8 ((Int32.toInt8 (s0 >>> (((24 : Int32) - ((8 : Int32) * (x6 - x6 / 4 * 4))) &&& 31))).toInt32)).toInt32) fun u5 =>
  k18 (x6 + 1) u5
theorem whX1_feed_71 {K1 K2 : Nat} {p : Program} {e : Env} {s : State} {m : MethodId} {args : Array Value} {below : List Frame} {meth : Method} {c : Code} (hl0 : l.stackTraces = false) (C : CxH t G l p s m args meth c yX1_feed cX1_feed 8 (some .int)) (p0 : Nat) (p1 : Int32) (p2 : Int32) (p3 : Int32) (p4 : Int32) (p5 : Int32) (k18 : Int32 → HS → Option (OH Int32)) (hk18 : ∀ (x6 : Int32) (u : HS), VH mkI t G p l e 2 K1 K2 s m args below meth c 8 18 [(0, .ref p0), (1, .int p1), (2, .int p2), (3, .int p3), (4, .int p4), (5, .int p5), (6, .int x6)] [] u (k18 x6 u)) (x6 : Int32) (s0 : Int32) (u : HS) : VH mkI t G p l e 2 K1 K2 s m args below meth c 8 71 [(0, .ref p0), (1, .int p1), (2, .int p2), (3, .int p3), (4, .int p4), (5, .int p5), (6, .int x6)] [.int s0] u (hX1_feed_71 p0 p1 p2 p3 p4 p5 k18 x6 s0 u) := by
  unfold hX1_feed_71
  refine v_istore C.1 [(7, .int s0), (0, .ref p0), (1, .int p1), (2, .int p2), (3, .int p3), (4, .int p4), (5, .int p5), (6, .int x6)] (by decide) rfl dX1_feed_71 ?_
  refine v_aload_n C.1 1 rfl rfl dX1_feed_73 ?_
  refine v_chk (fun h1 => ?_)
  refine v_hget C (v := va_rf (hR u p0 4)) 0 4 (eq_of_beq h1) (by decide) rfl in_X1 (by decide) (Or.inl q314) (fun _ h => h) (hF_r (ci := 0) (eq_of_beq h1) (by decide)) dX1_feed_74 ?_
  refine v_deref (fun a2 e3 => ?_)
  refine v_aload_n C.1 1 rfl rfl dX1_feed_77 ?_
  refine v_chk (fun h4 => ?_)
  refine v_hget C (v := .int (hI u p0 5)) 0 5 (eq_of_beq h4) (by decide) rfl in_X1 (by decide) (Or.inl q315) (fun _ h => h) (hF_i (ci := 0) (eq_of_beq h4) (by decide)) dX1_feed_78 ?_
  refine v_iload C.1 7 rfl dX1_feed_81 ?_
  refine v_iadd C.1 dX1_feed_83 ?_
  refine v_iload C.1 0 rfl dX1_feed_84 ?_
  refine v_bipush C.1 24 (by decide) dX1_feed_86 ?_
  refine v_bipush C.1 8 (by decide) dX1_feed_88 ?_
  refine v_iload C.1 7 rfl dX1_feed_90 ?_
  refine v_iconst C.1 4 (by decide) dX1_feed_92 ?_
  refine v_irem C.1 (by decide) dX1_feed_93 ?_
  refine v_imul C.1 dX1_feed_94 ?_
  refine v_isub C.1 dX1_feed_95 ?_
  refine v_ishr C.1 dX1_feed_96 ?_
  refine v_i2b C.1 dX1_feed_97 ?_
  refine v_chk (fun h6 => ?_)
  refine v_habast C h6 dX1_feed_98 (fun u5 => ?_)
  refine v_iinc C.1 1 [(6, .int (x6 + 1)), (7, .int s0), (0, .ref p0), (1, .int p1), (2, .int p2), (3, .int p3), (4, .int p4), (5, .int p5)] 7 rfl (by decide) (by decide) rfl dX1_feed_99 ?_
  refine v_goto C.1 18 (by decide) dX1_feed_102 ?_
  refine v_sub [2, 3, 4, 5, 6, 7, 0] rfl ?_
  exact hk18 (x6 + 1) u5
def hX1_feed_18 (p0 : Nat) (p1 : Int32) (p2 : Int32) (p3 : Int32) (p4 : Int32) (p5 : Int32) (k : Int32 → HS → Option (OH Int32)) (x6 : Int32) (u : HS) : Option (OH Int32) :=
  if 20 ≤ x6 then
    mchk (hC u p0 == 1) <|
    mchk (hC u p0 == 1) <|
    mlet (uI u p0 5 ((hI u p0 5) + 20)) fun u3 =>
    mchk (hC u3 p0 == 1) <|
    hret (hI u3 p0 5) u3
  else
    if 4 ≤ x6 then
      if 8 ≤ x6 then
        if 12 ≤ x6 then
          if 16 ≤ x6 then
            hX1_feed_71 p0 p1 p2 p3 p4 p5 k x6 p5 u
          else
            hX1_feed_71 p0 p1 p2 p3 p4 p5 k x6 p4 u
        else
          hX1_feed_71 p0 p1 p2 p3 p4 p5 k x6 p3 u
      else
        hX1_feed_71 p0 p1 p2 p3 p4 p5 k x6 p2 u
    else
      hX1_feed_71 p0 p1 p2 p3 p4 p5 k x6 p1 u
theorem whX1_feed_18 {K1 K2 : Nat} {p : Program} {e : Env} {s : State} {m : MethodId} {args : Array Value} {below : List Frame} {meth : Method} {c : Code} (hl0 : l.stackTraces = false) (C : CxH t G l p s m args meth c yX1_feed cX1_feed 8 (some .int)) (p0 : Nat) (p1 : Int32) (p2 : Int32) (p3 : Int32) (p4 : Int32) (p5 : Int32) (n : Nat) (x6 : Int32) (u : HS) : VH mkI t G p l e 2 K1 K2 s m args below meth c 8 18 [(0, .ref p0), (1, .int p1), (2, .int p2), (3, .int p3), (4, .int p4), (5, .int p5), (6, .int x6)] [] u (ml1 (hX1_feed_18 p0 p1 p2 p3 p4 p5) n x6 u) := by
  refine vl1 (L := fun x6 => [(0, .ref p0), (1, .int p1), (2, .int p2), (3, .int p3), (4, .int p4), (5, .int p5), (6, .int x6)]) (fun k hk x6 u => ?_) n x6 u
  unfold hX1_feed_18
  refine v_iload C.1 6 rfl dX1_feed_18 ?_
  refine v_bipush C.1 20 (by decide) dX1_feed_20 ?_
  refine v_icmp_ge C.1 105 (by decide) dX1_feed_22 (fun _ => ?_) (fun _ => ?_)
  · refine v_aload_n C.1 0 rfl rfl dX1_feed_105 ?_
    refine v_dup C.1 rfl dX1_feed_106 ?_
    refine v_chk (fun h1 => ?_)
    refine v_hget C (v := .int (hI u p0 5)) 0 5 (eq_of_beq h1) (by decide) rfl in_X1 (by decide) (Or.inl q315) (fun _ h => h) (hF_i (ci := 0) (eq_of_beq h1) (by decide)) dX1_feed_107 ?_
    refine v_bipush C.1 20 (by decide) dX1_feed_110 ?_
    refine v_iadd C.1 dX1_feed_112 ?_
    refine v_chk (fun h2 => ?_)
    refine v_hputI C 0 5 (eq_of_beq h2) (by decide) rfl in_X1 tyX1 tyX1_ok nmX1 (by decide) (by decide) q315 (fun _ h => h) (Or.inl rfl) ⟨rfl, rfl⟩ dX1_feed_113 (fun u3 => ?_)
    refine v_aload_n C.1 0 rfl rfl dX1_feed_116 ?_
    refine v_chk (fun h4 => ?_)
    refine v_hget C (v := .int (hI u3 p0 5)) 0 5 (eq_of_beq h4) (by decide) rfl in_X1 (by decide) (Or.inl q315) (fun _ h => h) (hF_i (ci := 0) (eq_of_beq h4) (by decide)) dX1_feed_117 ?_
    exact v_hiret C dX1_feed_120
  · refine v_iload C.1 6 rfl dX1_feed_25 ?_
    refine v_iconst C.1 4 (by decide) dX1_feed_27 ?_
    refine v_icmp_ge C.1 35 (by decide) dX1_feed_28 (fun _ => ?_) (fun _ => ?_)
    · refine v_iload C.1 6 rfl dX1_feed_35 ?_
      refine v_bipush C.1 8 (by decide) dX1_feed_37 ?_
      refine v_icmp_ge C.1 46 (by decide) dX1_feed_39 (fun _ => ?_) (fun _ => ?_)
      · refine v_iload C.1 6 rfl dX1_feed_46 ?_
        refine v_bipush C.1 12 (by decide) dX1_feed_48 ?_
        refine v_icmp_ge C.1 57 (by decide) dX1_feed_50 (fun _ => ?_) (fun _ => ?_)
        · refine v_iload C.1 6 rfl dX1_feed_57 ?_
          refine v_bipush C.1 16 (by decide) dX1_feed_59 ?_
          refine v_icmp_ge C.1 69 (by decide) dX1_feed_61 (fun _ => ?_) (fun _ => ?_)
          · refine v_iload C.1 5 rfl dX1_feed_69 ?_
            exact whX1_feed_71 hl0 C p0 p1 p2 p3 p4 p5 k hk x6 p5 u
          · refine v_iload C.1 4 rfl dX1_feed_64 ?_
            refine v_goto C.1 71 (by decide) dX1_feed_66 ?_
            exact whX1_feed_71 hl0 C p0 p1 p2 p3 p4 p5 k hk x6 p4 u
        · refine v_iload_n C.1 3 rfl rfl dX1_feed_53 ?_
          refine v_goto C.1 71 (by decide) dX1_feed_54 ?_
          exact whX1_feed_71 hl0 C p0 p1 p2 p3 p4 p5 k hk x6 p3 u
      · refine v_iload_n C.1 2 rfl rfl dX1_feed_42 ?_
        refine v_goto C.1 71 (by decide) dX1_feed_43 ?_
        exact whX1_feed_71 hl0 C p0 p1 p2 p3 p4 p5 k hk x6 p2 u
    · refine v_iload_n C.1 1 rfl rfl dX1_feed_31 ?_
      refine v_goto C.1 71 (by decide) dX1_feed_32 ?_
      exact whX1_feed_71 hl0 C p0 p1 p2 p3 p4 p5 k hk x6 p1 u
def hX1_feed (p0 : Nat) (p1 : Int32) (p2 : Int32) (p3 : Int32) (p4 : Int32) (p5 : Int32) (u : HS) : Option (OH Int32) :=
  mchk (hC u p0 == 1) <|
  if ((hI u p0 5) + 20) ≤ 700 then
    ml1 (hX1_feed_18 p0 p1 p2 p3 p4 p5) FUEL 0 u
  else
    hret (-1) u
theorem ctX1_feed (t : TT) (G : GH) (l : Launch) (hl0 : l.stackTraces = false) (p0 : Nat) (p1 : Int32) (p2 : Int32) (p3 : Int32) (p4 : Int32) (p5 : Int32) (u : HS) : CtH mkI t G l yX1_feed cX1_feed 8 (some .int) 2 [.ref p0, .int p1, .int p2, .int p3, .int p4, .int p5] u (hX1_feed p0 p1 p2 p3 p4 p5 u) := by
  refine ctH_of [(0, .ref p0), (1, .int p1), (2, .int p2), (3, .int p3), (4, .int p4), (5, .int p5)] hl0 rfl (Nat.le_of_ble_eq_true rfl) rfl (fun K1 K2 p e s m args below meth c C => ?_)
  unfold hX1_feed
  refine v_aload_n C.1 0 rfl rfl dX1_feed_0 ?_
  refine v_chk (fun h1 => ?_)
  refine v_hget C (v := .int (hI u p0 5)) 0 5 (eq_of_beq h1) (by decide) rfl in_X1 (by decide) (Or.inl q315) (fun _ h => h) (hF_i (ci := 0) (eq_of_beq h1) (by decide)) dX1_feed_1 ?_
  refine v_bipush C.1 20 (by decide) dX1_feed_4 ?_
  refine v_iadd C.1 dX1_feed_6 ?_
  refine v_sipush C.1 700 (by decide) dX1_feed_7 ?_
  refine v_icmp_le C.1 15 (by decide) dX1_feed_10 (fun _ => ?_) (fun _ => ?_)
  · refine v_iconst C.1 0 (by decide) dX1_feed_15 ?_
    refine v_istore C.1 [(6, .int 0), (0, .ref p0), (1, .int p1), (2, .int p2), (3, .int p3), (4, .int p4), (5, .int p5)] (by decide) rfl dX1_feed_16 ?_
    refine v_sub [1, 2, 3, 4, 5, 6, 0] rfl ?_
    exact whX1_feed_18 hl0 C p0 p1 p2 p3 p4 p5 FUEL 0 u
  · refine v_iconst C.1 (-1) (by decide) dX1_feed_13 ?_
    exact v_hiret C dX1_feed_14
theorem cwX1_feed {t : TT} {G : GH} {l : Launch} {p : Program} {s : State} {m : MethodId} {args : Array Value} {meth : Method} {c : Code} {y0 : MethodName} {cc0 : ByteArray} {nL0 : Nat} {ret0 : Option FieldType} (C : CxH t G l p s m args meth c y0 cc0 nL0 ret0) {index lv mc ms K1 K2 : Nat} (hq : Cond.methodLink y0.cls index yX1_feed ∈ lw_all) (hR : 2 + 1 ≤ lv) : CallW (rmH lv K1 K2) s args y0.cls RX1 index yX1_feed cX1_feed 8 (some .int) (ws_ yX1_feed cX1_feed 8 (some .int)) (rmH 2 mc ms) mc ms 5 :=
  cwV 5 C.1.2.2.2.2.1 (lw_V hq q355 q356 q121 q357) rfl rfl rfl (by decide +kernel) ⟨hR, by show 8 + (8 + 11) + 100 * 2 ≤ 100 * lv; omega⟩
def hX1_fault (p0 : Nat) (u : HS) : Option (OH Int32) :=
  mchk (hC u p0 == 1) <|
  hret (hI u p0 6) u
theorem ctX1_fault (t : TT) (G : GH) (l : Launch) (hl0 : l.stackTraces = false) (p0 : Nat) (u : HS) : CtH mkI t G l yX1_fault cX1_fault 1 (some .int) 2 [.ref p0] u (hX1_fault p0 u) := by
  refine ctH_of [(0, .ref p0)] hl0 rfl (Nat.le_of_ble_eq_true rfl) rfl (fun K1 K2 p e s m args below meth c C => ?_)
  unfold hX1_fault
  refine v_aload_n C.1 0 rfl rfl dX1_fault_0 ?_
  refine v_chk (fun h1 => ?_)
  refine v_hget C (v := .int (hI u p0 6)) 0 6 (eq_of_beq h1) (by decide) rfl in_X1 (by decide) (Or.inl q316) (fun _ h => h) (hF_i (ci := 0) (eq_of_beq h1) (by decide)) dX1_fault_1 ?_
  exact v_hiret C dX1_fault_4
theorem cwX1_fault {t : TT} {G : GH} {l : Launch} {p : Program} {s : State} {m : MethodId} {args : Array Value} {meth : Method} {c : Code} {y0 : MethodName} {cc0 : ByteArray} {nL0 : Nat} {ret0 : Option FieldType} (C : CxH t G l p s m args meth c y0 cc0 nL0 ret0) {index lv mc ms K1 K2 : Nat} (hq : Cond.methodLink y0.cls index yX1_fault ∈ lw_all) (hR : 2 + 1 ≤ lv) : CallW (rmH lv K1 K2) s args y0.cls RX1 index yX1_fault cX1_fault 1 (some .int) (ws_ yX1_fault cX1_fault 1 (some .int)) (rmH 2 mc ms) mc ms 0 :=
  cwV 0 C.1.2.2.2.2.1 (lw_V hq q359 q360 q121 q361) rfl rfl rfl (by decide +kernel) ⟨hR, by show 8 + (1 + 11) + 100 * 2 ≤ 100 * lv; omega⟩
def hX1_in (p0 : Int32) (p1 : Int32) (p2 : Int32) (u : HS) : Option (OH Int32) :=
  if p0 < p1 then
    hz id 0 u
  else
    if p2 < p0 then
      hz id 0 u
    else
      hz id 1 u
theorem ctX1_in (t : TT) (G : GH) (l : Launch) (hl0 : l.stackTraces = false) (p0 : Int32) (p1 : Int32) (p2 : Int32) (u : HS) : CtH mkI t G l yX1_in cX1_in 3 (some .boolean) 2 [.int p0, .int p1, .int p2] u (hX1_in p0 p1 p2 u) := by
  refine ctH_of [(0, .int p0), (1, .int p1), (2, .int p2)] hl0 rfl (Nat.le_of_ble_eq_true rfl) rfl (fun K1 K2 p e s m args below meth c C => ?_)
  unfold hX1_in
  refine v_iload_n C.1 0 rfl rfl dX1_in_0 ?_
  refine v_iload_n C.1 1 rfl rfl dX1_in_1 ?_
  refine v_icmp_lt C.1 14 (by decide) dX1_in_2 (fun _ => ?_) (fun _ => ?_)
  · refine v_iconst C.1 0 (by decide) dX1_in_14 ?_
    exact v_hzret C dX1_in_15
  · refine v_iload_n C.1 0 rfl rfl dX1_in_5 ?_
    refine v_iload_n C.1 2 rfl rfl dX1_in_6 ?_
    refine v_icmp_gt C.1 14 (by decide) dX1_in_7 (fun _ => ?_) (fun _ => ?_)
    · refine v_iconst C.1 0 (by decide) dX1_in_14 ?_
      exact v_hzret C dX1_in_15
    · refine v_iconst C.1 1 (by decide) dX1_in_10 ?_
      refine v_goto C.1 15 (by decide) dX1_in_11 ?_
      exact v_hzret C dX1_in_15
theorem cwX1_in {t : TT} {G : GH} {l : Launch} {p : Program} {s : State} {m : MethodId} {args : Array Value} {meth : Method} {c : Code} {y0 : MethodName} {cc0 : ByteArray} {nL0 : Nat} {ret0 : Option FieldType} (C : CxH t G l p s m args meth c y0 cc0 nL0 ret0) {index lv mc ms K1 K2 : Nat} (hq : Cond.methodLink y0.cls index yX1_in ∈ lw_all) (hR : 2 + 1 ≤ lv) : CallB (rmH lv K1 K2) s args y0.cls index yX1_in cX1_in 3 (some .boolean) (ws_ yX1_in cX1_in 3 (some .boolean)) (rmH 2 mc ms) mc ms 3 ∧ (Cond.static yX1_in).before args s = true :=
  ⟨callB_of 3 C.1.2.2.2.2.1 (lw_meth q368) rfl rfl rfl (C.1.2.2.2.2.1 _ q121) (C.1.2.2.2.2.1 _ hq) (by decide +kernel) ⟨hR, by show 8 + (3 + 11) + 100 * 2 ≤ 100 * lv; omega⟩, C.1.2.2.2.2.1 _ q367⟩
theorem cwX1_inN {t : TT} {G : GH} {l : Launch} {p : Program} {s : State} {m : MethodId} {args : Array Value} {meth : Method} {c : Code} {y0 : MethodName} {cc0 : ByteArray} {nL0 : Nat} {ret0 : Option FieldType} (C : CxH t G l p s m args meth c y0 cc0 nL0 ret0) {index lv mc ms K1 K2 : Nat} {host : String} (hq : Cond.methodLinkNest y0.cls index yX1_in host ∈ lw_tbl) (hR : 2 + 1 ≤ lv) : va_CN (rmH lv K1 K2) s args y0.cls index yX1_in host cX1_in 3 (some .boolean) (ws_ yX1_in cX1_in 3 (some .boolean)) (rmH 2 mc ms) mc ms 3 ∧ (Cond.static yX1_in).before args s = true ∧ True :=
  ⟨va_cnB 3 C.1.2.2.2.2.1 (lw_meth q368) rfl rfl rfl (C.1.2.2.2.2.2.2.2.2.2.1 _ hq rfl) (C.1.2.2.2.2.1 _ q121) (by decide +kernel) ⟨hR, by show 8 + (3 + 11) + 100 * 2 ≤ 100 * lv; omega⟩, ⟨C.1.2.2.2.2.1 _ q367, trivial⟩⟩
def hX1_refuse (p0 : Nat) (p1 : Int32) (u : HS) : Option (OH Int32) :=
  mchk (hC u p0 == 1) <|
  mderef (hR u p0 7) fun a2 =>
  mchk (inA u p1 a2 21) <|
  mchk (inA u p1 a2 21) <|
  mlet (uA u a2 p1.toNatClampNeg ((hA u a2 p1.toNatClampNeg) + 1)) fun u5 =>
  hret (-1) u5
theorem ctX1_refuse (t : TT) (G : GH) (l : Launch) (hl0 : l.stackTraces = false) (p0 : Nat) (p1 : Int32) (u : HS) : CtH mkI t G l yX1_refuse cX1_refuse 2 (some .int) 2 [.ref p0, .int p1] u (hX1_refuse p0 p1 u) := by
  refine ctH_of [(0, .ref p0), (1, .int p1)] hl0 rfl (Nat.le_of_ble_eq_true rfl) rfl (fun K1 K2 p e s m args below meth c C => ?_)
  unfold hX1_refuse
  refine v_aload_n C.1 0 rfl rfl dX1_refuse_0 ?_
  refine v_chk (fun h1 => ?_)
  refine v_hget C (v := va_rf (hR u p0 7)) 0 7 (eq_of_beq h1) (by decide) rfl in_X1 (by decide) (Or.inl q317) (fun _ h => h) (hF_r (ci := 0) (eq_of_beq h1) (by decide)) dX1_refuse_1 ?_
  refine v_deref (fun a2 e3 => ?_)
  refine v_iload_n C.1 1 rfl rfl dX1_refuse_4 ?_
  refine v_dup2 C.1 rfl rfl dX1_refuse_5 ?_
  refine v_chk (fun h4 => ?_)
  refine v_haiald C h4 dX1_refuse_6 ?_
  refine v_iconst C.1 1 (by decide) dX1_refuse_7 ?_
  refine v_iadd C.1 dX1_refuse_8 ?_
  refine v_chk (fun h6 => ?_)
  refine v_haiast C h6 dX1_refuse_9 (fun u5 => ?_)
  refine v_iconst C.1 (-1) (by decide) dX1_refuse_10 ?_
  exact v_hiret C dX1_refuse_11
theorem cwX1_refuse {t : TT} {G : GH} {l : Launch} {p : Program} {s : State} {m : MethodId} {args : Array Value} {meth : Method} {c : Code} {y0 : MethodName} {cc0 : ByteArray} {nL0 : Nat} {ret0 : Option FieldType} (C : CxH t G l p s m args meth c y0 cc0 nL0 ret0) {index lv mc ms K1 K2 : Nat} (hq : Cond.methodLink y0.cls index yX1_refuse ∈ lw_all) (hR : 2 + 1 ≤ lv) : CallW (rmH lv K1 K2) s args y0.cls RX1 index yX1_refuse cX1_refuse 2 (some .int) (ws_ yX1_refuse cX1_refuse 2 (some .int)) (rmH 2 mc ms) mc ms 1 :=
  cwV 1 C.1.2.2.2.2.1 (lw_V hq q371 qs0 q121 q372) rfl rfl rfl (by decide +kernel) ⟨hR, by show 8 + (2 + 11) + 100 * 2 ≤ 100 * lv; omega⟩
def hX3_copy_64 (p0 : Nat) (k : Nat → Int32 → HS → Option (OH Nat)) (x1 : Nat) (x2 : Int32) (u : HS) : Option (OH Nat) :=
  if 3 ≤ x2 then
    mchk (hC u p0 == 3) <|
    mchk (hC u x1 == 3) <|
    mlet (uI u x1 6 (hI u p0 6)) fun u3 =>
    mchk (hC u3 p0 == 3) <|
    mchk (hC u3 x1 == 3) <|
    mlet (uI u3 x1 7 (hI u3 p0 7)) fun u6 =>
    mchk (hC u6 p0 == 3) <|
    mchk (hC u6 x1 == 3) <|
    mlet (uI u6 x1 8 (hI u6 p0 8)) fun u9 =>
    mchk (hC u9 p0 == 3) <|
    mchk (hC u9 x1 == 3) <|
    mchk (isB (hI u9 p0 10)) <|
    mlet (uI u9 x1 10 (hI u9 p0 10)) fun u12 =>
    hret x1 u12
  else
    mchk (hC u x1 == 3) <|
    mderef (hR u x1 3) fun a2 =>
    mchk (hC u p0 == 3) <|
    mderef (hR u p0 3) fun a5 =>
    mchk (inA u x2 a5 21) <|
    mchk (inA u x2 a2 21) <|
    mlet (uA u a2 x2.toNatClampNeg (hA u a5 x2.toNatClampNeg)) fun u8 =>
    k x1 (x2 + 1) u8
theorem whX3_copy_64 {K1 K2 : Nat} {p : Program} {e : Env} {s : State} {m : MethodId} {args : Array Value} {below : List Frame} {meth : Method} {c : Code} (hl0 : l.stackTraces = false) (C : CxH t G l p s m args meth c yX3_copy cX3_copy 3 (some (.object "WhiteBoard$Board"))) (p0 : Nat) (n : Nat) (x1 : Nat) (x2 : Int32) (u : HS) : VH mkA t G p l e 6 K1 K2 s m args below meth c 3 64 [(0, .ref p0), (1, .ref x1), (2, .int x2)] [] u (ml2 (hX3_copy_64 p0) n x1 x2 u) := by
  refine vl2 (L := fun x1 x2 => [(0, .ref p0), (1, .ref x1), (2, .int x2)]) (fun k hk x1 x2 u => ?_) n x1 x2 u
  unfold hX3_copy_64
  refine v_iload_n C.1 2 rfl rfl dX3_copy_64 ?_
  refine v_iconst C.1 3 (by decide) dX3_copy_65 ?_
  refine v_icmp_ge C.1 87 (by decide) dX3_copy_66 (fun _ => ?_) (fun _ => ?_)
  · refine v_aload_n C.1 1 rfl rfl dX3_copy_87 ?_
    refine v_aload_n C.1 0 rfl rfl dX3_copy_88 ?_
    refine v_chk (fun h1 => ?_)
    refine v_hget C (v := .int (hI u p0 6)) 2 6 (eq_of_beq h1) (by decide) rfl in_X3 (by decide) (Or.inl q268) (fun _ h => h) (hF_i (ci := 2) (eq_of_beq h1) (by decide)) dX3_copy_89 ?_
    refine v_chk (fun h2 => ?_)
    refine v_hputI C 2 6 (eq_of_beq h2) (by decide) rfl in_X3 tyX3 tyX3_ok nmX3 (by decide) (by decide) q268 (fun _ h => h) (Or.inl rfl) ⟨rfl, rfl⟩ dX3_copy_92 (fun u3 => ?_)
    refine v_aload_n C.1 1 rfl rfl dX3_copy_95 ?_
    refine v_aload_n C.1 0 rfl rfl dX3_copy_96 ?_
    refine v_chk (fun h4 => ?_)
    refine v_hget C (v := .int (hI u3 p0 7)) 2 7 (eq_of_beq h4) (by decide) rfl in_X3 (by decide) (Or.inl q270) (fun _ h => h) (hF_i (ci := 2) (eq_of_beq h4) (by decide)) dX3_copy_97 ?_
    refine v_chk (fun h5 => ?_)
    refine v_hputI C 2 7 (eq_of_beq h5) (by decide) rfl in_X3 tyX3 tyX3_ok nmX3 (by decide) (by decide) q270 (fun _ h => h) (Or.inl rfl) ⟨rfl, rfl⟩ dX3_copy_100 (fun u6 => ?_)
    refine v_aload_n C.1 1 rfl rfl dX3_copy_103 ?_
    refine v_aload_n C.1 0 rfl rfl dX3_copy_104 ?_
    refine v_chk (fun h7 => ?_)
    refine v_hget C (v := .int (hI u6 p0 8)) 2 8 (eq_of_beq h7) (by decide) rfl in_X3 (by decide) (Or.inl q272) (fun _ h => h) (hF_i (ci := 2) (eq_of_beq h7) (by decide)) dX3_copy_105 ?_
    refine v_chk (fun h8 => ?_)
    refine v_hputI C 2 8 (eq_of_beq h8) (by decide) rfl in_X3 tyX3 tyX3_ok nmX3 (by decide) (by decide) q272 (fun _ h => h) (Or.inl rfl) ⟨rfl, rfl⟩ dX3_copy_108 (fun u9 => ?_)
    refine v_aload_n C.1 1 rfl rfl dX3_copy_111 ?_
    refine v_aload_n C.1 0 rfl rfl dX3_copy_112 ?_
    refine v_chk (fun h10 => ?_)
    refine v_hget C (v := .int (hI u9 p0 10)) 2 10 (eq_of_beq h10) (by decide) rfl in_X3 (by decide) (Or.inl q276) (fun _ h => h) (hF_i (ci := 2) (eq_of_beq h10) (by decide)) dX3_copy_113 ?_
    refine v_chk (fun h11 => ?_)
    refine v_chk (fun h13 => ?_)
    refine v_hputI C 2 10 (eq_of_beq h11) (by decide) rfl in_X3 tyX3 tyX3_ok nmX3 (by decide) (by decide) q276 (fun _ h => h) (Or.inl rfl) (fitv_z h13) dX3_copy_116 (fun u12 => ?_)
    refine v_aload_n C.1 1 rfl rfl dX3_copy_119 ?_
    exact v_haret C (Or.inl ⟨_, rfl⟩) dX3_copy_120
  · refine v_aload_n C.1 1 rfl rfl dX3_copy_69 ?_
    refine v_chk (fun h1 => ?_)
    refine v_hget C (v := va_rf (hR u x1 3)) 2 3 (eq_of_beq h1) (by decide) rfl in_X3 (by decide) (Or.inl q261) (fun _ h => h) (hF_r (ci := 2) (eq_of_beq h1) (by decide)) dX3_copy_70 ?_
    refine v_deref (fun a2 e3 => ?_)
    refine v_iload_n C.1 2 rfl rfl dX3_copy_73 ?_
    refine v_aload_n C.1 0 rfl rfl dX3_copy_74 ?_
    refine v_chk (fun h4 => ?_)
    refine v_hget C (v := va_rf (hR u p0 3)) 2 3 (eq_of_beq h4) (by decide) rfl in_X3 (by decide) (Or.inl q261) (fun _ h => h) (hF_r (ci := 2) (eq_of_beq h4) (by decide)) dX3_copy_75 ?_
    refine v_deref (fun a5 e6 => ?_)
    refine v_iload_n C.1 2 rfl rfl dX3_copy_78 ?_
    refine v_chk (fun h7 => ?_)
    refine v_haiald C h7 dX3_copy_79 ?_
    refine v_chk (fun h9 => ?_)
    refine v_haiast C h9 dX3_copy_80 (fun u8 => ?_)
    refine v_iinc C.1 1 [(2, .int (x2 + 1)), (0, .ref p0), (1, .ref x1)] 2 rfl (by decide) (by decide) rfl dX3_copy_81 ?_
    refine v_goto C.1 64 (by decide) dX3_copy_84 ?_
    refine v_sub [1, 2, 0] rfl ?_
    exact hk x1 (x2 + 1) u8
def hX3_copy_14 (p0 : Nat) (k : Nat → Int32 → HS → Option (OH Nat)) (x1 : Nat) (x2 : Int32) (u : HS) : Option (OH Nat) :=
  if 9 ≤ x2 then
    ml2 (hX3_copy_64 p0) FUEL x1 0 u
  else
    mchk (hC u x1 == 3) <|
    mderef (hR u x1 0) fun a2 =>
    mchk (hC u p0 == 3) <|
    mderef (hR u p0 0) fun a5 =>
    mchk (inA u x2 a5 21) <|
    mchk (inA u x2 a2 21) <|
    mlet (uA u a2 x2.toNatClampNeg (hA u a5 x2.toNatClampNeg)) fun u8 =>
    mchk (hC u8 x1 == 3) <|
    mderef (hR u8 x1 1) fun a11 =>
    mchk (hC u8 p0 == 3) <|
    mderef (hR u8 p0 1) fun a14 =>
    mchk (inA u8 x2 a14 21) <|
    mchk (inA u8 x2 a11 21) <|
    mlet (uA u8 a11 x2.toNatClampNeg (hA u8 a14 x2.toNatClampNeg)) fun u17 =>
    mchk (hC u17 x1 == 3) <|
    mderef (hR u17 x1 2) fun a20 =>
    mchk (hC u17 p0 == 3) <|
    mderef (hR u17 p0 2) fun a23 =>
    mchk (inA u17 x2 a23 21) <|
    mchk (inA u17 x2 a20 21) <|
    mlet (uA u17 a20 x2.toNatClampNeg (hA u17 a23 x2.toNatClampNeg)) fun u26 =>
    k x1 (x2 + 1) u26
theorem whX3_copy_14 {K1 K2 : Nat} {p : Program} {e : Env} {s : State} {m : MethodId} {args : Array Value} {below : List Frame} {meth : Method} {c : Code} (hl0 : l.stackTraces = false) (C : CxH t G l p s m args meth c yX3_copy cX3_copy 3 (some (.object "WhiteBoard$Board"))) (p0 : Nat) (n : Nat) (x1 : Nat) (x2 : Int32) (u : HS) : VH mkA t G p l e 6 K1 K2 s m args below meth c 3 14 [(0, .ref p0), (1, .ref x1), (2, .int x2)] [] u (ml2 (hX3_copy_14 p0) n x1 x2 u) := by
  refine vl2 (L := fun x1 x2 => [(0, .ref p0), (1, .ref x1), (2, .int x2)]) (fun k hk x1 x2 u => ?_) n x1 x2 u
  unfold hX3_copy_14
  refine v_iload_n C.1 2 rfl rfl dX3_copy_14 ?_
  refine v_bipush C.1 9 (by decide) dX3_copy_15 ?_
  refine v_icmp_ge C.1 62 (by decide) dX3_copy_17 (fun _ => ?_) (fun _ => ?_)
  · refine v_iconst C.1 0 (by decide) dX3_copy_62 ?_
    refine v_istore_n C.1 [(2, .int 0), (0, .ref p0), (1, .ref x1)] rfl (by decide) rfl dX3_copy_63 ?_
    refine v_sub [1, 2, 0] rfl ?_
    exact whX3_copy_64 hl0 C p0 FUEL x1 0 u
  · refine v_aload_n C.1 1 rfl rfl dX3_copy_20 ?_
    refine v_chk (fun h1 => ?_)
    refine v_hget C (v := va_rf (hR u x1 0)) 2 0 (eq_of_beq h1) (by decide) rfl in_X3 (by decide) (Or.inl q254) (fun _ h => h) (hF_r (ci := 2) (eq_of_beq h1) (by decide)) dX3_copy_21 ?_
    refine v_deref (fun a2 e3 => ?_)
    refine v_iload_n C.1 2 rfl rfl dX3_copy_24 ?_
    refine v_aload_n C.1 0 rfl rfl dX3_copy_25 ?_
    refine v_chk (fun h4 => ?_)
    refine v_hget C (v := va_rf (hR u p0 0)) 2 0 (eq_of_beq h4) (by decide) rfl in_X3 (by decide) (Or.inl q254) (fun _ h => h) (hF_r (ci := 2) (eq_of_beq h4) (by decide)) dX3_copy_26 ?_
    refine v_deref (fun a5 e6 => ?_)
    refine v_iload_n C.1 2 rfl rfl dX3_copy_29 ?_
    refine v_chk (fun h7 => ?_)
    refine v_haiald C h7 dX3_copy_30 ?_
    refine v_chk (fun h9 => ?_)
    refine v_haiast C h9 dX3_copy_31 (fun u8 => ?_)
    refine v_aload_n C.1 1 rfl rfl dX3_copy_32 ?_
    refine v_chk (fun h10 => ?_)
    refine v_hget C (v := va_rf (hR u8 x1 1)) 2 1 (eq_of_beq h10) (by decide) rfl in_X3 (by decide) (Or.inl q256) (fun _ h => h) (hF_r (ci := 2) (eq_of_beq h10) (by decide)) dX3_copy_33 ?_
    refine v_deref (fun a11 e12 => ?_)
    refine v_iload_n C.1 2 rfl rfl dX3_copy_36 ?_
    refine v_aload_n C.1 0 rfl rfl dX3_copy_37 ?_
    refine v_chk (fun h13 => ?_)
    refine v_hget C (v := va_rf (hR u8 p0 1)) 2 1 (eq_of_beq h13) (by decide) rfl in_X3 (by decide) (Or.inl q256) (fun _ h => h) (hF_r (ci := 2) (eq_of_beq h13) (by decide)) dX3_copy_38 ?_
    refine v_deref (fun a14 e15 => ?_)
    refine v_iload_n C.1 2 rfl rfl dX3_copy_41 ?_
    refine v_chk (fun h16 => ?_)
    refine v_haiald C h16 dX3_copy_42 ?_
    refine v_chk (fun h18 => ?_)
    refine v_haiast C h18 dX3_copy_43 (fun u17 => ?_)
    refine v_aload_n C.1 1 rfl rfl dX3_copy_44 ?_
    refine v_chk (fun h19 => ?_)
    refine v_hget C (v := va_rf (hR u17 x1 2)) 2 2 (eq_of_beq h19) (by decide) rfl in_X3 (by decide) (Or.inl q258) (fun _ h => h) (hF_r (ci := 2) (eq_of_beq h19) (by decide)) dX3_copy_45 ?_
    refine v_deref (fun a20 e21 => ?_)
    refine v_iload_n C.1 2 rfl rfl dX3_copy_48 ?_
    refine v_aload_n C.1 0 rfl rfl dX3_copy_49 ?_
    refine v_chk (fun h22 => ?_)
    refine v_hget C (v := va_rf (hR u17 p0 2)) 2 2 (eq_of_beq h22) (by decide) rfl in_X3 (by decide) (Or.inl q258) (fun _ h => h) (hF_r (ci := 2) (eq_of_beq h22) (by decide)) dX3_copy_50 ?_
    refine v_deref (fun a23 e24 => ?_)
    refine v_iload_n C.1 2 rfl rfl dX3_copy_53 ?_
    refine v_chk (fun h25 => ?_)
    refine v_haiald C h25 dX3_copy_54 ?_
    refine v_chk (fun h27 => ?_)
    refine v_haiast C h27 dX3_copy_55 (fun u26 => ?_)
    refine v_iinc C.1 1 [(2, .int (x2 + 1)), (0, .ref p0), (1, .ref x1)] 2 rfl (by decide) (by decide) rfl dX3_copy_56 ?_
    refine v_goto C.1 14 (by decide) dX3_copy_59 ?_
    refine v_sub [1, 2, 0] rfl ?_
    exact hk x1 (x2 + 1) u26
def hX3_copy (p0 : Nat) (u : HS) : Option (OH Nat) :=
  mlet (hZ u) fun a1 =>
  addc 1 (cN 2) <|
  mlet (nO u 2) fun u3 =>
  mchk (hC u3 p0 == 3) <|
  mderef (hR u3 p0 11) fun a5 =>
  hb (hX3_init a1 a5 u3) fun _ u7 =>
  ml2 (hX3_copy_14 p0) FUEL a1 0 u7
theorem ctX3_copy (t : TT) (G : GH) (l : Launch) (hl0 : l.stackTraces = false) (p0 : Nat) (u : HS) : CtH mkA t G l yX3_copy cX3_copy 3 (some (.object "WhiteBoard$Board")) 6 [.ref p0] u (hX3_copy p0 u) := by
  refine ctH_of [(0, .ref p0)] hl0 rfl (Nat.le_of_ble_eq_true rfl) rfl (fun K1 K2 p e s m args below meth c C => ?_)
  unfold hX3_copy
  refine v_letE (fun a1 e2 => ?_)
  refine v_hnew C 2 e2 (by decide) rfl in_X3 tyX3 tyX3_ok df_X3 q381 q247 q126 dX3_copy_0 (fun u3 => ?_)
  refine v_dup C.1 rfl dX3_copy_3 ?_
  refine v_aload_n C.1 0 rfl rfl dX3_copy_4 ?_
  refine v_chk (fun h4 => ?_)
  refine v_hget C (v := va_rf (hR u3 p0 11)) 2 11 (eq_of_beq h4) (by decide) rfl in_X3 (by decide) (Or.inl q278) (fun _ h => h) (hF_r (ci := 2) (eq_of_beq h4) (by decide)) dX3_copy_5 ?_
  refine v_deref (fun a5 e6 => ?_)
  refine v_callIH C [.ref a5] [.ref a1] (ctX3_init t G l hl0 a1 a5 u3) (fun _ _ => cwX3_init C q382 (by decide)) rfl rfl (by exact Nat.le_of_ble_eq_true rfl) dX3_copy_8 (fun _ u7 => ?_)
  refine v_astore_n C.1 [(1, .ref a1), (0, .ref p0)] rfl (by decide) rfl dX3_copy_11 ?_
  refine v_iconst C.1 0 (by decide) dX3_copy_12 ?_
  refine v_istore_n C.1 [(2, .int 0), (1, .ref a1), (0, .ref p0)] rfl (by decide) rfl dX3_copy_13 ?_
  refine v_sub [2, 1, 0] rfl ?_
  exact whX3_copy_14 hl0 C p0 FUEL a1 0 u7
theorem cwX3_copy {t : TT} {G : GH} {l : Launch} {p : Program} {s : State} {m : MethodId} {args : Array Value} {meth : Method} {c : Code} {y0 : MethodName} {cc0 : ByteArray} {nL0 : Nat} {ret0 : Option FieldType} (C : CxH t G l p s m args meth c y0 cc0 nL0 ret0) {index lv mc ms K1 K2 : Nat} (hq : Cond.methodLink y0.cls index yX3_copy ∈ lw_all) (hR : 6 + 1 ≤ lv) : CallW (rmH lv K1 K2) s args y0.cls RX3 index yX3_copy cX3_copy 3 (some (.object "WhiteBoard$Board")) (ws_ yX3_copy cX3_copy 3 (some (.object "WhiteBoard$Board"))) (rmH 6 mc ms) mc ms 0 :=
  cwV 0 C.1.2.2.2.2.1 (lw_V hq q378 q379 q126 q380) rfl rfl rfl (by decide +kernel) ⟨hR, by show 8 + (3 + 11) + 100 * 6 ≤ 100 * lv; omega⟩
def hJ13_newLength (p0 : Int32) (p1 : Int32) (p2 : Int32) (u : HS) : Option (OH Int32) :=
  mlet (p0 + (iMax p1 p2)) fun v1 =>
  if v1 ≤ 0 then
    none
  else
    if 2147483639 < v1 then
      none
    else
      hret v1 u
theorem ctJ13_newLength (t : TT) (G : GH) (l : Launch) (hl0 : l.stackTraces = false) (p0 : Int32) (p1 : Int32) (p2 : Int32) (u : HS) : CtH mkI t G l yJ13_newLength cJ13_newLength 4 (some .int) 2 [.int p0, .int p1, .int p2] u (hJ13_newLength p0 p1 p2 u) := by
  refine ctH_of [(0, .int p0), (1, .int p1), (2, .int p2)] hl0 rfl (Nat.le_of_ble_eq_true rfl) rfl (fun K1 K2 p e s m args below meth c C => ?_)
  unfold hJ13_newLength
  refine v_iload_n C.1 0 rfl rfl dJ13_newLength_0 ?_
  refine v_iload_n C.1 1 rfl rfl dJ13_newLength_1 ?_
  refine v_iload_n C.1 2 rfl rfl dJ13_newLength_2 ?_
  refine v_mmax C q408 q409 q133 q410 (by exact Nat.le_of_ble_eq_true rfl) (by exact Nat.le_of_ble_eq_true rfl) dJ13_newLength_3 ?_
  refine v_iadd C.1 dJ13_newLength_6 ?_
  refine v_topi (fun v1 => ?_)
  refine v_istore_n C.1 [(3, .int v1), (0, .int p0), (1, .int p1), (2, .int p2)] rfl (by decide) rfl dJ13_newLength_7 ?_
  refine v_iconst C.1 0 (by decide) dJ13_newLength_8 ?_
  refine v_iload_n C.1 0 rfl rfl dJ13_newLength_9 ?_
  refine v_icmp_ge C.1 21 (by decide) dJ13_newLength_10 (fun _ => ?_) (fun _ => ?_)
  · refine v_iload_n C.1 1 rfl rfl dJ13_newLength_21 ?_
    refine v_iload_n C.1 2 rfl rfl dJ13_newLength_22 ?_
    exact v_none
  · refine v_iload_n C.1 0 rfl rfl dJ13_newLength_13 ?_
    refine v_ldc C.1 q411 dJ13_newLength_14 ?_
    refine v_icmp_gt C.1 21 (by decide) dJ13_newLength_16 (fun _ => ?_) (fun _ => ?_)
    · refine v_iload_n C.1 1 rfl rfl dJ13_newLength_21 ?_
      refine v_iload_n C.1 2 rfl rfl dJ13_newLength_22 ?_
      exact v_none
    · refine v_iload_n C.1 0 rfl rfl dJ13_newLength_19 ?_
      exact v_hiret C dJ13_newLength_20
theorem cwJ13_newLength {t : TT} {G : GH} {l : Launch} {p : Program} {s : State} {m : MethodId} {args : Array Value} {meth : Method} {c : Code} {y0 : MethodName} {cc0 : ByteArray} {nL0 : Nat} {ret0 : Option FieldType} (C : CxH t G l p s m args meth c y0 cc0 nL0 ret0) {index lv mc ms K1 K2 : Nat} (hq : Cond.methodLink y0.cls index yJ13_newLength ∈ lw_all) (hR : 2 + 1 ≤ lv) : CallB (rmH lv K1 K2) s args y0.cls index yJ13_newLength cJ13_newLength 4 (some .int) (ws_ yJ13_newLength cJ13_newLength 4 (some .int)) (rmH 2 mc ms) mc ms 3 ∧ (Cond.static yJ13_newLength).before args s = true :=
  ⟨callB_of 3 C.1.2.2.2.2.1 (lw_meth q407) rfl rfl rfl (C.1.2.2.2.2.1 _ q140) (C.1.2.2.2.2.1 _ hq) (by decide +kernel) ⟨hR, by show 8 + (4 + 11) + 100 * 2 ≤ 100 * lv; omega⟩, C.1.2.2.2.2.1 _ q406⟩
def hJ14_copyOf_2 (p0 : Nat) (p1 : Int32) (p2 : Nat) (u : HS) : Option (OH Nat) :=
  mlet (hK u 5) fun a1 =>
  if p2 = a1 then
    mchk (!(decide (p1 < 0)) && decide (p1.toNatClampNeg ≤ 60000000)) <|
    mlet (hZ u) fun a4 =>
    addc 1 (p1.toNatClampNeg) <|
    mlet (nA u 5 (p1.toNatClampNeg)) fun u6 =>
    mchk (hC u6 p0 == 25 || hC u6 p0 == 35) <|
    mchk (cpQ u6 p0 0 a4 0 (iMin (Int32.ofNat (hN u6 p0)) p1)) <|
    mlet (uQr u6 a4 (va_cpy (hQ u6 p0) (hQ u6 a4) (0 : Int32).toNatClampNeg (0 : Int32).toNatClampNeg (iMin (Int32.ofNat (hN u6 p0)) p1).toNatClampNeg)) fun u9 =>
    hret a4 u9
  else
    none
theorem ctJ14_copyOf_2 (t : TT) (G : GH) (l : Launch) (hl0 : l.stackTraces = false) (p0 : Nat) (p1 : Int32) (p2 : Nat) (u : HS) : CtH mkA t G l yJ14_copyOf_2 cJ14_copyOf_2 4 (some (.array (.object "java/lang/Object"))) 2 [.ref p0, .int p1, .ref p2] u (hJ14_copyOf_2 p0 p1 p2 u) := by
  refine ctH_of [(0, .ref p0), (1, .int p1), (2, .ref p2)] hl0 rfl (Nat.le_of_ble_eq_true rfl) rfl (fun K1 K2 p e s m args below meth c C => ?_)
  unfold hJ14_copyOf_2
  refine v_aload_n C.1 2 rfl rfl dJ14_copyOf_2_0 ?_
  refine v_K (fun ek3 _ => ?_)
  refine v_letE (fun a1 e2 => ?_)
  refine v_ldcM (mi := a1) C q441 (by rw [e2, ek3]; exact C.2.1.mO) dJ14_copyOf_2_1 ?_
  refine v_acmp_ne C 13 (by decide) dJ14_copyOf_2_3 (fun _ => ?_) (fun _ => ?_)
  · refine v_iload_n C.1 1 rfl rfl dJ14_copyOf_2_6 ?_
    refine v_chk (fun h7 => ?_)
    refine v_letE (fun a4 e5 => ?_)
    refine v_hanew C 5 e5 (by decide) q443 (nb_0 h7) rfl (nb_1 h7) dJ14_copyOf_2_7 (fun u6 => ?_)
    refine v_goto C.1 24 (by decide) dJ14_copyOf_2_10 ?_
    refine v_astore_n C.1 [(3, .ref a4), (0, .ref p0), (1, .int p1), (2, .ref p2)] rfl (by decide) rfl dJ14_copyOf_2_24 ?_
    refine v_aload_n C.1 1 rfl rfl dJ14_copyOf_2_25 ?_
    refine v_iconst C.1 0 (by decide) dJ14_copyOf_2_26 ?_
    refine v_aload_n C.1 0 rfl rfl dJ14_copyOf_2_27 ?_
    refine v_iconst C.1 0 (by decide) dJ14_copyOf_2_28 ?_
    refine v_aload_n C.1 1 rfl rfl dJ14_copyOf_2_29 ?_
    refine v_chk (fun h8 => ?_)
    refine v_qalen C h8 dJ14_copyOf_2_30 ?_
    refine v_iload_n C.1 2 rfl rfl dJ14_copyOf_2_31 ?_
    refine v_mmin C q444 q445 q133 q446 (by exact Nat.le_of_ble_eq_true rfl) (by exact Nat.le_of_ble_eq_true rfl) dJ14_copyOf_2_32 ?_
    refine v_hcopyQ C q447 q449 q448 q142 (by exact Nat.le_of_ble_eq_true rfl) (by exact Nat.le_of_ble_eq_true rfl) dJ14_copyOf_2_35 (fun u9 => ?_)
    refine v_aload_n C.1 0 rfl rfl dJ14_copyOf_2_38 ?_
    exact v_haret C (Or.inr ⟨_, rfl⟩) dJ14_copyOf_2_39
  · refine v_aload_n C.1 2 rfl rfl dJ14_copyOf_2_13 ?_
    exact v_none
theorem cwJ14_copyOf_2 {t : TT} {G : GH} {l : Launch} {p : Program} {s : State} {m : MethodId} {args : Array Value} {meth : Method} {c : Code} {y0 : MethodName} {cc0 : ByteArray} {nL0 : Nat} {ret0 : Option FieldType} (C : CxH t G l p s m args meth c y0 cc0 nL0 ret0) {index lv mc ms K1 K2 : Nat} (hq : Cond.methodLink y0.cls index yJ14_copyOf_2 ∈ lw_all) (hR : 2 + 1 ≤ lv) : CallB (rmH lv K1 K2) s args y0.cls index yJ14_copyOf_2 cJ14_copyOf_2 4 (some (.array (.object "java/lang/Object"))) (ws_ yJ14_copyOf_2 cJ14_copyOf_2 4 (some (.array (.object "java/lang/Object")))) (rmH 2 mc ms) mc ms 3 ∧ (Cond.static yJ14_copyOf_2).before args s = true :=
  ⟨callB_of 3 C.1.2.2.2.2.1 (lw_meth q440) rfl rfl rfl (C.1.2.2.2.2.1 _ q141) (C.1.2.2.2.2.1 _ hq) (by decide +kernel) ⟨hR, by show 8 + (4 + 11) + 100 * 2 ≤ 100 * lv; omega⟩, C.1.2.2.2.2.1 _ q439⟩
def hJ14_copyOf (p0 : Nat) (p1 : Int32) (u : HS) : Option (OH Nat) :=
  mchk (hC u p0 == 25 || hC u p0 == 35) <|
  mlet (hK u 5) fun a1 =>
  hb (hJ14_copyOf_2 p0 p1 a1 u) fun r6 u5 =>
  hret r6 u5
theorem ctJ14_copyOf (t : TT) (G : GH) (l : Launch) (hl0 : l.stackTraces = false) (p0 : Nat) (p1 : Int32) (u : HS) : CtH mkA t G l yJ14_copyOf cJ14_copyOf 2 (some (.array (.object "java/lang/Object"))) 3 [.ref p0, .int p1] u (hJ14_copyOf p0 p1 u) := by
  refine ctH_of [(0, .ref p0), (1, .int p1)] hl0 rfl (Nat.le_of_ble_eq_true rfl) rfl (fun K1 K2 p e s m args below meth c C => ?_)
  unfold hJ14_copyOf
  refine v_aload_n C.1 0 rfl rfl dJ14_copyOf_0 ?_
  refine v_iload_n C.1 1 rfl rfl dJ14_copyOf_1 ?_
  refine v_aload_n C.1 0 rfl rfl dJ14_copyOf_2 ?_
  refine v_chk (fun h4 => ?_)
  refine v_K (fun ek3 _ => ?_)
  refine v_letE (fun a1 e2 => ?_)
  refine v_getC (mi := a1) C (C := "[Ljava/lang/Object;") q418 q739 q2376 q419 q437 (by rw [e2, ek3]; exact C.2.1.mO) (recQ C (or_2535 h4)) (by exact Nat.le_of_ble_eq_true rfl) (by exact Nat.le_of_ble_eq_true rfl) dJ14_copyOf_3 ?_
  refine v_callSH C [.ref p0, .int p1, .ref a1] [] (ctJ14_copyOf_2 t G l hl0 p0 p1 a1 u) (fun _ _ => cwJ14_copyOf_2 C q438 (by decide)) rfl rfl (by exact Nat.le_of_ble_eq_true rfl) dJ14_copyOf_6 (fun r6 u5 => ?_)
  exact v_haret C (Or.inr ⟨_, rfl⟩) dJ14_copyOf_9
theorem cwJ14_copyOf {t : TT} {G : GH} {l : Launch} {p : Program} {s : State} {m : MethodId} {args : Array Value} {meth : Method} {c : Code} {y0 : MethodName} {cc0 : ByteArray} {nL0 : Nat} {ret0 : Option FieldType} (C : CxH t G l p s m args meth c y0 cc0 nL0 ret0) {index lv mc ms K1 K2 : Nat} (hq : Cond.methodLink y0.cls index yJ14_copyOf ∈ lw_all) (hR : 3 + 1 ≤ lv) : CallB (rmH lv K1 K2) s args y0.cls index yJ14_copyOf cJ14_copyOf 2 (some (.array (.object "java/lang/Object"))) (ws_ yJ14_copyOf cJ14_copyOf 2 (some (.array (.object "java/lang/Object")))) (rmH 3 mc ms) mc ms 2 ∧ (Cond.static yJ14_copyOf).before args s = true :=
  ⟨callB_of 2 C.1.2.2.2.2.1 (lw_meth q417) rfl rfl rfl (C.1.2.2.2.2.1 _ q141) (C.1.2.2.2.2.1 _ hq) (by decide +kernel) ⟨hR, by show 8 + (2 + 11) + 100 * 3 ≤ 100 * lv; omega⟩, C.1.2.2.2.2.1 _ q416⟩
def hJ2_grow_2_20 (p0 : Nat) (p1 : Int32) (x2 : Int32) (u : HS) : Option (OH Nat) :=
  hb (hJ13_newLength x2 (p1 - x2) (x2 >>> ((1 : Int32) &&& 31)) u) fun r2 u1 =>
  mchk (hC u1 p0 == 12) <|
  mderef (hR u1 p0 1) fun a4 =>
  hb (hJ14_copyOf a4 r2 u1) fun r7 u6 =>
  mchk (hC u6 p0 == 12) <|
  mlet (uR u6 p0 1 (some r7)) fun u9 =>
  hret r7 u9
theorem whJ2_grow_2_20 {K1 K2 : Nat} {p : Program} {e : Env} {s : State} {m : MethodId} {args : Array Value} {below : List Frame} {meth : Method} {c : Code} (hl0 : l.stackTraces = false) (C : CxH t G l p s m args meth c yJ2_grow_2 cJ2_grow_2 4 (some (.array (.object "java/lang/Object")))) (p0 : Nat) (p1 : Int32) (x2 : Int32) (u : HS) : VH mkA t G p l e 4 K1 K2 s m args below meth c 4 20 [(0, .ref p0), (1, .int p1), (2, .int x2)] [] u (hJ2_grow_2_20 p0 p1 x2 u) := by
  unfold hJ2_grow_2_20
  refine v_iload_n C.1 2 rfl rfl dJ2_grow_2_20 ?_
  refine v_iload_n C.1 1 rfl rfl dJ2_grow_2_21 ?_
  refine v_iload_n C.1 2 rfl rfl dJ2_grow_2_22 ?_
  refine v_isub C.1 dJ2_grow_2_23 ?_
  refine v_iload_n C.1 2 rfl rfl dJ2_grow_2_24 ?_
  refine v_iconst C.1 1 (by decide) dJ2_grow_2_25 ?_
  refine v_ishr C.1 dJ2_grow_2_26 ?_
  refine v_callSH C [.int x2, .int (p1 - x2), .int (x2 >>> ((1 : Int32) &&& 31))] [] (ctJ13_newLength t G l hl0 x2 (p1 - x2) (x2 >>> ((1 : Int32) &&& 31)) u) (fun _ _ => cwJ13_newLength C q405 (by decide)) rfl rfl (by exact Nat.le_of_ble_eq_true rfl) dJ2_grow_2_27 (fun r2 u1 => ?_)
  refine v_istore_n C.1 [(3, .int r2), (0, .ref p0), (1, .int p1), (2, .int x2)] rfl (by decide) rfl dJ2_grow_2_30 ?_
  refine v_aload_n C.1 1 rfl rfl dJ2_grow_2_31 ?_
  refine v_aload_n C.1 1 rfl rfl dJ2_grow_2_32 ?_
  refine v_chk (fun h3 => ?_)
  refine v_hget C (v := va_rf (hR u1 p0 1)) 11 1 (eq_of_beq h3) (by decide) rfl in_J2 (by decide) (Or.inl q183) (fun _ h => h) (hF_r (ci := 11) (eq_of_beq h3) (by decide)) dJ2_grow_2_33 ?_
  refine v_deref (fun a4 e5 => ?_)
  refine v_iload_n C.1 0 rfl rfl dJ2_grow_2_36 ?_
  refine v_callSH C [.ref a4, .int r2] [.ref p0] (ctJ14_copyOf t G l hl0 a4 r2 u1) (fun _ _ => cwJ14_copyOf C q415 (by decide)) rfl rfl (by exact Nat.le_of_ble_eq_true rfl) dJ2_grow_2_37 (fun r7 u6 => ?_)
  refine v_dup_x1 C.1 rfl rfl dJ2_grow_2_40 ?_
  refine v_chk (fun h8 => ?_)
  refine v_hputR C (some r7) 11 1 (eq_of_beq h8) (by decide) rfl in_J2 tyJ2 tyJ2_ok nmJ2 (by decide) (by decide) q183 (fun _ h => h) (Or.inl rfl) rfl rfl dJ2_grow_2_41 (fun u9 => ?_)
  exact v_haret C (Or.inr ⟨_, rfl⟩) dJ2_grow_2_44
def hJ2_grow_2 (p0 : Nat) (p1 : Int32) (u : HS) : Option (OH Nat) :=
  mchk (hC u p0 == 12) <|
  mderef (hR u p0 1) fun a2 =>
  mchk (hC u a2 == 25 || hC u a2 == 35) <|
  mlet (Int32.ofNat (hN u a2)) fun v5 =>
  if 0 < v5 then
    hJ2_grow_2_20 p0 p1 v5 u
  else
    mchk (hC u p0 == 12) <|
    mderef (hR u p0 1) fun a7 =>
    mlet (hK u 0) fun a9 =>
    if a7 = a9 then
      mchk (!(decide ((iMax 10 p1) < 0)) && decide ((iMax 10 p1).toNatClampNeg ≤ 60000000)) <|
      mlet (hZ u) fun a12 =>
      addc 1 ((iMax 10 p1).toNatClampNeg) <|
      mlet (nA u 5 ((iMax 10 p1).toNatClampNeg)) fun u14 =>
      mchk (hC u14 p0 == 12) <|
      mlet (uR u14 p0 1 (some a12)) fun u17 =>
      hret a12 u17
    else
      hJ2_grow_2_20 p0 p1 v5 u
theorem ctJ2_grow_2 (t : TT) (G : GH) (l : Launch) (hl0 : l.stackTraces = false) (p0 : Nat) (p1 : Int32) (u : HS) : CtH mkA t G l yJ2_grow_2 cJ2_grow_2 4 (some (.array (.object "java/lang/Object"))) 4 [.ref p0, .int p1] u (hJ2_grow_2 p0 p1 u) := by
  refine ctH_of [(0, .ref p0), (1, .int p1)] hl0 rfl (Nat.le_of_ble_eq_true rfl) rfl (fun K1 K2 p e s m args below meth c C => ?_)
  unfold hJ2_grow_2
  refine v_aload_n C.1 0 rfl rfl dJ2_grow_2_0 ?_
  refine v_chk (fun h1 => ?_)
  refine v_hget C (v := va_rf (hR u p0 1)) 11 1 (eq_of_beq h1) (by decide) rfl in_J2 (by decide) (Or.inl q183) (fun _ h => h) (hF_r (ci := 11) (eq_of_beq h1) (by decide)) dJ2_grow_2_1 ?_
  refine v_deref (fun a2 e3 => ?_)
  refine v_chk (fun h4 => ?_)
  refine v_qalen C h4 dJ2_grow_2_4 ?_
  refine v_topi (fun v5 => ?_)
  refine v_istore_n C.1 [(2, .int v5), (0, .ref p0), (1, .int p1)] rfl (by decide) rfl dJ2_grow_2_5 ?_
  refine v_iload_n C.1 0 rfl rfl dJ2_grow_2_6 ?_
  refine v_if_gt C.1 20 (by decide) dJ2_grow_2_7 (fun _ => ?_) (fun _ => ?_)
  · refine v_sub [1, 2, 0] rfl ?_
    exact whJ2_grow_2_20 hl0 C p0 p1 v5 u
  · refine v_aload_n C.1 1 rfl rfl dJ2_grow_2_10 ?_
    refine v_chk (fun h6 => ?_)
    refine v_hget C (v := va_rf (hR u p0 1)) 11 1 (eq_of_beq h6) (by decide) rfl in_J2 (by decide) (Or.inl q183) (fun _ h => h) (hF_r (ci := 11) (eq_of_beq h6) (by decide)) dJ2_grow_2_11 ?_
    refine v_deref (fun a7 e8 => ?_)
    refine v_K (fun ek11 _ => ?_)
    refine v_letE (fun a9 e10 => ?_)
    refine v_gets C (v := .ref a9) (by rw [e10, ek11]; exact C.2.1.dflt) q181 (fun _ h => h) dJ2_grow_2_14 ?_
    refine v_acmp_eq C 45 (by decide) dJ2_grow_2_17 (fun _ => ?_) (fun _ => ?_)
    · refine v_aload_n C.1 1 rfl rfl dJ2_grow_2_45 ?_
      refine v_bipush C.1 10 (by decide) dJ2_grow_2_46 ?_
      refine v_iload_n C.1 2 rfl rfl dJ2_grow_2_48 ?_
      refine v_mmax C q450 q409 q133 q410 (by exact Nat.le_of_ble_eq_true rfl) (by exact Nat.le_of_ble_eq_true rfl) dJ2_grow_2_49 ?_
      refine v_chk (fun h15 => ?_)
      refine v_letE (fun a12 e13 => ?_)
      refine v_hanew C 5 e13 (by decide) q451 (nb_0 h15) rfl (nb_1 h15) dJ2_grow_2_52 (fun u14 => ?_)
      refine v_dup_x1 C.1 rfl rfl dJ2_grow_2_55 ?_
      refine v_chk (fun h16 => ?_)
      refine v_hputR C (some a12) 11 1 (eq_of_beq h16) (by decide) rfl in_J2 tyJ2 tyJ2_ok nmJ2 (by decide) (by decide) q183 (fun _ h => h) (Or.inl rfl) rfl rfl dJ2_grow_2_56 (fun u17 => ?_)
      exact v_haret C (Or.inr ⟨_, rfl⟩) dJ2_grow_2_59
    · refine v_sub [1, 2, 0] rfl ?_
      exact whJ2_grow_2_20 hl0 C p0 p1 v5 u
theorem cwJ2_grow_2 {t : TT} {G : GH} {l : Launch} {p : Program} {s : State} {m : MethodId} {args : Array Value} {meth : Method} {c : Code} {y0 : MethodName} {cc0 : ByteArray} {nL0 : Nat} {ret0 : Option FieldType} (C : CxH t G l p s m args meth c y0 cc0 nL0 ret0) {index lv mc ms K1 K2 : Nat} (hq : Cond.methodLink y0.cls index yJ2_grow_2 ∈ lw_all) (hR : 4 + 1 ≤ lv) : CallW (rmH lv K1 K2) s args y0.cls RJ2 index yJ2_grow_2 cJ2_grow_2 4 (some (.array (.object "java/lang/Object"))) (ws_ yJ2_grow_2 cJ2_grow_2 4 (some (.array (.object "java/lang/Object")))) (rmH 4 mc ms) mc ms 1 :=
  cwV 1 C.1.2.2.2.2.1 (lw_V hq q403 qs4 q125 q404) rfl rfl rfl (by decide +kernel) ⟨hR, by show 8 + (4 + 11) + 100 * 4 ≤ 100 * lv; omega⟩
end
