/-! walks in mode H, printed by tools/genh.py -/
set_option maxRecDepth 100000
section
variable {t : TT} {G : GH} {l : Launch}
def hX5_read_4 (p0 : Nat) (k : HS → Option (OH (PX Nat))) (u : HS) : Option (OH (PX Nat)) :=
  mchk (hC u p0 == 5) <|
  if (hI u p0 5) = 0 then
    mchk (hC u p0 == 5) <|
    mderef (hR u p0 1) fun a3 =>
    hret (.inl a3) u
  else
    mchk (hC u p0 == 5) <|
    hx (hX5_line p0 u) fun _ u2 =>
    k u2
theorem whX5_read_4 {K1 K2 : Nat} {p : Program} {e : Env} {s : State} {m : MethodId} {args : Array Value} {below : List Frame} {meth : Method} {c : Code} (hl0 : l.stackTraces = false) (C : CxX t G l p s m args meth c yX5_read cX5_read 1 (some (.object "WhiteBoard$City"))) (p0 : Nat) (n : Nat) (u : HS) : VX mkA t G p l e 201 K1 K2 s m args below meth c 1 4 [(0, .ref p0)] [] u (ml0 (hX5_read_4 p0) n u) := by
  refine vl0 (L := [(0, .ref p0)]) (fun k hk u => ?_) n u
  unfold hX5_read_4
  refine v_aload_n C.1.1 0 rfl rfl dX5_read_4 ?_
  refine v_chk (fun h1 => ?_)
  refine v_hget C.1 (v := .int (hI u p0 5)) 4 5 (eq_of_beq h1) (by decide) rfl in_X5 (by decide) (Or.inl q853) (fun _ h => h) (hF_i (ci := 4) (eq_of_beq h1) (by decide)) dX5_read_5 ?_
  refine v_if_eq C.1.1 18 (by decide) dX5_read_8 (fun _ => ?_) (fun _ => ?_)
  · refine v_aload_n C.1.1 0 rfl rfl dX5_read_18 ?_
    refine v_chk (fun h2 => ?_)
    refine v_hget C.1 (v := va_rf (hR u p0 1)) 4 1 (eq_of_beq h2) (by decide) rfl in_X5 (by decide) (Or.inl q848) (fun _ h => h) (hF_r (ci := 4) (eq_of_beq h2) (by decide)) dX5_read_19 ?_
    refine v_deref (fun a3 e4 => ?_)
    exact v_xaret C.1 (Or.inl ⟨_, rfl⟩) dX5_read_22
  · refine v_aload_n C.1.1 0 rfl rfl dX5_read_11 ?_
    refine v_chk (fun h3 => ?_)
    refine v_callVX C [] [] (ctX5_line t G l hl0 p0 u) (fun _ _ => cwX5_line C.1 q979 (by decide)) (recO C.1 (ci := 4) (eq_of_beq h3) (by decide) rfl) rfl rfl (by exact Nat.le_of_ble_eq_true rfl) dX5_read_12 (fun _ u2 => ?_)
    refine v_goto C.1.1 4 (by decide) dX5_read_15 ?_
    exact hk u2
def hX5_read (p0 : Nat) (u : HS) : Option (OH (PX Nat)) :=
  mchk (hC u p0 == 5) <|
  hb (hX5_next p0 u) fun _ u1 =>
  ml0 (hX5_read_4 p0) FUEL u1
theorem ctX5_read (t : TT) (G : GH) (l : Launch) (hl0 : l.stackTraces = false) (p0 : Nat) (u : HS) : CtX mkA t G l yX5_read cX5_read 1 (some (.object "WhiteBoard$City")) 201 [.ref p0] u (hX5_read p0 u) := by
  refine ctX_of [(0, .ref p0)] hl0 rfl (Nat.le_of_ble_eq_true rfl) rfl (fun K1 K2 p e s m args below meth c C => ?_)
  unfold hX5_read
  refine v_aload_n C.1.1 0 rfl rfl dX5_read_0 ?_
  refine v_chk (fun h2 => ?_)
  refine v_callVH C.1 [] [] (ctX5_next t G l hl0 p0 u) (fun _ _ => cwX5_next C.1 q890 (by decide)) (recO C.1 (ci := 4) (eq_of_beq h2) (by decide) rfl) rfl rfl (by exact Nat.le_of_ble_eq_true rfl) dX5_read_1 (fun _ u1 => ?_)
  exact whX5_read_4 hl0 C p0 FUEL u1
theorem cwX5_read {t : TT} {G : GH} {l : Launch} {p : Program} {s : State} {m : MethodId} {args : Array Value} {meth : Method} {c : Code} {y0 : MethodName} {cc0 : ByteArray} {nL0 : Nat} {ret0 : Option FieldType} (C : CxH t G l p s m args meth c y0 cc0 nL0 ret0) {index lv mc ms K1 K2 : Nat} (hq : Cond.methodLink y0.cls index yX5_read ∈ lw_all) (hR : 201 + 1 ≤ lv) : CallW (rmH lv K1 K2) s args y0.cls RX5 index yX5_read cX5_read 1 (some (.object "WhiteBoard$City")) (ws_ yX5_read cX5_read 1 (some (.object "WhiteBoard$City"))) (rmH 201 mc ms) mc ms 0 :=
  cwV 0 C.1.2.2.2.2.1 (lw_V hq q887 q888 q132 q889) rfl rfl rfl (by decide +kernel) ⟨hR, by show 8 + (1 + 11) + 100 * 201 ≤ 100 * lv; omega⟩
end
