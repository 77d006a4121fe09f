/-! mode H: Math.max, Math.min -/
set_option maxRecDepth 100000
section VHMM
variable {O : Type} {K1 K2 lv : Nat} {Qw : O → HS → State → Prop} {p : Program} {l : Launch} {e : Env} {s : State} {m : MethodId} {args : Array Value} {below : List Frame} {meth : Method} {c : Code} {nL pc index : Nat} {L : List (Nat × Value)} {st : List Value} {u : HS} {M : Option (OH O)} {t : TT} {G : GH} {y : MethodName} {cc : ByteArray} {ret : Option FieldType}
def iMax (x y : Int32) : Int32 := if x < y then y else x
def iMin (x y : Int32) : Int32 := if y < x then y else x
theorem v_mmax (C0 : CxH t G l p s m args meth c y cc nL ret) {x z : Int32} (q1 : Cond.methodLink y.cls index Lib.Math.max.name ∈ lw_all) (q2 : Cond.static Lib.Math.max.name ∈ lw_all) (q3 : Cond.initialized "java/lang/Math" ∈ lw_all) (q4 : Cond.code Lib.Math.max.name Lib.Math.max.code 2 (some .int) ∈ lw_all) (hlv : 1 ≤ lv) (hsm : (st.map fun v => v.category).sum ≤ 8) (d : decode cc pc = .ok (.invokestatic index, 3))
    (kk : BH t G K1 K2 Qw p l e (rmH lv K1 K2) s m args below meth c nL (pc + 3) L (.int (iMax x z) :: st) u M) : BH t G K1 K2 Qw p l e (rmH lv K1 K2) s m args below meth c nL pc L (.int z :: .int x :: st) u M := by
  intro w hw H locs ls cells slots ok rel hS hl
  exact va_mmax C0.1.1 C0.1.2.1 (by rw [C0.1.2.2.1]; exact hl.1.symm) C0.1.2.2.2.1 (C0.1.2.2.2.2.1 _ q1) (C0.1.2.2.2.2.1 _ q2) (C0.1.2.2.2.2.1 _ q3) (C0.1.2.2.2.2.1 _ q4) hlv (by show _ ≤ 100 * lv; omega) (Nat.le_trans (Nat.le_add_right _ _) ok.1) (Nat.le_trans (Nat.le_add_right _ _) ok.2) d (kk w hw H locs ls cells slots ok rel hS hl)
theorem v_mmin (C0 : CxH t G l p s m args meth c y cc nL ret) {x z : Int32} (q1 : Cond.methodLink y.cls index Lib.Math.min.name ∈ lw_all) (q2 : Cond.static Lib.Math.min.name ∈ lw_all) (q3 : Cond.initialized "java/lang/Math" ∈ lw_all) (q4 : Cond.code Lib.Math.min.name Lib.Math.min.code 2 (some .int) ∈ lw_all) (hlv : 1 ≤ lv) (hsm : (st.map fun v => v.category).sum ≤ 8) (d : decode cc pc = .ok (.invokestatic index, 3))
    (kk : BH t G K1 K2 Qw p l e (rmH lv K1 K2) s m args below meth c nL (pc + 3) L (.int (iMin x z) :: st) u M) : BH t G K1 K2 Qw p l e (rmH lv K1 K2) s m args below meth c nL pc L (.int z :: .int x :: st) u M := by
  intro w hw H locs ls cells slots ok rel hS hl
  exact va_mmin C0.1.1 C0.1.2.1 (by rw [C0.1.2.2.1]; exact hl.1.symm) C0.1.2.2.2.1 (C0.1.2.2.2.2.1 _ q1) (C0.1.2.2.2.2.1 _ q2) (C0.1.2.2.2.2.1 _ q3) (C0.1.2.2.2.2.1 _ q4) hlv (by show _ ≤ 100 * lv; omega) (Nat.le_trans (Nat.le_add_right _ _) ok.1) (Nat.le_trans (Nat.le_add_right _ _) ok.2) d (kk w hw H locs ls cells slots ok rel hS hl)
theorem v_hldcw (C0 : CxH t G l p s m args meth c y cc nL ret) {tx : String} {q : Nat} (hy : y.cls = "WhiteBoard$Reader") (i : Nat) (hi : i < 18) (hx : sPool.getD i (0, "") = (index, tx)) (hq : q = G.2.1 (10 + i)) (d : decode cc pc = .ok (.ldc_w index, 3))
    (kk : BH t G K1 K2 Qw p l e (rmH lv K1 K2) s m args below meth c nL (pc + 3) L (.ref q :: st) u M) : BH t G K1 K2 Qw p l e (rmH lv K1 K2) s m args below meth c nL pc L st u M := by
  intro w hw H locs ls cells slots ok rel hS hl
  have h1 := C0.2.1.2.2.1 i hi
  rw [hx, ← hq] at h1
  intro T hT X
  obtain ⟨t1, a1, b1⟩ := kk w hw H locs ls cells slots ok rel hS hl T hT X
  exact ⟨t1, X.ldcStringW C0.1.1 C0.1.2.2.2.1 (own := y.cls) (text := tx) (a := q) (by rw [hy]; exact h1.1) (by rw [hy]; exact h1.2) (g := F0 m pc ls st) rfl (by rw [C0.1.2.1]; exact d) t1 a1, b1⟩
/-- a box out of the cache -/
theorem v_caald2 (C0 : CxH t G l p s m args meth c y cc nL ret) {j : Int32} {a : Nat} (hj : (a == hK u 2 && inb j 256) = true) (d : decode cc pc = .ok (.aaload, 1))
    (kk : BH t G K1 K2 Qw p l e (rmH lv K1 K2) s m args below meth c nL (pc + 1) L (.ref (hK u (100 + j.toNatClampNeg)) :: st) u M) : BH t G K1 K2 Qw p l e (rmH lv K1 K2) s m args below meth c nL pc L (.int j :: .ref a :: st) u M := by
  intro w hw H locs ls cells slots ok rel hS hl
  obtain ⟨h1, h2⟩ := (Bool.and_eq_true _ _).mp hj
  have hin := inb_vp h2
  have hlt : j.toNatClampNeg < 256 := Nat.not_le.mp fun q => hin (Or.inr q)
  have ha : a = G.2.1 2 := by rw [eq_of_beq h1, rel.2.1]
  have hT0 := C0.2.1.cT
  rw [← ha] at hT0
  obtain ⟨scr, g1, g2, g3, g4, -, g6, g7⟩ := hT0
  have hcs : H[a]? = some scr := by rw [hS.2.1 a (Array.getElem?_eq_some_iff.mp g1).1 g7]; exact g1
  have hgo := kk w hw H locs ls cells slots ok rel hS hl
  rw [rel.2.1] at hgo
  exact W.aald (v := .ref (G.2.1 (100 + j.toNatClampNeg))) C0.1.1 C0.1.2.1 hcs g2 rfl g3 (fun q => hin (q.imp id (fun q => by omega))) (g6 _ hlt) rfl rfl d hgo
end VHMM
