/-! THE PURE LAW: what the machines ask of doubles (HOLDS sorry: to be proved from FP.Core) -/
def MOST : UInt64 := 4877398396442247168
def LEAST : UInt64 := 14100770433297022976
/-- finite, and at most 2^60 in size -/
def okd (v : UInt64) : Prop := (∃ s c q, FP.Core.decode FP.Core.b64 v.toNat = .fin s c q) ∧ FP.dcmp v MOST ≠ some .gt ∧ FP.dcmp v LEAST ≠ some .lt
theorem f_cmp {a b : UInt64} (ha : okd a) (hb : okd b) : ∃ o, FP.dcmp a b = some o := by
  obtain ⟨⟨s, c, q, e1⟩, _⟩ := ha
  obtain ⟨⟨t, d, r, e2⟩, _⟩ := hb
  refine ⟨compare (FP.Core.signed s (FP.Core.inUnits c q (min q r))) (FP.Core.signed t (FP.Core.inUnits d r (min q r))), ?_⟩
  show FP.Core.order (FP.Core.decode _ _) (FP.Core.decode _ _) = _
  rw [e1, e2]
  rfl
/-- checked, kept -/
def ck (r : UInt64) : Option UInt64 :=
  if 0 < (Op.cmpValue (FP.dcmp r (4877398396442247168 : UInt64)) .l) then none
  else if 0 ≤ (Op.cmpValue (FP.dcmp r (14100770433297022976 : UInt64)) .g) then some r else none
theorem f_add {a b : UInt64} (ha : okd a) (hb : okd b) : nOk (FP.dadd a b) := sorry
theorem f_sub {a b : UInt64} (ha : okd a) (hb : okd b) : nOk (FP.dsub a b) := sorry
theorem f_mul {a b : UInt64} (ha : okd a) (hb : okd b) : nOk (FP.dmul a b) := sorry
theorem f_div {a b : UInt64} (ha : okd a) (hb : okd b) (h0 : ¬ (Op.cmpValue (FP.dcmp b FP.dconst0) .l) = 0) : nOk (FP.ddiv a b) := sorry
theorem f_ck {r v : UInt64} (h : nOk r) (e : ck r = some v) : okd v ∧ v = r := sorry
theorem f_neg {a : UInt64} (ha : okd a) : okd (FP.dneg a) := sorry
theorem f_0 : okd FP.dconst0 := sorry
theorem f_1 : okd FP.dconst1 := sorry
theorem f_m1 : okd 13830554455654793216 := sorry
theorem f_nu {w pl : Nat} (hw : w < 1000000000) (h : pl < 4) : okd (nuV w pl) := sorry
/-- floor -/
def fl (x : UInt64) : UInt64 := if (Op.cmpValue (FP.dcmp (FP.l2d (FP.d2l x)) x) .l) ≤ 0 then FP.l2d (FP.d2l x) else FP.l2d (FP.d2l x - 1)
theorem f_fl {x : UInt64} (hx : okd x) (h : ¬ (Op.cmpValue (FP.dcmp (FP.l2d (FP.d2l x)) x) .l) ≤ 0) : nOk (FP.dsub (FP.l2d (FP.d2l x)) FP.dconst1) ∧ FP.dsub (FP.l2d (FP.d2l x)) FP.dconst1 = FP.l2d (FP.d2l x - 1) := sorry
theorem f_flok {x : UInt64} (hx : okd x) : okd (fl x) := sorry
/-- division -/
def dv (x y : UInt64) : Option UInt64 := if (Op.cmpValue (FP.dcmp y FP.dconst0) .l) = 0 then none else ck (FP.ddiv x y)
/-- powers -/
def pwl (x : UInt64) : Nat → UInt64 → Option UInt64
  | 0, r => some r
  | k + 1, r => (ck (FP.dmul r x)).bind (pwl x k)
def pwOk (y : UInt64) : Prop := ¬ (Op.cmpValue (FP.dcmp y (13849694754071117824 : UInt64)) .g) < 0 ∧ ¬ 0 < (Op.cmpValue (FP.dcmp y (4626322717216342016 : UInt64)) .l) ∧ (Op.cmpValue (FP.dcmp (FP.l2d (FP.d2l y)) y) .l) = 0
def pwN (y : UInt64) : Nat := (FP.d2i y).toInt.natAbs
def pw (x y : UInt64) : Option UInt64 := if (Op.cmpValue (FP.dcmp y (13849694754071117824 : UInt64)) .g) < 0 then none else if 0 < (Op.cmpValue (FP.dcmp y (4626322717216342016 : UInt64)) .l) then none else if (Op.cmpValue (FP.dcmp (FP.l2d (FP.d2l y)) y) .l) = 0 then (pwl x (pwN y) FP.dconst1).bind fun r => if 0 ≤ FP.d2i y then some r else dv FP.dconst1 r else none
theorem f_sym {y : UInt64} (hy : okd y) (h1 : ¬ (Op.cmpValue (FP.dcmp y (13849694754071117824 : UInt64)) .g) < 0) (h2 : ¬ 0 < (Op.cmpValue (FP.dcmp y (4626322717216342016 : UInt64)) .l)) : (Op.cmpValue (FP.dcmp y (FP.l2d (FP.d2l y))) .l) = 0 ↔ (Op.cmpValue (FP.dcmp (FP.l2d (FP.d2l y)) y) .l) = 0 := sorry
/-- what the loops of the two powers ask -/
theorem f_pw {y : UInt64} (hy : okd y) (h : pwOk y) : pwN y ≤ 20 ∧ (0 ≤ (Op.cmpValue (FP.dcmp y FP.dconst0) .g) ↔ 0 ≤ FP.d2i y) ∧ (0 ≤ FP.d2i y → FP.d2i y = c32 (pwN y)) ∧ (¬ 0 ≤ FP.d2i y → - FP.d2i y = c32 (pwN y)) ∧ ∀ k, k ≤ pwN y → (0 ≤ (Op.cmpValue (FP.dcmp (FP.i2d (c32 k)) (if 0 ≤ (Op.cmpValue (FP.dcmp y FP.dconst0) .g) then y else FP.dneg y)) .g) ↔ k = pwN y) := sorry
