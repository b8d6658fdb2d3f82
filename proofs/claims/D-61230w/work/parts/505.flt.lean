/-! THE PURE LAW: what is needed of doubles -/
def c64 (k : Nat) : Int64 := Int64.ofNat k
theorem e_add (a b : Nat) : c64 a + c64 b = c64 (a + b) := (Int64.ofNat_add a b).symm
theorem e_mul (a b : Nat) : c64 a * c64 b = c64 (a * b) := (Int64.ofNat_mul a b).symm
theorem e_sub {a b : Nat} (h : b ≤ a) : c64 a - c64 b = c64 (a - b) := (Int64.ofNat_sub a b h).symm
theorem e_of {a : Nat} (h : a < 2147483648) : (c32 a).toInt64 = c64 a := Int32.toInt64_ofNat' (by show (a : Int) ≤ 2147483647; omega)
/-- 1, 10, 100, 1000 -/
def un : Nat → UInt64
  | 0 => FP.dconst1
  | j + 1 => FP.dmul (un j) 4621819117588971520
theorem un_ok {j : Nat} (h : j < 3) : nOk (FP.dmul (un j) 4621819117588971520) := by
  match j, h with
  | 0, _ => decide +kernel
  | 1, _ => decide +kernel
  | 2, _ => decide +kernel
theorem nN_of {r : UInt64} (h : nOk r) : nN r = some r := if_pos h
/-- a numeral's value -/
def nuV (w pl : Nat) : UInt64 := FP.ddiv (FP.i2d (c32 w)) (un pl)
theorem nuV_ok {w pl : Nat} (hw : w < 1000000000) (h : pl < 4) : nOk (nuV w pl) := sorry
theorem nuV_0 {w : Nat} (hw : w < 1000000000) : FP.l2d (c64 w) = nuV w 0 := sorry
theorem nuV_l {w pl : Nat} (hw : w < 1000000000) : FP.ddiv (FP.l2d (c64 w)) (un pl) = nuV w pl := by
  have : FP.l2d (c64 w) = FP.i2d (c32 w) := by
    show UInt64.ofNat (FP.Core.fromInt FP.Core.b64 (c64 w).toInt) = UInt64.ofNat (FP.Core.fromInt FP.Core.b64 (c32 w).toInt)
    rw [c_toInt (by omega)]
    have e1 : (c64 w).toInt = w := Int64.toInt_ofNat_of_lt (by omega)
    rw [e1]
  rw [this]
  rfl
