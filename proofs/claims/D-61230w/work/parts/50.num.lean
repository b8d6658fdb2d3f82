/-! THE PURE LAW: small natural numbers as ints -/
def c32 (k : Nat) : Int32 := Int32.ofNat k
theorem c_lit (k : Nat) : (no_index (OfNat.ofNat k) : Int32) = c32 (OfNat.ofNat k) := rfl
theorem c_add (a b : Nat) : c32 a + c32 b = c32 (a + b) := (Int32.ofNat_add a b).symm
theorem c_mul (a b : Nat) : c32 a * c32 b = c32 (a * b) := (Int32.ofNat_mul a b).symm
theorem c_sub {a b : Nat} (h : b ≤ a) : c32 a - c32 b = c32 (a - b) := (Int32.ofNat_sub a b h).symm
theorem c_pred {a : Nat} (h : 1 ≤ a) : c32 a + (-1 : Int32) = c32 (a - 1) := by
  rw [← c_sub h, Int32.sub_eq_add_neg]
  rfl
theorem c_le {a b : Nat} (ha : a < 2147483648) (hb : b < 2147483648) : c32 a ≤ c32 b ↔ a ≤ b := Int32.ofNat_le_iff_le ha hb
theorem c_lt {a b : Nat} (ha : a < 2147483648) (hb : b < 2147483648) : c32 a < c32 b ↔ a < b := Int32.ofNat_lt_iff_lt ha hb
theorem c_nat {a : Nat} (h : a < 2147483648) : (c32 a).toNatClampNeg = a := Int32.toNatClampNeg_ofNat_of_lt h
theorem c_eq {a b : Nat} (ha : a < 2147483648) (hb : b < 2147483648) : c32 a = c32 b ↔ a = b := ⟨fun h => by have h2 := congrArg Int32.toNatClampNeg h; rwa [c_nat ha, c_nat hb] at h2, fun h => by rw [h]⟩
theorem c_nn {a : Nat} (h : a < 2147483648) : ¬ c32 a < 0 := by
  intro g
  have g2 : c32 a < c32 0 := g
  have := (c_lt h (by decide)).mp g2
  omega
theorem c_0le {a : Nat} (h : a < 2147483648) : 0 ≤ c32 a := by
  have g2 : c32 0 ≤ c32 a := (c_le (by decide) h).mpr (Nat.zero_le _)
  exact g2
theorem c_in {a N : Nat} (h : a < 2147483648) : (c32 a < 0 ∨ N ≤ (c32 a).toNatClampNeg) ↔ N ≤ a := by
  rw [c_nat h]
  exact ⟨fun g => g.elim (fun z => absurd z (c_nn h)) id, Or.inr⟩
theorem c_neg1 {a : Nat} (h : a < 2147483648) : c32 a ≠ -1 := by
  intro g
  apply c_nn h
  rw [g]
  decide
theorem c_of {v : Int32} (h : ¬ v < 0) : v = c32 v.toNatClampNeg := (Int32.ofNat_toNatClampNeg v (Int32.not_lt.mp h)).symm
theorem c_toInt {a : Nat} (h : a < 2147483648) : (c32 a).toInt = a := Int32.toInt_ofNat_of_lt h
/-! the model's arrays -/
theorem bN_le (k : Nat) : bN k ≤ 4000 := by
  unfold bN
  split <;> exact Nat.le_of_ble_eq_true rfl
theorem ld_A {st : bS} {k a : Nat} (h : a < bN k) : ldA st k (c32 a) = some (st.2.1 k a) := by
  have := bN_le k
  unfold ldA
  rw [if_neg (fun g => by have := (c_in (by omega)).mp g; omega), c_nat (by omega)]
theorem ld_D {st : bS} {k a : Nat} (h : a < bN k) : ldD st k (c32 a) = some (st.2.2 k a) := by
  have := bN_le k
  unfold ldD
  rw [if_neg (fun g => by have := (c_in (by omega)).mp g; omega), c_nat (by omega)]
theorem st_A {st : bS} {k a : Nat} {v : Int32} (h : a < bN k) : stA st k (c32 a) v = some (sA st k a v) := by
  have := bN_le k
  unfold stA
  rw [if_neg (fun g => by have := (c_in (by omega)).mp g; omega), c_nat (by omega)]
theorem st_D {st : bS} {k a : Nat} {v : UInt64} (h : a < bN k) : stD st k (c32 a) v = some (sD st k a v) := by
  have := bN_le k
  unfold stD
  rw [if_neg (fun g => by have := (c_in (by omega)).mp g; omega), c_nat (by omega)]
theorem c_nar {a : Nat} (h : a < 128) : vp_nar .char (c32 a) = c32 a := by
  have : ∀ k : Fin 128, vp_nar .char (c32 k.val) = c32 k.val := by decide
  exact this ⟨a, h⟩
theorem st_C {st : bS} {k a v : Nat} (h : a < bN k) (hv : v < 128) : stC st k (c32 a) (c32 v) = some (sA st k a (c32 v)) := by
  have := bN_le k
  unfold stC
  rw [if_neg (fun g => by have := (c_in (by omega)).mp g; omega), c_nat (by omega), c_nar hv]
theorem sI_at (st : bS) (k j : Nat) (v : Int32) : (sI st k v).1 j = if j = k then v else st.1 j := rfl
theorem sA_at (st : bS) (k i q j : Nat) (v : Int32) : (sA st k i v).2.1 q j = if q = k then (if j = i then v else st.2.1 k j) else st.2.1 q j := by
  unfold sA upd
  show (if q = k then _ else _ : Nat → Int32) j = _
  split <;> rfl
theorem sA_ne (st : bS) {k i q : Nat} {v : Int32} (h : q ≠ k) : (sA st k i v).2.1 q = st.2.1 q := by
  unfold sA
  show (if q = k then _ else _) = _
  rw [if_neg h]
theorem sD_at (st : bS) (k i q j : Nat) (v : UInt64) : (sD st k i v).2.2 q j = if q = k then (if j = i then v else st.2.2 k j) else st.2.2 q j := by
  unfold sD vf_upd
  show (if q = k then _ else _ : Nat → UInt64) j = _
  split <;> rfl
theorem sD_ne (st : bS) {k i q : Nat} {v : UInt64} (h : q ≠ k) : (sD st k i v).2.2 q = st.2.2 q := by
  unfold sD
  show (if q = k then _ else _) = _
  rw [if_neg h]
