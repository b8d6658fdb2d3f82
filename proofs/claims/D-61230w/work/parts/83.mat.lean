/-! THE PURE LAW: matrices, places in them -/
/-- the matrix that stands at q (8 cells), R by K, its rows G -/
def MB (hp : Nat → Option aE) (q R K : Nat) (G : Nat → Nat → UInt64) : Prop :=
  hp q = some (.inr (27, [.ref (q + 1), .int (c32 R), .int (c32 K)])) ∧ hp (q + 1) = some (.inl (9, 6, rA (fun i => if i < 6 then some (q + 2 + i) else none))) ∧ ∀ i, i < 6 → hp (q + 2 + i) = some (.inl (2, 6, dA (G i)))
/-- matrix m of both machines -/
def MR (hp : Nat → Option aE) (st : bS) (m : Nat) (r : Option Nat) : Prop := match r with
  | none => st.2.1 38 m = 0
  | some q => ∃ R K G, MB hp q R K G ∧ 1 ≤ R ∧ R ≤ 6 ∧ 1 ≤ K ∧ K ≤ 6 ∧ st.2.1 38 m = c32 R ∧ st.2.1 39 m = c32 K ∧ ∀ i j, i < R → j < K → G i j = st.2.2 35 (36 * m + 6 * i + j) ∧ okd (G i j)
theorem e_le {a b : Nat} (ha : a < 2147483648) (hb : b < 2147483648) : c64 a ≤ c64 b ↔ a ≤ b := Int64.ofNat_le_iff_le (by omega) (by omega)
theorem e_lt {a b : Nat} (ha : a < 2147483648) (hb : b < 2147483648) : c64 a < c64 b ↔ a < b := Int64.ofNat_lt_iff_lt (by omega) (by omega)
/-- from 1 to R -/
theorem pl_in {x : Int64} {R : Nat} (hR : R < 1000) (h1 : ¬ x < 1) (h2 : x ≤ c64 R) : ∃ k, 1 ≤ k ∧ k ≤ R ∧ x = c64 k := by
  have e1 : ¬ x.toInt < 1 := fun z => h1 (Int64.lt_iff_toInt_lt.mpr z)
  have e2 := Int64.le_iff_toInt_le.mp h2
  have e3 : (c64 R).toInt = R := Int64.toInt_ofNat_of_lt (by omega)
  rw [e3] at e2
  refine ⟨x.toInt.toNat, by omega, by omega, ?_⟩
  apply Int64.toInt_inj.mp
  have e4 : (c64 x.toInt.toNat).toInt = x.toInt.toNat := Int64.toInt_ofNat_of_lt (by omega)
  rw [e4]
  omega
theorem e_32 {a : Nat} (h : a < 2147483648) : (c64 a).toInt32 = c32 a := Int64.toInt32_ofNat
/-- the place that two numbers name -/
def plc (R K : Nat) (x y : Int64) : Prop := ∃ i j, i < R ∧ j < K ∧ x = c64 (i + 1) ∧ y = c64 (j + 1)
section MATP
variable {n : Nat} {S : Nat → Nat} {σ : aS} {st : bS} {q R K : Nat} {G : Nat → Nat → UInt64}
theorem pl_no {x y : Int64} (hR : R < 1000) (hK : K < 1000) (h : ¬ plc R K x y) : x < 1 ∨ (¬ x < 1 ∧ c64 R < x) ∨ (¬ x < 1 ∧ ¬ c64 R < x ∧ y < 1) ∨ (¬ x < 1 ∧ ¬ c64 R < x ∧ ¬ y < 1 ∧ ¬ y ≤ c64 K) := by
  by_cases g1 : x < 1
  · exact Or.inl g1
  by_cases g2 : c64 R < x
  · exact Or.inr (Or.inl ⟨g1, g2⟩)
  by_cases g3 : y < 1
  · exact Or.inr (Or.inr (Or.inl ⟨g1, g2, g3⟩))
  refine Or.inr (Or.inr (Or.inr ⟨g1, g2, g3, fun g4 => h ?_⟩))
  obtain ⟨k, k1, k2, k3⟩ := pl_in hR g1 (Int64.not_lt.mp g2)
  obtain ⟨l, l1, l2, l3⟩ := pl_in hK g3 g4
  exact ⟨k - 1, l - 1, by omega, by omega, by rw [k3, Nat.sub_add_cancel k1], by rw [l3, Nat.sub_add_cancel l1]⟩
theorem A_check_t {x y : Int64} {r : Value} (hq : σ.2.2 q = some (.inr (27, [r, .int (c32 R), .int (c32 K)]))) (hR : R < 1000) (hK : K < 1000) (h : plc R K x y) : af_X28_check n S σ q x y = some (σ, .inl ()) := by
  obtain ⟨i, j, h1, h2, rfl, rfl⟩ := h
  unfold af_X28_check
  rw [if_neg (fun z => by have := (e_lt (a := i + 1) (b := 1) (by omega) (by omega)).mp ((lg_cmp_lt _ _).mp z); omega), ob (gI_of hq rfl), e_of (by omega), if_neg (fun z => by have := (e_lt (a := R) (b := i + 1) (by omega) (by omega)).mp ((lg_cmp_gt _ _).mp z); omega), if_neg (fun z => by have := (e_lt (a := j + 1) (b := 1) (by omega) (by omega)).mp ((lg_cmp_lt _ _).mp z); omega), ob (gI_of hq rfl), e_of (by omega), if_pos ((lg_cmp_le _ _).mpr ((e_le (by omega) (by omega)).mpr (by omega)))]
theorem A_check_f {x y : Int64} {r : Value} (hq : σ.2.2 q = some (.inr (27, [r, .int (c32 R), .int (c32 K)]))) (hR : R < 1000) (hK : K < 1000) (h : ¬ plc R K x y) : af_X28_check n S σ q x y = some (aTh σ, .inr 4) := by
  unfold af_X28_check
  rcases pl_no hR hK h with g | ⟨g1, g⟩ | ⟨g1, g2, g⟩ | ⟨g1, g2, g3, g⟩
  · rw [if_pos ((lg_cmp_lt _ _).mpr g)]; rfl
  · rw [if_neg (fun z => g1 ((lg_cmp_lt _ _).mp z)), ob (gI_of hq rfl), e_of (by omega), if_pos ((lg_cmp_gt _ _).mpr g)]; rfl
  · rw [if_neg (fun z => g1 ((lg_cmp_lt _ _).mp z)), ob (gI_of hq rfl), e_of (by omega), if_neg (fun z => g2 ((lg_cmp_gt _ _).mp z)), if_pos ((lg_cmp_lt _ _).mpr g)]; rfl
  · rw [if_neg (fun z => g1 ((lg_cmp_lt _ _).mp z)), ob (gI_of hq rfl), e_of (by omega), if_neg (fun z => g2 ((lg_cmp_gt _ _).mp z)), if_neg (fun z => g3 ((lg_cmp_lt _ _).mp z)), ob (gI_of hq rfl), e_of (by omega), if_neg (fun z => g ((lg_cmp_le _ _).mp z))]; rfl
theorem B_place_t {m i j : Nat} {x y : UInt64} (hm : m < 3) (h1 : st.2.1 38 m = c32 R) (h2 : st.2.1 39 m = c32 K) (hR : R ≤ 6) (hK : K ≤ 6) (hi : i < R) (hj : j < K) (hx : FP.d2l x = c64 (i + 1)) (hy : FP.d2l y = c64 (j + 1)) : bf_placeOf n st (c32 m) x y = some (st, c32 (36 * m + 6 * i + j)) := by
  unfold bf_placeOf
  show (if (lg_cmp (FP.d2l x) (1 : Int64)) < 0 then _ else _) = _
  have s1 : ∀ k : Nat, c64 (k + 1) - (1 : Int64) = c64 k := fun k => by
    show c64 (k + 1) - c64 1 = _
    rw [e_sub (by omega)]
    rfl
  rw [hx, hy, if_neg (fun z => by have := (e_lt (a := i + 1) (b := 1) (by omega) (by omega)).mp ((lg_cmp_lt _ _).mp z); omega), ob (ld_A (show m < 3 from hm)), h1, e_of (by omega), if_neg (fun z => by have := (e_lt (a := R) (b := i + 1) (by omega) (by omega)).mp ((lg_cmp_gt _ _).mp z); omega), if_neg (fun z => by have := (e_lt (a := j + 1) (b := 1) (by omega) (by omega)).mp ((lg_cmp_lt _ _).mp z); omega), ob (ld_A (show m < 3 from hm)), h2, e_of (by omega), if_pos ((lg_cmp_le _ _).mpr ((e_le (by omega) (by omega)).mpr (by omega))), s1, s1, e_32 (by omega), e_32 (by omega)]
  show some (st, c32 m * c32 36 + c32 i * c32 6 + c32 j) = _
  rw [c_mul, c_mul, c_add, c_add, Nat.mul_comm m, Nat.mul_comm i]
theorem B_place_f {m : Nat} {x y : UInt64} (hm : m < 3) (h1 : st.2.1 38 m = c32 R) (h2 : R ≠ 0 → st.2.1 39 m = c32 K) (hR : R ≤ 6) (hK : K ≤ 6) (h : ¬ plc R K (FP.d2l x) (FP.d2l y)) : bf_placeOf n st (c32 m) x y = some (sI st 27 5, -1) := by
  unfold bf_placeOf
  show (if (lg_cmp (FP.d2l x) (1 : Int64)) < 0 then _ else _) = _
  rcases pl_no (by omega) (by omega) h with g | ⟨g1, g⟩ | ⟨g1, g2, g⟩ | ⟨g1, g2, g3, g⟩
  · rw [if_pos ((lg_cmp_lt _ _).mpr g)]; rfl
  · rw [if_neg (fun z => g1 ((lg_cmp_lt _ _).mp z)), ob (ld_A (show m < 3 from hm)), h1, e_of (by omega), if_pos ((lg_cmp_gt _ _).mpr g)]; rfl
  · rw [if_neg (fun z => g1 ((lg_cmp_lt _ _).mp z)), ob (ld_A (show m < 3 from hm)), h1, e_of (by omega), if_neg (fun z => g2 ((lg_cmp_gt _ _).mp z)), if_pos ((lg_cmp_lt _ _).mpr g)]; rfl
  · have hR0 : R ≠ 0 := by
      intro z
      subst z
      obtain ⟨k, k1, k2, _⟩ := pl_in (R := 0) (by omega) g1 (Int64.not_lt.mp g2)
      omega
    rw [if_neg (fun z => g1 ((lg_cmp_lt _ _).mp z)), ob (ld_A (show m < 3 from hm)), h1, e_of (by omega), if_neg (fun z => g2 ((lg_cmp_gt _ _).mp z)), if_neg (fun z => g3 ((lg_cmp_lt _ _).mp z)), ob (ld_A (show m < 3 from hm)), h2 hR0, e_of (by omega), if_neg (fun z => g ((lg_cmp_le _ _).mp z))]; rfl
/-- an element -/
theorem A_mat_at {i j : Nat} (h : MB σ.2.2 q R K G) (hR : R ≤ 6) (hK : K ≤ 6) (hi : i < R) (hj : j < K) : af_X28_at n S σ q (c64 (i + 1)) (c64 (j + 1)) = some (σ, .inl (G i j)) := by
  obtain ⟨h1, h2, h3⟩ := h
  have s1 : ∀ k : Nat, k < 1000 → (c64 (k + 1)).toInt32 - (1 : Int32) = c32 k := fun k hk => by
    rw [e_32 (by omega)]
    show c32 (k + 1) - c32 1 = _
    rw [c_sub (by omega)]
    rfl
  unfold af_X28_at
  have e1 : lR σ (q + 1) 9 (c32 i) = some (some (q + 2 + i)) := by
    rw [lR_of h2 (by omega) (by omega), if_pos (by omega)]
  rw [ob (gC_of h1), ox (A_check_t h1 (by omega) (by omega) ⟨i, j, hi, hj, rfl, rfl⟩), ob (gR_of (v := some (q + 1)) h1 rfl), ob (show some (q + 1) = some (q + 1) from rfl), s1 i (by omega), ob e1, ob (show some (q + 2 + i) = some (q + 2 + i) from rfl), s1 j (by omega), ob (lD_of (h3 i (by omega)) (by omega) (by omega))]
theorem A_mat_at_f {x y : Int64} (h : MB σ.2.2 q R K G) (hR : R ≤ 6) (hK : K ≤ 6) (hx : ¬ plc R K x y) : af_X28_at n S σ q x y = some (aTh σ, .inr 4) := by
  unfold af_X28_at
  rw [ob (gC_of h.1), oxr (A_check_f h.1 (by omega) (by omega) hx)]
end MATP
