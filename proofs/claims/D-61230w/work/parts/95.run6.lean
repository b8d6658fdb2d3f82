/-! THE PURE LAW: runs of statements: MAT -/
def msum (g1 g2 : Nat → Nat → UInt64) (i jj : Nat) : Nat → Nat → UInt64 → Option UInt64
  | 0, _, s => some s
  | d + 1, k, s => (ck (FP.dmul (g1 i k) (g2 k jj))).bind fun q => (ck (FP.dadd s q)).bind fun r => msum g1 g2 i jj d (k + 1) r
/-- a cell of MAT's result -/
def mcell (w : Nat) (g1 g2 : Nat → Nat → UInt64) (K1 : Nat) (ti : UInt64) (i jj : Nat) : Option UInt64 := match w with
  | 0 => some FP.dconst0
  | 1 => some FP.dconst1
  | 2 => some (if i = jj then FP.dconst1 else FP.dconst0)
  | 3 => some (g1 jj i)
  | 4 => ck (FP.dmul ti (g1 i jj))
  | 5 => some (g1 i jj)
  | 6 => ck (FP.dadd (g1 i jj) (g2 i jj))
  | 7 => ck (FP.dsub (g1 i jj) (g2 i jj))
  | _ => (ck (FP.dmul (g1 i 0) (g2 0 jj))).bind fun s => msum g1 g2 i jj (K1 - 1) 1 s
/-- what the cell asks for -/
def mok (w R1 K1 R2 K2 i jj : Nat) : Prop := (w = 3 → i < K1 ∧ jj < R1) ∧ (w ≠ 3 → i < R1) ∧ (w ≠ 3 → w ≠ 8 → jj < K1) ∧ (w = 6 ∨ w = 7 → R2 = R1 ∧ K2 = K1) ∧ (w = 8 → jj < K2 ∧ K1 = R2)
section RUN6
variable {x Z T : Nat} {P : PG_} {w : Nat → List UInt64} {h : Nat → Option aE} {f : Nat → Value} {hp hp' : Nat → Option aE} {st st' : bS} {M F : Nat → Option Nat} {σ σ0 : aS} {V : Nat → UInt64} {n : Nat} {S : Nat → Nat} {j ln s k : Nat} {R1 K1 R2 K2 q1 q2 : Nat} {G1 G2 g1 g2 : Nat → Nat → UInt64} {ti : UInt64} {i jj : Nat}
theorem msum_ok (h1 : ∀ b, b < K1 → okd (g1 i b)) (h2 : ∀ b, b < K1 → okd (g2 b jj)) : ∀ (d k : Nat) (s v : UInt64), k + d = K1 → okd s → msum g1 g2 i jj d k s = some v → okd v
  | 0, k, s, v, _, hs, hv => by cases hv; exact hs
  | d + 1, k, s, v, hk, hs, hv => by
    unfold msum at hv
    cases hq : ck (FP.dmul (g1 i k) (g2 k jj)) with
    | none => rw [hq] at hv; exact nomatch hv
    | some q =>
      rw [hq, ob rfl] at hv
      have hq' := (f_ck (f_mul (h1 k (by omega)) (h2 k (by omega))) hq).1
      cases hr : ck (FP.dadd s q) with
      | none => rw [hr] at hv; exact nomatch hv
      | some r =>
        rw [hr, ob rfl] at hv
        exact msum_ok h1 h2 d (k + 1) r v (by omega) (f_ck (f_add hs hq') hr).1 hv
theorem mcell_ok {ww : Nat} {v : UInt64} (hw : ww < 9) (h1 : ∀ a b, a < R1 → b < K1 → okd (g1 a b)) (h2 : ∀ a b, a < R2 → b < K2 → okd (g2 a b)) (hK1 : 1 ≤ K1) (ht : okd ti) (hm : mok ww R1 K1 R2 K2 i jj) (hv : mcell ww g1 g2 K1 ti i jj = some v) : okd v := by
  obtain ⟨m3, m1, m2, m67, m8⟩ := hm
  match ww, hw with
  | 0, _ => cases hv; exact f_0
  | 1, _ => cases hv; exact f_1
  | 2, _ =>
    cases hv
    split
    · exact f_1
    · exact f_0
  | 3, _ => cases hv; exact h1 _ _ (m3 rfl).2 (m3 rfl).1
  | 4, _ => exact (f_ck (f_mul ht (h1 _ _ (m1 (by omega)) (m2 (by omega) (by omega)))) hv).1
  | 5, _ => cases hv; exact h1 _ _ (m1 (by omega)) (m2 (by omega) (by omega))
  | 6, _ => exact (f_ck (f_add (h1 _ _ (m1 (by omega)) (m2 (by omega) (by omega))) (h2 _ _ (by have := m67 (by omega); have := m1 (by omega); omega) (by have := m67 (by omega); have := m2 (by omega) (by omega); omega))) hv).1
  | 7, _ => exact (f_ck (f_sub (h1 _ _ (m1 (by omega)) (m2 (by omega) (by omega))) (h2 _ _ (by have := m67 (by omega); have := m1 (by omega); omega) (by have := m67 (by omega); have := m2 (by omega) (by omega); omega))) hv).1
  | 8, _ =>
    have e8 := m8 rfl
    have hi := m1 (by omega)
    have hv : (ck (FP.dmul (g1 i 0) (g2 0 jj))).bind (fun s => msum g1 g2 i jj (K1 - 1) 1 s) = some v := hv
    cases hs : ck (FP.dmul (g1 i 0) (g2 0 jj)) with
    | none => rw [hs] at hv; exact nomatch hv
    | some s0 =>
      rw [hs, ob rfl] at hv
      exact msum_ok (K1 := K1) (fun b hb => h1 _ _ hi hb) (fun b hb => h2 _ _ (by omega) e8.1) _ _ _ _ (by omega) (f_ck (f_mul (h1 _ _ hi (by omega)) (h2 _ _ (by omega) e8.1)) hs).1 hv
theorem mb_row {q R K a : Nat} {G : Nat → Nat → UInt64} (b : MB σ.2.2 q R K G) (ha : a < 6) : lR σ (q + 1) 9 (c32 a) = some (some (q + 2 + a)) := by rw [lR_of b.2.1 (by omega) (by omega), if_pos (by omega)]
theorem mb_at {q R K a c : Nat} {G : Nat → Nat → UInt64} (b : MB σ.2.2 q R K G) (ha : a < 6) (hc : c < 6) : lD σ (q + 2 + a) (c32 c) = some (G a c) := lD_of (b.2.2 a ha) (by omega) (by omega)
theorem mb_r {q R K : Nat} {G : Nat → Nat → UInt64} (b : MB σ.2.2 q R K G) : gR σ q 27 0 = some (some (q + 1)) := gR_of (v := some (q + 1)) b.1 rfl
theorem oA_ck {r : UInt64} : af_X1_checked n S σ r = oA σ (ck r) := A_ck
theorem A_msum (hb1 : MB σ.2.2 q1 R1 K1 G1) (hb2 : MB σ.2.2 q2 R2 K2 G2) (e1 : ∀ a b, a < R1 → b < K1 → G1 a b = g1 a b ∧ okd (g1 a b)) (e2 : ∀ a b, a < R2 → b < K2 → G2 a b = g2 a b ∧ okd (g2 a b)) (hR1 : R1 ≤ 6) (hK1 : K1 ≤ 6) (hK2 : K2 ≤ 6) (hi : i < R1) (hj : jj < K2) (hR2 : K1 = R2) : ∀ (d k fu : Nat) (s0 : UInt64), k + d = K1 → d < fu → okd s0 → af_X26_cell_S212 n S fu σ s (some q1) (some q2) (c32 i) (c32 jj) s0 (c32 k) = oA σ (msum g1 g2 i jj d k s0) := by
  intro d
  induction d with
  | zero =>
    intro k fu s0 hk hf hs
    obtain ⟨fu, rfl⟩ : ∃ m, fu = m + 1 := ⟨fu - 1, by omega⟩
    show af_X26_cell_B212 n S _ σ s _ _ _ _ _ _ = _
    unfold af_X26_cell_B212
    rw [ob (show some q1 = some q1 from rfl), ob (gI_of hb1.1 rfl), if_pos ((c_le (by omega) (by omega)).mpr (by omega))]
    rfl
  | succ d ih =>
    intro k fu s0 hk hf hs
    obtain ⟨fu, rfl⟩ : ∃ m, fu = m + 1 := ⟨fu - 1, by omega⟩
    show af_X26_cell_B212 n S _ σ s _ _ _ _ _ _ = _
    unfold af_X26_cell_B212
    obtain ⟨z1, o1⟩ := e1 i k hi (by omega)
    obtain ⟨z2, o2⟩ := e2 k jj (by omega) hj
    rw [ob (show some q1 = some q1 from rfl), ob (gI_of hb1.1 rfl), if_neg (fun z => by have := (c_le (a := K1) (b := k) (by omega) (by omega)).mp z; omega), ob (mb_r hb1), ob (show some (q1 + 1) = some (q1 + 1) from rfl), ob (mb_row hb1 (by omega)), ob (show some (q1 + 2 + i) = some (q1 + 2 + i) from rfl), ob (mb_at hb1 (by omega) (by omega)), ob (show some q2 = some q2 from rfl), ob (mb_r hb2), ob (show some (q2 + 1) = some (q2 + 1) from rfl), ob (mb_row hb2 (by omega)), ob (show some (q2 + 2 + k) = some (q2 + 2 + k) from rfl), ob (mb_at hb2 (by omega) (by omega)), z1, z2, ob (nN_of (f_mul o1 o2)), oA_ck]
    unfold msum
    cases hq : ck (FP.dmul (g1 i k) (g2 k jj)) with
    | none => rfl
    | some q =>
      have oq := (f_ck (f_mul o1 o2) hq).1
      show ((nN (FP.dadd s0 q)).bind _) = _
      rw [ob (nN_of (f_add hs oq)), oA_ck, ob rfl]
      cases hr : ck (FP.dadd s0 q) with
      | none => rfl
      | some r =>
        show af_X26_cell_S212 n S fu σ s _ _ _ _ r (c32 k + c32 1) = _
        rw [c_add, ih (k + 1) fu r (by omega) (by omega) (f_ck (f_add hs oq) hr).1]
        rfl
theorem xb_oA {z : Option UInt64} : (xb (oA σ z) fun st_16 v_17 => some (st_16, .inl v_17)) = oA σ z := xb_idU
theorem A_cell {ww : Nat} {vs : List Value} (hn : 1000 ≤ n) (hc : σ.2.2 s = some (.inr (25, vs))) (hvs : vs[1]? = some (.int (c32 (matC ww)))) (hw : ww < 9) (hb1 : MB σ.2.2 q1 R1 K1 G1) (hb2 : MB σ.2.2 q2 R2 K2 G2) (e1 : ∀ a b, a < R1 → b < K1 → G1 a b = g1 a b ∧ okd (g1 a b)) (e2 : ∀ a b, a < R2 → b < K2 → G2 a b = g2 a b ∧ okd (g2 a b)) (hR1 : R1 ≤ 6) (hK1 : K1 ≤ 6) (hR2 : R2 ≤ 6) (hK2 : K2 ≤ 6) (h1K : 1 ≤ K1) (ht : okd ti) (hm : mok ww R1 K1 R2 K2 i jj) (hi6 : i < 6) (hj6 : jj < 6) : af_X26_cell n S σ s (some q1) (some q2) ti (c32 i) (c32 jj) = oA σ (mcell ww g1 g2 K1 ti i jj) := by
  obtain ⟨m3, m1, m2, m67, m8⟩ := hm
  unfold af_X26_cell
  rw [ob (gI_of hc hvs)]
  match ww, hw with
  | 0, _ => rfl
  | 1, _ => rfl
  | 2, _ =>
    show (if c32 i = c32 jj then _ else _) = _
    by_cases g : i = jj
    · rw [if_pos (by rw [g])]
      show _ = oA σ (some (if i = jj then FP.dconst1 else FP.dconst0))
      rw [if_pos g]
      rfl
    · rw [if_neg (n_c (by omega) (by omega) g)]
      show _ = oA σ (some (if i = jj then FP.dconst1 else FP.dconst0))
      rw [if_neg g]
      rfl
  | 3, _ =>
    obtain ⟨i3, j3⟩ := m3 rfl
    rw [if_neg (by decide), if_neg (by decide), if_neg (by decide), if_neg (by decide), if_neg (by decide), if_neg (by decide), if_pos (by decide), ob (show some q1 = some q1 from rfl), ob (mb_r hb1), ob (show some (q1 + 1) = some (q1 + 1) from rfl), ob (mb_row hb1 hj6), ob (show some (q1 + 2 + jj) = some (q1 + 2 + jj) from rfl), ob (mb_at hb1 hj6 hi6), (e1 jj i j3 i3).1]
    rfl
  | 4, _ =>
    obtain ⟨z1, o1⟩ := e1 i jj (m1 (by omega)) (m2 (by omega) (by omega))
    rw [if_neg (by decide), if_neg (by decide), if_neg (by decide), if_neg (by decide), if_neg (by decide), if_pos (by decide), ob (show some q1 = some q1 from rfl), ob (mb_r hb1), ob (show some (q1 + 1) = some (q1 + 1) from rfl), ob (mb_row hb1 hi6), ob (show some (q1 + 2 + i) = some (q1 + 2 + i) from rfl), ob (mb_at hb1 hi6 hj6), z1, ob (nN_of (f_mul ht o1)), oA_ck, xb_oA]
    rfl
  | 5, _ =>
    obtain ⟨z1, o1⟩ := e1 i jj (m1 (by omega)) (m2 (by omega) (by omega))
    rw [if_neg (by decide), if_neg (by decide), if_pos (by decide), ob (show some q1 = some q1 from rfl), ob (mb_r hb1), ob (show some (q1 + 1) = some (q1 + 1) from rfl), ob (mb_row hb1 hi6), ob (show some (q1 + 2 + i) = some (q1 + 2 + i) from rfl), ob (mb_at hb1 hi6 hj6), z1]
    rfl
  | 6, _ =>
    obtain ⟨z1, o1⟩ := e1 i jj (m1 (by omega)) (m2 (by omega) (by omega))
    obtain ⟨z2, o2⟩ := e2 i jj (by have := m67 (by omega); have := m1 (by omega); omega) (by have := m67 (by omega); have := m2 (by omega) (by omega); omega)
    rw [if_pos (by decide), ob (show some q1 = some q1 from rfl), ob (mb_r hb1), ob (show some (q1 + 1) = some (q1 + 1) from rfl), ob (mb_row hb1 hi6), ob (show some (q1 + 2 + i) = some (q1 + 2 + i) from rfl), ob (mb_at hb1 hi6 hj6), ob (show some q2 = some q2 from rfl), ob (mb_r hb2), ob (show some (q2 + 1) = some (q2 + 1) from rfl), ob (mb_row hb2 hi6), ob (show some (q2 + 2 + i) = some (q2 + 2 + i) from rfl), ob (mb_at hb2 hi6 hj6), z1, z2, ob (nN_of (f_add o1 o2)), oA_ck, xb_oA]
    rfl
  | 7, _ =>
    obtain ⟨z1, o1⟩ := e1 i jj (m1 (by omega)) (m2 (by omega) (by omega))
    obtain ⟨z2, o2⟩ := e2 i jj (by have := m67 (by omega); have := m1 (by omega); omega) (by have := m67 (by omega); have := m2 (by omega) (by omega); omega)
    rw [if_neg (by decide), if_pos (by decide), ob (show some q1 = some q1 from rfl), ob (mb_r hb1), ob (show some (q1 + 1) = some (q1 + 1) from rfl), ob (mb_row hb1 hi6), ob (show some (q1 + 2 + i) = some (q1 + 2 + i) from rfl), ob (mb_at hb1 hi6 hj6), ob (show some q2 = some q2 from rfl), ob (mb_r hb2), ob (show some (q2 + 1) = some (q2 + 1) from rfl), ob (mb_row hb2 hi6), ob (show some (q2 + 2 + i) = some (q2 + 2 + i) from rfl), ob (mb_at hb2 hi6 hj6), z1, z2, ob (nN_of (f_sub o1 o2)), oA_ck, xb_oA]
    rfl
  | 8, _ =>
    have e8 := m8 rfl
    have hi := m1 (by omega)
    obtain ⟨z1, o1⟩ := e1 i 0 hi (by omega)
    obtain ⟨z2, o2⟩ := e2 0 jj (by omega) e8.1
    have l1 : lD σ (q1 + 2 + i) (0 : Int32) = some (G1 i 0) := mb_at (c := 0) hb1 hi6 (by omega)
    have l2 : lR σ (q2 + 1) 9 (0 : Int32) = some (some (q2 + 2 + 0)) := mb_row (a := 0) hb2 (by omega)
    rw [if_neg (by decide), if_neg (by decide), if_neg (by decide), if_neg (by decide), if_neg (by decide), if_neg (by decide), if_neg (by decide), if_neg (by decide), ob (show some q1 = some q1 from rfl), ob (mb_r hb1), ob (show some (q1 + 1) = some (q1 + 1) from rfl), ob (mb_row hb1 hi6), ob (show some (q1 + 2 + i) = some (q1 + 2 + i) from rfl), ob l1, ob (show some q2 = some q2 from rfl), ob (mb_r hb2), ob (show some (q2 + 1) = some (q2 + 1) from rfl), ob l2, ob (show some (q2 + 2 + 0) = some (q2 + 2 + 0) from rfl), ob (mb_at hb2 (by omega) hj6), z1, z2, ob (nN_of (f_mul o1 o2)), oA_ck]
    show _ = oA σ ((ck (FP.dmul (g1 i 0) (g2 0 jj))).bind fun s => msum g1 g2 i jj (K1 - 1) 1 s)
    cases hq : ck (FP.dmul (g1 i 0) (g2 0 jj)) with
    | none => rfl
    | some q => exact A_msum hb1 hb2 e1 e2 hR1 hK1 hK2 hi e8.1 e8.2 (K1 - 1) 1 n q (by omega) (by omega) (f_ck (f_mul o1 o2) hq).1
/-! the model's cell -/
theorem ld_cell {m a b : Nat} {v : Int32} (hm : m < 3) (ha : a < 6) (hb : b < 6) (hv : v = c32 (36 * m + 6 * a + b)) : ldD st 35 v = some (st.2.2 35 (36 * m + 6 * a + b)) := by rw [hv, ld_D (show 36 * m + 6 * a + b < 108 by omega)]
theorem oB_bb {z : Option UInt64} {q : Option (bS × UInt64)} (g : oB st z q) : oB st z (q.bind fun q_24 => some (q_24.1, q_24.2)) := by rw [bb_id]; exact g
theorem oB_ck_ {r : UInt64} : oB st (ck r) (bf_kept n st r) := by
  rw [B_ck]
  cases ck r with
  | none => exact ⟨_, rfl⟩
  | some v => rfl
theorem B_msum {m1 m2 : Nat} (hm1 : m1 < 3) (hm2 : m2 < 3) (h27 : st.1 27 = 0) (hg1 : g1 = fun a b => st.2.2 35 (36 * m1 + 6 * a + b)) (hg2 : g2 = fun a b => st.2.2 35 (36 * m2 + 6 * a + b)) (h39 : st.2.1 39 m1 = c32 K1) (o1 : ∀ b, b < K1 → okd (g1 i b)) (o2 : ∀ b, b < K1 → okd (g2 b jj)) (hi : i < 6) (hj : jj < 6) (hK : K1 ≤ 6) : ∀ (d k fu : Nat) (s0 : UInt64), k + d = K1 → 2 * d + 2 < fu → okd s0 → oB st (msum g1 g2 i jj d k s0) (bf_matCell_S212 n fu 0 st (c32 m1) (c32 m2) (c32 i) (c32 jj) s0 (c32 k)) := by
  intro d
  have dead : ∀ (fu k : Nat) (s : bS) (v : UInt64), 2 < fu → k ≤ 6 → s.2.1 39 m1 = c32 K1 → ¬ s.1 27 = 0 → bf_matCell_S212 n fu 1 s (c32 m1) (c32 m2) (c32 i) (c32 jj) v (c32 k) = some (s, v) := fun fu k s v hf hk h39' h27' => by
    obtain ⟨fu, rfl⟩ : ∃ m, fu = m + 2 := ⟨fu - 2, by omega⟩
    show bf_matCell_B212 n _ s _ _ _ _ _ (c32 k + c32 1) = _
    unfold bf_matCell_B212
    have e39 : ldA s 39 (c32 m1) = some (c32 K1) := by rw [ld_A (show m1 < 3 from hm1), h39']
    rw [ob e39, c_add]
    split
    · rfl
    · first | rfl | rw [if_neg h27']
  induction d with
  | zero =>
    intro k fu s0 hk hf hs
    obtain ⟨fu, rfl⟩ : ∃ m, fu = m + 1 := ⟨fu - 1, by omega⟩
    have e39 : ldA st 39 (c32 m1) = some (c32 K1) := by rw [ld_A (show m1 < 3 from hm1), h39]
    show bf_matCell_B212 n _ st _ _ _ _ _ _ = _
    unfold bf_matCell_B212
    rw [ob e39, if_pos ((c_le (by omega) (by omega)).mpr (by omega))]
  | succ d ih =>
    intro k fu s0 hk hf hs
    obtain ⟨fu, rfl⟩ : ∃ m, fu = m + 2 := ⟨fu - 2, by omega⟩
    have e39 : ldA st 39 (c32 m1) = some (c32 K1) := by rw [ld_A (show m1 < 3 from hm1), h39]
    have a1 : ldD st 35 (((c32 m1 * (36 : Int32)) + (c32 i * (6 : Int32))) + c32 k) = some (g1 i k) := by
      rw [hg1]
      refine ld_cell hm1 hi (by omega) ?_
      show c32 m1 * c32 36 + c32 i * c32 6 + c32 k = _
      rw [c_mul, c_mul, c_add, c_add, Nat.mul_comm m1, Nat.mul_comm i]
    have a2 : ldD st 35 (((c32 m2 * (36 : Int32)) + (c32 k * (6 : Int32))) + c32 jj) = some (g2 k jj) := by
      rw [hg2]
      refine ld_cell hm2 (by omega) hj ?_
      show c32 m2 * c32 36 + c32 k * c32 6 + c32 jj = _
      rw [c_mul, c_mul, c_add, c_add, Nat.mul_comm m2, Nat.mul_comm k]
    have e0 : bf_matCell_S212 n (fu + 2) 0 st (c32 m1) (c32 m2) (c32 i) (c32 jj) s0 (c32 k) = (bf_kept n st (FP.dmul (g1 i k) (g2 k jj))).bind fun q_7 => if (q_7.1.1 27) = 0 then (nN (FP.dadd s0 q_7.2)).bind fun v_9 => (bf_kept n q_7.1 v_9).bind fun q_10 => bf_matCell_S212 n (fu + 1) 1 q_10.1 (c32 m1) (c32 m2) (c32 i) (c32 jj) q_10.2 (c32 k) else bf_matCell_S212 n (fu + 1) 1 q_7.1 (c32 m1) (c32 m2) (c32 i) (c32 jj) s0 (c32 k) := by
      show bf_matCell_B212 n _ st _ _ _ _ _ _ = _
      unfold bf_matCell_B212
      rw [ob e39, if_neg (fun z => by have := (c_le (a := K1) (b := k) (by omega) (by omega)).mp z; omega), if_pos h27, ob a1, ob a2, ob (nN_of (f_mul (o1 k (by omega)) (o2 k (by omega))))]
    rw [e0, B_ck]
    unfold msum
    cases hq : ck (FP.dmul (g1 i k) (g2 k jj)) with
    | none =>
      refine ⟨s0, ?_⟩
      exact dead _ _ _ _ (by omega) (by omega) h39 (n_c (a := 4) (b := 0) (by omega) (by omega) (by omega))
    | some q =>
      have oq := (f_ck (f_mul (o1 k (by omega)) (o2 k (by omega))) hq).1
      rw [ob rfl]
      show oB st ((ck (FP.dadd s0 q)).bind _) (if st.1 27 = 0 then _ else _)
      rw [if_pos h27, ob (nN_of (f_add hs oq)), B_ck]
      cases hr : ck (FP.dadd s0 q) with
      | none => exact ⟨_, dead _ _ _ _ (by omega) (by omega) h39 (n_c (a := 4) (b := 0) (by omega) (by omega) (by omega))⟩
      | some r =>
        have := ih (k + 1) fu r (by omega) (by omega) (f_ck (f_add hs oq) hr).1
        show oB st (msum g1 g2 i jj d (k + 1) r) (bf_matCell_S212 n fu 0 st (c32 m1) (c32 m2) (c32 i) (c32 jj) r (c32 k + c32 1))
        rw [c_add]
        exact this
theorem B_cell {ww m1 m2 : Nat} (hn : 1000 ≤ n) (hw : ww < 9) (hm1 : m1 < 3) (hm2 : m2 < 3) (h27 : st.1 27 = 0) (hg1 : g1 = fun a b => st.2.2 35 (36 * m1 + 6 * a + b)) (hg2 : g2 = fun a b => st.2.2 35 (36 * m2 + 6 * a + b)) (h39 : st.2.1 39 m1 = c32 K1) (o1 : ∀ a b, a < R1 → b < K1 → okd (g1 a b)) (o2 : ∀ a b, a < R2 → b < K2 → okd (g2 a b)) (hK1 : K1 ≤ 6) (h1K : 1 ≤ K1) (ht : okd ti) (hm : mok ww R1 K1 R2 K2 i jj) (hi6 : i < 6) (hj6 : jj < 6) : oB st (mcell ww g1 g2 K1 ti i jj) (bf_matCell n st (c32 ww) (c32 m1) (c32 m2) (c32 i) (c32 jj) ti) := by
  obtain ⟨m3, mm1, mm2, m67, m8⟩ := hm
  have ea : ldD st 35 ((c32 m1 * (36 : Int32)) + ((c32 i * (6 : Int32)) + c32 jj)) = some (g1 i jj) := by
    rw [hg1]
    refine ld_cell hm1 hi6 hj6 ?_
    show c32 m1 * c32 36 + (c32 i * c32 6 + c32 jj) = _
    rw [c_mul, c_mul, c_add, c_add, Nat.mul_comm m1, Nat.mul_comm i, Nat.add_assoc]
  have eb : ldD st 35 ((c32 m2 * (36 : Int32)) + ((c32 i * (6 : Int32)) + c32 jj)) = some (g2 i jj) := by
    rw [hg2]
    refine ld_cell hm2 hi6 hj6 ?_
    show c32 m2 * c32 36 + (c32 i * c32 6 + c32 jj) = _
    rw [c_mul, c_mul, c_add, c_add, Nat.mul_comm m2, Nat.mul_comm i, Nat.add_assoc]
  unfold bf_matCell
  rw [ob (show nm ((c32 i * (6 : Int32)) + c32 jj) = some ((c32 i * (6 : Int32)) + c32 jj) from rfl)]
  match ww, hw with
  | 0, _ =>
    rw [if_neg (by decide)]
    show some (st, FP.i2d (c32 0)) = some (st, FP.dconst0)
    rw [show FP.i2d (c32 0) = FP.dconst0 by decide +kernel]
  | 1, _ =>
    rw [if_neg (by decide)]
    show some (st, FP.i2d (c32 1)) = some (st, FP.dconst1)
    rw [show FP.i2d (c32 1) = FP.dconst1 by decide +kernel]
  | 2, _ =>
    rw [if_pos (by decide), if_pos (by decide)]
    show oB st (some (if i = jj then FP.dconst1 else FP.dconst0)) _
    by_cases g : i = jj
    · rw [if_pos g, if_pos (show c32 i = c32 jj by rw [g])]
      rfl
    · rw [if_neg (n_c (by omega) (by omega) g), if_neg g]
      rfl
  | 3, _ =>
    have ec : ldD st 35 (((c32 m1 * (36 : Int32)) + (c32 jj * (6 : Int32))) + c32 i) = some (g1 jj i) := by
      rw [hg1]
      refine ld_cell hm1 hj6 hi6 ?_
      show c32 m1 * c32 36 + c32 jj * c32 6 + c32 i = _
      rw [c_mul, c_mul, c_add, c_add, Nat.mul_comm m1, Nat.mul_comm jj]
    rw [if_pos (by decide), if_neg (by decide), if_pos (by decide), ob ec]
    rfl
  | 4, _ =>
    rw [if_pos (by decide), if_neg (by decide), if_neg (by decide), if_pos (by decide), ob ea, ob (nN_of (f_mul ht (o1 _ _ (mm1 (by omega)) (mm2 (by omega) (by omega)))))]
    exact oB_bb oB_ck_
  | 5, _ =>
    rw [if_pos (by decide), if_neg (by decide), if_neg (by decide), if_neg (by decide), if_pos (by decide), ob ea]
    rfl
  | 6, _ =>
    have p1 := o1 _ _ (mm1 (by omega)) (mm2 (by omega) (by omega))
    have p2 := o2 i jj (by have := m67 (by omega); have := mm1 (by omega); omega) (by have := m67 (by omega); have := mm2 (by omega) (by omega); omega)
    rw [if_pos (by decide), if_neg (by decide), if_neg (by decide), if_neg (by decide), if_neg (by decide), if_pos (by decide), ob ea, ob eb, ob (nN_of (f_add p1 p2))]
    exact oB_bb oB_ck_
  | 7, _ =>
    have p1 := o1 _ _ (mm1 (by omega)) (mm2 (by omega) (by omega))
    have p2 := o2 i jj (by have := m67 (by omega); have := mm1 (by omega); omega) (by have := m67 (by omega); have := mm2 (by omega) (by omega); omega)
    rw [if_pos (by decide), if_neg (by decide), if_neg (by decide), if_neg (by decide), if_neg (by decide), if_neg (by decide), if_pos (by decide), ob ea, ob eb, ob (nN_of (f_sub p1 p2))]
    exact oB_bb oB_ck_
  | 8, _ =>
    have e8 := m8 rfl
    have hi := mm1 (by omega)
    have p1 := o1 i 0 hi (by omega)
    have p2 := o2 0 jj (by omega) e8.1
    have ec : ldD st 35 ((c32 m1 * (36 : Int32)) + (c32 i * (6 : Int32))) = some (g1 i 0) := by
      rw [hg1]
      refine ld_cell (b := 0) hm1 hi6 (by omega) ?_
      show c32 m1 * c32 36 + c32 i * c32 6 = _
      rw [c_mul, c_mul, c_add, Nat.mul_comm m1, Nat.mul_comm i]
      rfl
    have ed : ldD st 35 ((c32 m2 * (36 : Int32)) + c32 jj) = some (g2 0 jj) := by
      rw [hg2]
      refine ld_cell (a := 0) hm2 (by omega) hj6 ?_
      show c32 m2 * c32 36 + c32 jj = _
      rw [c_mul, c_add, Nat.mul_comm m2]
      rfl
    rw [if_pos (by decide), if_neg (by decide), if_neg (by decide), if_neg (by decide), if_neg (by decide), if_neg (by decide), if_neg (by decide), ob ec, ob ed, ob (nN_of (f_mul p1 p2)), B_ck]
    show oB st ((ck (FP.dmul (g1 i 0) (g2 0 jj))).bind fun s => msum g1 g2 i jj (K1 - 1) 1 s) _
    cases hq : ck (FP.dmul (g1 i 0) (g2 0 jj)) with
    | none =>
      refine ⟨FP.dconst0, ?_⟩
      show bf_matCell_S212 n n 0 (sI st 27 4) _ _ _ _ _ _ = _
      obtain ⟨n', rfl⟩ : ∃ m, n = m + 1 := ⟨n - 1, by omega⟩
      show bf_matCell_B212 (n' + 1) _ (sI st 27 4) _ _ _ _ _ _ = _
      unfold bf_matCell_B212
      have e39 : ldA (sI st 27 4) 39 (c32 m1) = some (c32 K1) := by rw [ld_A (show m1 < 3 from hm1)]; exact congrArg some h39
      rw [ob e39]
      split
      · rfl
      · first | rfl | rw [if_neg (show ¬ (sI st 27 4).1 27 = 0 from n_c (a := 4) (b := 0) (by omega) (by omega) (by omega))]
    | some q => exact B_msum hm1 hm2 h27 hg1 hg2 h39 (fun b hb => o1 _ _ hi hb) (fun b hb => o2 _ _ (by omega) e8.1) hi6 hj6 hK1 (K1 - 1) 1 n q (by omega) (by omega) (f_ck (f_mul p1 p2) hq).1
end RUN6
