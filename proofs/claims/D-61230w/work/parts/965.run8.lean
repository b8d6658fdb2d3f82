/-! THE PURE LAW: runs of statements: MAT, assembled -/
def fitM (ww R1 K1 R2 K2 : Nat) : Prop := (ww = 2 → R1 = K1) ∧ (ww = 6 ∨ ww = 7 → R1 = R2 ∧ K1 = K2) ∧ (ww = 8 → K1 = R2)
def rrM (ww R1 K1 : Nat) : Nat := if ww = 3 then K1 else R1
def ccM (ww R1 K1 K2 : Nat) : Nat := if ww = 3 then R1 else if ww = 8 then K2 else K1
section RUN8
variable {x Z T : Nat} {P : PG_} {w : Nat → List UInt64} {h : Nat → Option aE} {f : Nat → Value} {hp hp' : Nat → Option aE} {st st' : bS} {M F : Nat → Option Nat} {σ σ0 : aS} {V : Nat → UInt64} {n : Nat} {S : Nat → Nat} {j ln s k : Nat} {R1 K1 R2 K2 q1 q2 : Nat} {G1 G2 g1 g2 : Nat → Nat → UInt64} {ti : UInt64} {i jj a b t ww : Nat}
theorem B_fits_0a (hw : ww < 9) (ha : a < 3) (hat : ww < 3 → t = a) (e : st.2.1 38 a = 0) : bf_matFits n st (c32 ww) (c32 t) (c32 a) (c32 b) = some (st, 0) := by
  have e38 : ldA st 38 (c32 a) = some 0 := by rw [ld_A (show a < 3 from ha), e]
  unfold bf_matFits
  by_cases g : 3 ≤ ww
  · rw [if_pos (show (3 : Int32) ≤ c32 ww from (c_le (a := 3) (by omega) (by omega)).mpr g), ob e38, if_pos rfl]
  · rw [if_neg (show ¬ (3 : Int32) ≤ c32 ww from fun z => g ((c_le (a := 3) (by omega) (by omega)).mp z)), hat (by omega), ob e38, if_pos (by decide)]
theorem B_fits_0b (hw : ww < 9) (h5 : 5 < ww) (ha : a < 3) (hb : b < 3) (hR : 1 ≤ R1) (hR6 : R1 ≤ 6) (e1 : st.2.1 38 a = c32 R1) (e : st.2.1 38 b = 0) : bf_matFits n st (c32 ww) (c32 t) (c32 a) (c32 b) = some (st, 0) := by
  have e38 : ldA st 38 (c32 a) = some (c32 R1) := by rw [ld_A (show a < 3 from ha), e1]
  have e38b : ldA st 38 (c32 b) = some 0 := by rw [ld_A (show b < 3 from hb), e]
  unfold bf_matFits
  rw [if_pos (show (3 : Int32) ≤ c32 ww from (c_le (a := 3) (by omega) (by omega)).mpr (by omega)), ob e38, if_neg (show ¬ c32 R1 = 0 from n_c (b := 0) (by omega) (by omega) (by omega)), if_pos (show (6 : Int32) ≤ c32 ww from (c_le (a := 6) (by omega) (by omega)).mpr (by omega)), ob e38b, if_pos rfl]
theorem B_fits (hw : ww < 9) (ha : a < 3) (hb : b < 3) (hat : ww < 3 → t = a) (hR : 1 ≤ R1) (hR6 : R1 ≤ 6) (hK6 : K1 ≤ 6) (hR2 : 1 ≤ R2) (hR26 : R2 ≤ 6) (hK26 : K2 ≤ 6) (e1 : st.2.1 38 a = c32 R1) (e2 : st.2.1 39 a = c32 K1) (e3 : st.2.1 38 b = c32 R2) (e4 : st.2.1 39 b = c32 K2) : (fitM ww R1 K1 R2 K2 → bf_matFits n st (c32 ww) (c32 t) (c32 a) (c32 b) = some (st, 1)) ∧ (¬ fitM ww R1 K1 R2 K2 → bf_matFits n st (c32 ww) (c32 t) (c32 a) (c32 b) = some (st, 0)) := by
  have l1 : ldA st 38 (c32 a) = some (c32 R1) := by rw [ld_A (show a < 3 from ha), e1]
  have l2 : ldA st 39 (c32 a) = some (c32 K1) := by rw [ld_A (show a < 3 from ha), e2]
  have l3 : ldA st 38 (c32 b) = some (c32 R2) := by rw [ld_A (show b < 3 from hb), e3]
  have l4 : ldA st 39 (c32 b) = some (c32 K2) := by rw [ld_A (show b < 3 from hb), e4]
  have n1 : ¬ c32 R1 = 0 := n_c (b := 0) (by omega) (by omega) (by omega)
  have n2 : ¬ c32 R2 = 0 := n_c (b := 0) (by omega) (by omega) (by omega)
  have n3 : ¬ c32 R1 ≤ 0 := fun z => by have := (c_le (a := R1) (b := 0) (by omega) (by omega)).mp z; omega
  have q1 : c32 R1 = c32 K1 ↔ R1 = K1 := c_eq (by omega) (by omega)
  have q2 : c32 R1 = c32 R2 ↔ R1 = R2 := c_eq (by omega) (by omega)
  have q3 : c32 K1 = c32 K2 ↔ K1 = K2 := c_eq (by omega) (by omega)
  have q4 : c32 K1 = c32 R2 ↔ K1 = R2 := c_eq (by omega) (by omega)
  unfold bf_matFits fitM
  match ww, hw with
  | 0, _ =>
    rw [if_neg (by decide), hat (by omega), ob l1, if_neg n3, if_pos (by decide)]
    exact ⟨fun _ => rfl, fun z => absurd ⟨fun z => by omega, fun z => by omega, fun z => by omega⟩ z⟩
  | 1, _ =>
    rw [if_neg (by decide), hat (by omega), ob l1, if_neg n3, if_pos (by decide)]
    exact ⟨fun _ => rfl, fun z => absurd ⟨fun z => by omega, fun z => by omega, fun z => by omega⟩ z⟩
  | 2, _ =>
    rw [if_neg (by decide), hat (by omega), ob l1, if_neg n3, if_neg (by decide), ob l1, ob l2]
    refine ⟨fun z => by rw [if_pos (q1.mpr (z.1 rfl))]; rfl, fun z => ?_⟩
    rw [if_neg (fun g => z ⟨fun _ => q1.mp g, fun z => by omega, fun z => by omega⟩)]
  | 3, _ =>
    rw [if_pos (by decide), ob l1, if_neg n1, if_neg (by decide)]
    exact ⟨fun _ => rfl, fun z => absurd ⟨fun z => by omega, fun z => by omega, fun z => by omega⟩ z⟩
  | 4, _ =>
    rw [if_pos (by decide), ob l1, if_neg n1, if_neg (by decide)]
    exact ⟨fun _ => rfl, fun z => absurd ⟨fun z => by omega, fun z => by omega, fun z => by omega⟩ z⟩
  | 5, _ =>
    rw [if_pos (by decide), ob l1, if_neg n1, if_neg (by decide)]
    exact ⟨fun _ => rfl, fun z => absurd ⟨fun z => by omega, fun z => by omega, fun z => by omega⟩ z⟩
  | 6, _ =>
    rw [if_pos (by decide), ob l1, if_neg n1, if_pos (by decide), ob l3, if_neg n2, if_neg (by decide), ob l1, ob l3]
    refine ⟨fun z => ?_, fun z => ?_⟩
    · rw [if_pos (q2.mpr (z.2.1 (by omega)).1), ob l2, ob l4, if_pos (q3.mpr (z.2.1 (by omega)).2)]
    · by_cases g : c32 R1 = c32 R2
      · rw [if_pos g, ob l2, ob l4, if_neg (fun g2 => z ⟨fun z => by omega, fun _ => ⟨q2.mp g, q3.mp g2⟩, fun z => by omega⟩)]
      · rw [if_neg g]
  | 7, _ =>
    rw [if_pos (by decide), ob l1, if_neg n1, if_pos (by decide), ob l3, if_neg n2, if_neg (by decide), ob l1, ob l3]
    refine ⟨fun z => ?_, fun z => ?_⟩
    · rw [if_pos (q2.mpr (z.2.1 (by omega)).1), ob l2, ob l4, if_pos (q3.mpr (z.2.1 (by omega)).2)]
    · by_cases g : c32 R1 = c32 R2
      · rw [if_pos g, ob l2, ob l4, if_neg (fun g2 => z ⟨fun z => by omega, fun _ => ⟨q2.mp g, q3.mp g2⟩, fun z => by omega⟩)]
      · rw [if_neg g]
  | 8, _ =>
    rw [if_pos (by decide), ob l1, if_neg n1, if_pos (by decide), ob l3, if_neg n2, if_pos (by decide), ob l2, ob l3]
    refine ⟨fun z => by rw [if_pos (q4.mpr (z.2.2 rfl))], fun z => ?_⟩
    rw [if_neg (fun g => z ⟨fun z => by omega, fun z => by omega, fun _ => q4.mp g⟩)]
theorem A_sameM (hb1 : MB σ.2.2 q1 R1 K1 G1) (hb2 : MB σ.2.2 q2 R2 K2 G2) : (R1 = R2 ∧ K1 = K2 → af_X28_sameSize n S σ q1 (some q2) = some (σ, 1)) ∧ (c32 R1 ≠ c32 R2 ∨ c32 K1 ≠ c32 K2 → af_X28_sameSize n S σ q1 (some q2) = some (σ, 0)) := by
  unfold af_X28_sameSize
  rw [ob (gI_of hb1.1 rfl), ob (show some q2 = some q2 from rfl), ob (gI_of hb2.1 rfl)]
  refine ⟨fun z => ?_, fun z => ?_⟩
  · rw [z.1, if_pos rfl, ob (gI_of hb1.1 rfl), ob (gI_of hb2.1 rfl), z.2, if_pos rfl]
  · by_cases g : c32 R1 = c32 R2
    · rw [if_pos g, ob (gI_of hb1.1 rfl), ob (gI_of hb2.1 rfl), if_neg (z.resolve_left (fun y => y g))]
    · rw [if_neg g]
theorem A_fit {vs : List Value} (hvs : vs[1]? = some (.int (c32 (matC ww)))) (hc : σ.2.2 s = some (.inr (25, vs))) (hw : ww < 9) (hb1 : MB σ.2.2 q1 R1 K1 G1) (hb2 : MB σ.2.2 q2 R2 K2 G2) (hR6 : R1 ≤ 6) (hK6 : K1 ≤ 6) (hR26 : R2 ≤ 6) (hK26 : K2 ≤ 6) (hsame : ww ≤ 5 → R2 = R1 ∧ K2 = K1) : (fitM ww R1 K1 R2 K2 → af_X26_worked n S σ s (some x) (some q1) (some q2) ti = af_X26_worked_L61 n S σ s (some x) (some q1) (some q2) ti 1) ∧ (¬ fitM ww R1 K1 R2 K2 → af_X26_worked n S σ s (some x) (some q1) (some q2) ti = af_X26_worked_L61 n S σ s (some x) (some q1) (some q2) ti 0) := by
  have qq1 : c32 R1 = c32 K1 ↔ R1 = K1 := c_eq (by omega) (by omega)
  have qq2 : c32 R1 = c32 R2 ↔ R1 = R2 := c_eq (by omega) (by omega)
  have qq3 : c32 K1 = c32 K2 ↔ K1 = K2 := c_eq (by omega) (by omega)
  have qq4 : c32 K1 = c32 R2 ↔ K1 = R2 := c_eq (by omega) (by omega)
  obtain ⟨s1, s0⟩ := A_sameM (n := n) (S := S) hb1 hb2
  unfold af_X26_worked
  rw [ob (gI_of hc hvs)]
  by_cases g8 : ww = 8
  · subst g8
    rw [if_pos (by decide), ob (show some q1 = some q1 from rfl), ob (gI_of hb1.1 rfl), ob (show some q2 = some q2 from rfl), ob (gI_of hb2.1 rfl)]
    unfold fitM
    refine ⟨fun z => by rw [if_pos (qq4.mpr (z.2.2 rfl))], fun z => ?_⟩
    rw [if_neg (fun g => z ⟨fun z => by omega, fun z => by omega, fun _ => qq4.mp g⟩)]
  · have n42 : ¬ c32 (matC ww) = (42 : Int32) := by
      match ww, hw, g8 with
      | 0, _, _ => decide
      | 1, _, _ => decide
      | 2, _, _ => decide
      | 3, _, _ => decide
      | 4, _, _ => decide
      | 5, _, _ => decide
      | 6, _, _ => decide
      | 7, _, _ => decide
      | 8, _, g => exact absurd rfl g
    rw [if_neg n42, ob (gI_of hc hvs)]
    by_cases g2 : ww = 2
    · subst g2
      rw [if_pos (by decide), ob (show some q1 = some q1 from rfl), ob (gI_of hb1.1 rfl), ob (gI_of hb1.1 rfl)]
      unfold fitM
      refine ⟨fun z => by rw [if_pos (qq1.mpr (z.1 rfl))], fun z => ?_⟩
      rw [if_neg (fun g => z ⟨fun _ => qq1.mp g, fun z => by omega, fun z => by omega⟩)]
    · have n73 : ¬ c32 (matC ww) = (73 : Int32) := by
        match ww, hw, g2 with
        | 0, _, _ => decide
        | 1, _, _ => decide
        | 3, _, _ => decide
        | 4, _, _ => decide
        | 5, _, _ => decide
        | 6, _, _ => decide
        | 7, _, _ => decide
        | 8, _, _ => decide
      rw [if_neg n73, ob (show some q1 = some q1 from rfl), ob (gC_of hb1.1)]
      unfold fitM
      by_cases g67 : ww = 6 ∨ ww = 7
      · refine ⟨fun z => by rw [oc (s1 (z.2.1 g67))], fun z => ?_⟩
        rw [oc (s0 ?_)]
        by_cases g : R1 = R2
        · right
          intro y
          exact z ⟨fun z => by omega, fun _ => ⟨g, qq3.mp y⟩, fun z => by omega⟩
        · left
          exact fun y => g (qq2.mp y)
      · have hs := hsame (by omega)
        refine ⟨fun z => by rw [oc (s1 ⟨hs.1.symm, hs.2.symm⟩)], fun z => absurd ⟨fun z => by omega, fun z => by omega, fun z => by omega⟩ z⟩
theorem A_L94 {vs : List Value} {qr : Nat} (h7 : gR σ x 0 7 = some (some qr)) (hvs : vs[1]? = some (.int (c32 (matC ww)))) (hc : σ.2.2 s = some (.inr (25, vs))) (hw : ww < 9) (hb1 : MB σ.2.2 q1 R1 K1 G1) (hb2 : MB σ.2.2 q2 R2 K2 G2) : af_X26_worked_L94 n S σ s (some x) (some q1) (some q2) ti = af_X26_worked_L154 n S σ s (some q1) (some q2) ti (some qr) (c32 (rrM ww R1 K1)) (c32 (ccM ww R1 K1 K2)) := by
  have m3 : ww ≠ 3 → ¬ c32 (matC ww) = (84 : Int32) := fun g => by
    match ww, hw, g with
    | 0, _, _ => decide
    | 1, _, _ => decide
    | 2, _, _ => decide
    | 4, _, _ => decide
    | 5, _, _ => decide
    | 6, _, _ => decide
    | 7, _, _ => decide
    | 8, _, _ => decide
  have m8 : ww ≠ 8 → ¬ c32 (matC ww) = (42 : Int32) := fun g => by
    match ww, hw, g with
    | 0, _, _ => decide
    | 1, _, _ => decide
    | 2, _, _ => decide
    | 3, _, _ => decide
    | 4, _, _ => decide
    | 5, _, _ => decide
    | 6, _, _ => decide
    | 7, _, _ => decide
    | 8, _, g => exact absurd rfl g
  unfold af_X26_worked_L94 rrM ccM
  rw [ob (show some x = some x from rfl), ob h7, ob (gI_of hc hvs)]
  by_cases g3 : ww = 3
  · subst g3
    rw [if_pos (by decide), ob (show some q1 = some q1 from rfl), ob (gI_of hb1.1 rfl), if_pos rfl, if_pos rfl]
    unfold af_X26_worked_L118
    rw [ob (gI_of hc hvs), if_pos (by decide), ob (show some q1 = some q1 from rfl), ob (gI_of hb1.1 rfl)]
  · rw [if_neg (m3 g3), ob (show some q1 = some q1 from rfl), ob (gI_of hb1.1 rfl), if_neg g3, if_neg g3]
    unfold af_X26_worked_L118
    rw [ob (gI_of hc hvs), if_neg (m3 g3), ob (gI_of hc hvs)]
    by_cases g8 : ww = 8
    · subst g8
      rw [if_pos (by decide), if_pos rfl, ob (show some q2 = some q2 from rfl), ob (gI_of hb2.1 rfl)]
    · rw [if_neg (m8 g8), if_neg g8, ob (show some q1 = some q1 from rfl), ob (gI_of hb1.1 rfl)]
theorem B_L108 (hw : ww < 9) (ha : a < 3) (hb : b < 3) (e1 : st.2.1 38 a = c32 R1) (e2 : st.2.1 39 a = c32 K1) (e4 : st.2.1 39 b = c32 K2) (hs : ww ≠ 8 → K2 = K1) : bf_doMat_L108 n st (c32 t) (c32 ww) (c32 a) (c32 b) ti = bf_doMat_S161 n n 0 st (c32 t) (c32 ww) (c32 a) (c32 b) ti (c32 (rrM ww R1 K1)) (c32 (ccM ww R1 K1 K2)) (c32 0) 0 := by
  have l1 : ldA st 38 (c32 a) = some (c32 R1) := by rw [ld_A (show a < 3 from ha), e1]
  have l2 : ldA st 39 (c32 a) = some (c32 K1) := by rw [ld_A (show a < 3 from ha), e2]
  have l4 : ldA st 39 (c32 b) = some (c32 K2) := by rw [ld_A (show b < 3 from hb), e4]
  unfold bf_doMat_L108 rrM ccM
  by_cases g3 : ww = 3
  · subst g3
    rw [if_pos (show c32 3 = 3 from rfl), ob l2, if_pos rfl, if_pos rfl]
    unfold bf_doMat_L132
    rw [if_pos (show c32 3 = 3 from rfl), ob l1]
    rfl
  · have n3 : ¬ c32 ww = (3 : Int32) := n_c (b := 3) (by omega) (by omega) g3
    rw [if_neg n3, ob l1, if_neg g3, if_neg g3]
    unfold bf_doMat_L132
    rw [if_neg n3, ob l4]
    by_cases g8 : ww = 8
    · rw [if_pos g8]
      rfl
    · rw [if_neg g8, hs g8]
      rfl
theorem mok_of (hf : fitM ww R1 K1 R2 K2) (hi : i < rrM ww R1 K1) (hj : jj < ccM ww R1 K1 K2) : mok ww R1 K1 R2 K2 i jj := by
  obtain ⟨f1, f2, f3⟩ := hf
  unfold rrM at hi
  unfold ccM at hj
  refine ⟨fun g => ?_, fun g => ?_, fun g g8 => ?_, fun g => ?_, fun g => ?_⟩
  · rw [if_pos g] at hi hj
    exact ⟨hi, hj⟩
  · rw [if_neg g] at hi
    exact hi
  · rw [if_neg g, if_neg g8] at hj
    exact hj
  · have := f2 g
    omega
  · rw [if_neg (by omega), if_pos g] at hj
    exact ⟨hj, f3 g⟩
/-- MAT with all that it needs -/
theorem R_mat {vs : List Value} {e5 : Nat} (hn : 300000000 ≤ n) (rs : RS x Z T P w h σ st f hp M F V) (h20 : f 20 = .int 0) (g1s : h s = some (.inr (25, vs))) (hvs : vs[1]? = some (.int (c32 (matC ww)))) (hv0 : vs[0]? = some (.int (c32 t))) (hw : ww < 9) (ht : t < 3) (ha : a < 3) (hb : b < 3) (hMa : M a = some q1) (hMb : M b = some q2) (hR1 : 1 ≤ R1) (hR6 : R1 ≤ 6) (hK1 : 1 ≤ K1) (hK6 : K1 ≤ 6) (hR21 : 1 ≤ R2) (hR26 : R2 ≤ 6) (hK21 : 1 ≤ K2) (hK26 : K2 ≤ 6) (hb1 : MB hp q1 R1 K1 G1) (hb2 : MB hp q2 R2 K2 G2) (e1 : st.2.1 38 a = c32 R1) (e2 : st.2.1 39 a = c32 K1) (e3 : st.2.1 38 b = c32 R2) (e4 : st.2.1 39 b = c32 K2) (hG1 : ∀ i j, i < R1 → j < K1 → G1 i j = st.2.2 35 (36 * a + 6 * i + j) ∧ okd (G1 i j)) (hG2 : ∀ i j, i < R2 → j < K2 → G2 i j = st.2.2 35 (36 * b + 6 * i + j) ∧ okd (G2 i j)) (hsame : ww ≤ 5 → R2 = R1 ∧ K2 = K1) (hfit : fitM ww R1 K1 R2 K2) (hti : okd ti) (hs1 : σ.1 = σ0.1) (hs2 : σ.2.1 = σ0.2.1) :
    SO x T P w j h σ0 (af_X26_run_L51 n S σ s (some x) (some q1) (some q2) ti) ((bf_doMat_L108 n st (c32 t) (c32 ww) (c32 a) (c32 b) ti).bind fun q_2 => some (q_2.1, slk P (nx P j))) := by
  obtain ⟨rc, ⟨CR, CO, es⟩, vv, h27, hz⟩ := id rs
  have hz1 := rc.2.2.2.2.2.2.2.2.2.2.1
  have hz2 := rc.2.2.2.2.2.2.2.2.2.2.2
  obtain ⟨sp, m1, m2, m3, m4⟩ := id rc.2.2.2.2.2.2.2.2.1
  have hc := rs.cell g1s
  have hq1 := (m3 a ha q1 hMa).1
  have hq2 := (m3 b hb q2 hMb).1
  have hm1 := es.mb hq1.1 hb1
  have hm2 := es.mb hq2.1 hb2
  have hx3 : σ.2.2 (x + 3) = some (.inl (4, 3, rA M)) := (rs.hp_ (by omega) (by omega) (by omega) (by omega)).trans rc.1.2.2.2.1
  have hKs : ww ≠ 8 → K2 = K1 := fun g => by
    by_cases g5 : ww ≤ 5
    · exact (hsame g5).2
    · have := (hfit.2.1 (by omega)).2; omega
  have hRR : 1 ≤ rrM ww R1 K1 ∧ rrM ww R1 K1 ≤ 6 := by unfold rrM; split <;> omega
  have hCC : 1 ≤ ccM ww R1 K1 K2 ∧ ccM ww R1 K1 K2 ≤ 6 := by unfold ccM; split; omega; split <;> omega
  have hmul1 : rrM ww R1 K1 * (ccM ww R1 K1 K2 + 2) ≤ 6 * 8 := Nat.mul_le_mul hRR.2 (by omega)
  have hmul2 : rrM ww R1 K1 * (ccM ww R1 K1 K2 + 6) ≤ 6 * 12 := Nat.mul_le_mul hRR.2 (by omega)
  have hsx : ∀ i, i ≤ 9 → s ≠ x + i := fun i hi z => by
    have := rc.1.2.2.1 s (by omega) (by omega)
    rw [g1s] at this
    exact nomatch this
  -- the store τ with the spare matrix at qr
  have tail : ∀ (τ : aS) (qr R0 K0 Z' : Nat) (G : Nat → Nat → UInt64), MB τ.2.2 qr R0 K0 G → x + 9 < qr → qr + 8 ≤ Z' → Z ≤ Z' → Z' ≤ τ.1 → (∀ i, i < 8 → h (qr + i) = none) → (∀ q', q' ≠ x → ¬ (qr ≤ q' ∧ q' < qr + 8) → τ.2.2 q' = σ.2.2 q') → τ.2.2 x = some (mc (va_up (va_up f 7 (va_rf (some qr))) 9 (.int (c32 0)))) → (∀ m' q', m' < 3 → M m' = some q' → far q' qr) → σ.1 ≤ τ.1 → τ.1 ≤ σ.1 + 8 → σ.2.1 ≤ τ.2.1 → τ.2.1 ≤ σ.2.1 + 45 → SO x T P w j h σ0 (xb (af_X26_worked_L94 n S τ s (some x) (some q1) (some q2) ti) fun st_1 r_2 => (some x).bind fun a_4 => (gR st_1 a_4 0 6).bind fun r_5 => (gI st_1 s 25 0).bind fun v_6 => (r_5).bind fun a_7 => (lR st_1 a_7 4 v_6).bind fun r_8 => (pF st_1 a_4 0 7 (va_rf r_8)).bind fun st_9 => (gR st_9 a_4 0 6).bind fun r_10 => (gI st_9 s 25 0).bind fun v_11 => (r_10).bind fun a_12 => (r_2).bind fun a_14 => (gC st_9 a_14 27).bind fun u_15 => (wR st_9 a_12 4 v_11 (some a_14)).bind fun st_13 => some (st_13, .inl (none : Option Nat))) ((bf_doMat_L108 n st (c32 t) (c32 ww) (c32 a) (c32 b) ti).bind fun q_2 => some (q_2.1, slk P (nx P j))) := by
    intro τ qr R0 K0 Z' G hbr hr1 hr2 hZ hZ' hr3 hfr hxc hfar hg1 hg2 hg3 hg4
    have f1 := hfar a q1 ha hMa
    have f2 := hfar b q2 hb hMb
    have hsn : ¬ (qr ≤ s ∧ s < qr + 8) := fun z => by
      have := hr3 (s - qr) (by omega)
      rw [show qr + (s - qr) = s by omega, g1s] at this
      exact nomatch this
    have hcτ : τ.2.2 s = some (.inr (25, vs)) := (hfr s (hsx 0 (by omega)) hsn).trans hc
    have mac : MAC s vs q1 R1 K1 G1 q2 R2 K2 G2 τ := ⟨hcτ, hm1.of (fun i hi => hfr _ (by have := hq1.1; omega) (by unfold far at f1; omega)), hm2.of (fun i hi => hfr _ (by have := hq2.1; omega) (by unfold far at f2; omega))⟩
    have h7 : gR τ x 0 7 = some (some qr) := m_R hxc rfl
    obtain ⟨τ1, G', be1, be2, be3, _⟩ := A_be (n := n) (S := S) (R := rrM ww R1 K1) (K := ccM ww R1 K1 K2) (by omega) hbr hRR.2 hCC.2
    have eA : af_X26_worked_L94 n S τ s (some x) (some q1) (some q2) ti = af_X26_worked_S162 n S n 0 τ1 s (some q1) (some q2) ti (some qr) (c32 0) 0 := by
      rw [A_L94 h7 hvs hcτ hw mac.2.1 mac.2.2]
      unfold af_X26_worked_L154
      rw [ob (show some qr = some qr from rfl), ob (gC_of hbr.1), oc be1]
      rfl
    have eB := B_L108 (n := n) (t := t) (ti := ti) hw ha hb e1 e2 e4 hKs
    rw [eA, eB]
    have hG1' : ∀ i j, i < R1 → j < K1 → G1 i j = (fun c d => st.2.2 35 (36 * a + 6 * c + d)) i j ∧ okd ((fun c d => st.2.2 35 (36 * a + 6 * c + d)) i j) := fun i j hi hj => ⟨(hG1 i j hi hj).1, by show okd (st.2.2 35 (36 * a + 6 * i + j)); rw [← (hG1 i j hi hj).1]; exact (hG1 i j hi hj).2⟩
    have hG2' : ∀ i j, i < R2 → j < K2 → G2 i j = (fun c d => st.2.2 35 (36 * b + 6 * c + d)) i j ∧ okd ((fun c d => st.2.2 35 (36 * b + 6 * c + d)) i j) := fun i j hi hj => ⟨(hG2 i j hi hj).1, by show okd (st.2.2 35 (36 * b + 6 * i + j)); rw [← (hG2 i j hi hj).1]; exact (hG2 i j hi hj).2⟩
    have hA := A_fill0 (n := n) (S := S) (ti := ti) (by omega) hvs hw hG1' hG2' hR6 hK6 hR26 hK26 hK1 hti (fun c d hc hd => mok_of hfit hc hd) hRR.2 hCC.2 hsn f1 f2 (rrM ww R1 K1) 0 n τ1 G' (by omega) (by omega) (mac.frm be3 hsn f1 f2) be2
    have hB := B_fill0 (n := n) (t := t) (ti := ti) (by omega) hw ha hb (fun i j hi hj => (hG1' i j hi hj).2) (fun i j hi hj => (hG2' i j hi hj).2) hK6 hK1 hti (fun c d hc hd => mok_of hfit hc hd) hRR.2 hCC.2 (rrM ww R1 K1) 0 n st (by omega) (by omega) ⟨h27, rfl, rfl, e2⟩
    have frτ : ∀ τ2, FRM qr τ1 τ2 → (∀ q', q' ≠ x → ¬ (qr ≤ q' ∧ q' < qr + 8) → τ2.2.2 q' = σ.2.2 q') ∧ τ2.2.2 x = some (mc (va_up (va_up f 7 (va_rf (some qr))) 9 (.int (c32 0)))) ∧ τ2.1 = τ.1 ∧ τ2.2.1 = τ.2.1 := fun τ2 g => by
      have g' := be3.trans g
      exact ⟨fun q' h1 h2 => (g'.2.2 q' h2).trans (hfr q' h1 h2), (g'.2.2 x (by omega)).trans hxc, g'.1, g'.2.1⟩
    have hbk : ∀ (τ2 : aS) q', (∀ q', q' ≠ x → ¬ (qr ≤ q' ∧ q' < qr + 8) → τ2.2.2 q' = σ.2.2 q') → BK x Z h hp q' → far q' qr → BK x Z' h τ2.2.2 q' := fun τ2 q' hf b hq' =>
      (b.of (fun i hi => (hf _ (by have := b.1; omega) (by unfold far at hq'; omega)).trans (rs.hp_ (by have := b.1; omega) (by have := b.1; omega) (by have := b.1; omega) (by have := b.1; omega)))).z hZ
    have hhl : ∀ (τ2 : aS), (∀ q', q' ≠ x → ¬ (qr ≤ q' ∧ q' < qr + 8) → τ2.2.2 q' = σ.2.2 q') → ∀ q' e, h q' = some e → τ2.2.2 q' = hp q' := fun τ2 hf q' e he => by
      have hne : ∀ i, i ≤ 9 → q' ≠ x + i := fun i hi z => by
        have := rc.1.2.2.1 q' (by omega) (by omega)
        rw [he] at this
        exact nomatch this
      refine (hf q' (hne 0 (by omega)) (fun z => ?_)).trans (rs.hp_ (hne 0 (by omega)) (hne 2 (by omega)) (hne 5 (by omega)) (hne 6 (by omega)))
      have := hr3 (q' - qr) (by omega)
      rw [show qr + (q' - qr) = q' by omega, he] at this
      exact nomatch this
    rcases hA with ⟨τ2, Gr, a1, a2, a3, _, a5⟩ | ⟨τ2, Gr, c, d, a1, a2, a3, a4, a5, a6⟩
    · rcases hB with ⟨st2, b1, b2, b3, b4, _⟩ | ⟨st2, c, d, b1, b2, b3, b4, b5, b6⟩
      · obtain ⟨fr1, fr2, fr3, fr4⟩ := frτ τ2 a3
        obtain ⟨st5, d1, d2, d3, d4, d5, d6⟩ := B_copy (n := n) ht 36 0 n (sA (sA st2 38 t (c32 (rrM ww R1 K1))) 39 t (c32 (ccM ww R1 K1 K2))) (by omega) (by omega)
        have hcs : τ2.2.2 s = some (.inr (25, vs)) := (fr1 s (hsx 0 (by omega)) hsn).trans hc
        have hx3' : τ2.2.2 (x + 3) = some (.inl (4, 3, rA M)) := (fr1 _ (by omega) (by omega)).trans hx3
        have h6 : gR τ2 x 0 6 = some (some (x + 3)) := m_R fr2 rc.1.1.2.2.1
        have l3 : lR τ2 (x + 3) 4 (c32 t) = some (M t) := lR_of hx3' ht (by omega)
        have es2 : ES x (va_up f 7 (va_rf (some qr))) τ2.2.2 τ2 0 V CR CO := ⟨fr2, (fr1 _ (by omega) (by omega)).trans es.2.1, (fr1 _ (by omega) (by omega)).trans es.2.2.1, (fr1 _ (by omega) (by omega)).trans es.2.2.2.1, fun _ _ _ _ _ => rfl⟩
        obtain ⟨τ3, p1, p2, p3, es3⟩ := es2.fld_ (k := 7) (v := va_rf (M t))
        rw [va_vv] at es3
        have fr3x : ∀ q', q' ≠ x → q' ≠ x + 2 → q' ≠ x + 5 → q' ≠ x + 6 → τ3.2.2 q' = τ2.2.2 q' := fun q' k1 k2 k3 k4 => es3.2.2.2.2 q' k1 k2 k3 k4
        have hcs3 : τ3.2.2 s = some (.inr (25, vs)) := (fr3x s (hsx 0 (by omega)) (hsx 2 (by omega)) (hsx 5 (by omega)) (hsx 6 (by omega))).trans hcs
        have hx33 : τ3.2.2 (x + 3) = some (.inl (4, 3, rA M)) := (fr3x _ (by omega) (by omega) (by omega) (by omega)).trans hx3'
        have h63 : gR τ3 x 0 6 = some (some (x + 3)) := m_R es3.1 rc.1.1.2.2.1
        have hqr3 : τ3.2.2 qr = _ := (fr3x qr (by omega) (by omega) (by omega) (by omega)).trans a2.1
        have es4 := es3.cw (q := x + 3) (e := .inl (4, 3, rA (va_up M t (some qr)))) (by omega) (by omega) (by omega) (by omega)
        have hst5 : ∀ k, st5.1 k = st.1 k := fun k => by
          rw [d2]
          by_cases g : k = 27
          · rw [g]; exact b3.trans h27.symm
          · exact b2.1 k g
        have df : DMF t st st5 := by
          refine ⟨funext hst5, fun k k1 k2 => ?_, fun m' hm' => ?_, fun k k1 k2 => ?_, fun c hc => ?_⟩
          · rw [d3, sA_ne _ k2, sA_ne _ k1, b2.2.1]
          · rw [d3]
            refine ⟨?_, ?_⟩
            · rw [sA_ne _ (by decide), sA_at, if_pos rfl, if_neg hm', b2.2.1]
            · rw [sA_at, if_pos rfl, if_neg hm', sA_ne _ (by decide), b2.2.1]
          · rw [d4 k k1]
            exact b2.2.2 k k2
          · rw [d5 c (by omega)]
            show st2.2.2 35 c = _
            rw [b2.2.2 35 (by decide)]
        have e38 : st5.2.1 38 t = c32 (rrM ww R1 K1) := by rw [d3, sA_ne _ (by decide), sA_at, if_pos rfl, if_pos rfl]
        have e39 : st5.2.1 39 t = c32 (ccM ww R1 K1 K2) := by rw [d3, sA_at, if_pos rfl, if_pos rfl]
        have hbr' : MB (va_up τ2.2.2 (x + 3) (some (.inl (4, 3, rA (va_up M t (some qr)))))) qr (rrM ww R1 K1) (ccM ww R1 K1 K2) Gr := a2.of (fun i hi => va_ne_ (by omega))
        have hvals : ∀ c d, c < rrM ww R1 K1 → d < ccM ww R1 K1 K2 → Gr c d = st5.2.2 35 (36 * t + 6 * c + d) ∧ okd (Gr c d) := fun c d hc' hd' => by
          have v1 := a5 c d (by omega) hc' hd'
          have v2 := b4 c d (by omega) hc' hd'
          rw [v1] at v2
          have v3 := Option.some.inj v2
          refine ⟨?_, mcell_ok hw (fun i j hi hj => (hG1' i j hi hj).2) (fun i j hi hj => (hG2' i j hi hj).2) hK1 hti (mok_of hfit hc' hd') v1⟩
          rw [v3, Nat.add_assoc, d6 (6 * c + d) (by omega) (by omega)]
          rfl
        have hfr4 : ∀ q', q' ≠ x → q' ≠ x + 3 → ¬ (qr ≤ q' ∧ q' < qr + 8) → va_up τ2.2.2 (x + 3) (some (.inl (4, 3, rA (va_up M t (some qr))))) q' = σ.2.2 q' := fun q' k1 k2 k3 => (va_ne_ k2).trans (fr1 q' k1 k3)
        have hm6 := rc.1.2.2.2.2.2.1
        have hbk4 : ∀ q', BK x Z h hp q' → far q' qr → BK x Z' h (va_up τ2.2.2 (x + 3) (some (.inl (4, 3, rA (va_up M t (some qr)))))) q' := fun q' b hq' => (hbk τ2 q' fr1 b hq').of (fun i hi => va_ne_ (by have := b.1; omega))
        have rc4 : RC x Z' T P w h (va_up f 7 (va_rf (M t))) (va_up τ2.2.2 (x + 3) (some (.inl (4, 3, rA (va_up M t (some qr)))))) st5 (va_up M t (some qr)) F := by
          refine rc.gen hZ df.nr (fun q' e he => (va_ne_ (fun z => ?_)).trans (hhl τ2 fr1 q' e he)) (fun i k1 k2 k3 k4 k5 k6 => (va_ne_ (by omega)).trans ((fr1 _ (by omega) (by omega)).trans (rs.hp_ (by omega) (by omega) (by omega) (by omega)))) va_at_ (fun m' hm' => ?_) ⟨M t, va_at_, fun q' hq' => hbk4 q' (m3 t ht q' hq').1 (hfar t q' ht hq'), fun m' hm' q' hq' => ?_, fun m' m'' hm' hm'' hne q' q'' hq' hq'' => ?_⟩
          · have := rc.1.2.2.1 q' (by omega) (by omega)
            rw [he] at this
            exact nomatch this
          · by_cases g : m' = t
            · subst g
              rw [va_at_]
              exact ⟨⟨_, _, Gr, hbr', hRR.1, hRR.2, hCC.1, hCC.2, e38, e39, hvals⟩, fun q' hq' => by cases hq'; exact hr1⟩
            · rw [va_ne_ g]
              refine ⟨?_, (hm6 m' hm').2⟩
              have h6 := (hm6 m' hm').1
              obtain ⟨y1, y2⟩ := df.2.2.1 m' g
              cases hM' : M m' with
              | none => rw [hM'] at h6; exact y1.trans h6
              | some q' =>
                rw [hM'] at h6
                obtain ⟨R', K', G'', z1, z2, z3, z4, z5, z6, z7, z8⟩ := h6
                have hb' := (m3 m' hm' q' hM').1
                have hf' := hfar m' q' hm' hM'
                refine ⟨R', K', G'', z1.of (fun i hi => (hfr4 _ (by have := hb'.1; omega) (by have := hb'.1; omega) (by unfold far at hf'; omega)).trans (rs.hp_ (by have := hb'.1; omega) (by have := hb'.1; omega) (by have := hb'.1; omega) (by have := hb'.1; omega))), z2, z3, z4, z5, y1.trans z6, y2.trans z7, fun c d hc' hd' => ?_⟩
                rw [df.2.2.2.2 _ (by omega)]
                exact z8 c d hc' hd'
          · by_cases g : m' = t
            · subst g
              rw [va_at_] at hq'
              cases hq'
              refine ⟨⟨hr1, hr2, hr3, _, _, Gr, hbr'⟩, fun q'' hq'' => ?_⟩
              have := hfar m' q'' ht hq''
              unfold far at this ⊢
              omega
            · rw [va_ne_ g] at hq'
              exact ⟨hbk4 q' (m3 m' hm' q' hq').1 (hfar m' q' hm' hq'), fun q'' hq'' => m4 m' t hm' ht g q' q'' hq' hq''⟩
          · by_cases g : m' = t
            · subst g
              rw [va_at_] at hq'
              cases hq'
              rw [va_ne_ (fun z => hne z.symm)] at hq''
              have := hfar m'' q'' hm'' hq''
              unfold far at this ⊢
              omega
            · rw [va_ne_ g] at hq'
              by_cases g' : m'' = t
              · subst g'
                rw [va_at_] at hq''
                cases hq''
                exact hfar m' q' hm' hq'
              · rw [va_ne_ g'] at hq''
                exact m4 m' m'' hm' hm'' hne q' q'' hq' hq''
        have vv5 : VV V st5 := fun i hi => by rw [df.2.2.2.1 29 (by decide) (by decide)]; exact vv i hi
        rw [ox a1, b1, ob (st_A (show t < 3 from ht)), ob (st_A (show t < 3 from ht)), show bf_doMat_S252 n n _ (c32 t) (0 : Int32) = _ from d1]
        refine Or.inl ⟨mv τ3 (x + 3) (.inl (4, 3, rA (va_up M t (some qr)))), none, st5, slk P (nx P j), Z', h, va_up f 7 (va_rf (M t)), _, _, F, V, ?_, rfl, ⟨rc4, ⟨CR, CO, es4⟩, vv5, by rw [df.1]; exact h27, by show Z' ≤ τ3.1; omega⟩, hle.rfl_, ⟨by show _ ≤ τ3.1; omega, by show τ3.1 ≤ _; omega, by show _ ≤ τ3.2.1; omega, by show τ3.2.1 ≤ _; omega⟩, nx P j, rfl, fun i hi => (nx_some hi).2.2.1, Or.inr (Or.inr ⟨rfl, rfl, h20⟩)⟩
        rw [ob (show some x = some x from rfl), ob h6, ob (gI_of hcs hv0), ob (show some (x + 3) = some (x + 3) from rfl), ob l3, ob p1, ob h63, ob (gI_of hcs3 hv0), ob (show some (x + 3) = some (x + 3) from rfl), ob (show some qr = some qr from rfl), ob (gC_of hqr3), ob (wR_of hx33 ht (by omega))]
      · rw [a5 c d (by omega) b4 b5] at b6
        exact nomatch b6
    · rcases hB with ⟨st2, b1, b2, b3, b4, _⟩ | ⟨st2, c', d', b1, b2, b3, b4, b5, b6⟩
      · rw [b4 c d (by omega) a4 a5] at a6
        exact nomatch a6
      · obtain ⟨fr1, fr2, fr3, fr4⟩ := frτ τ2 a3
        have es2 : ES x (va_up f 7 (va_rf (some qr))) τ2.2.2 τ2 0 V CR CO := ⟨fr2, (fr1 _ (by omega) (by omega)).trans es.2.1, (fr1 _ (by omega) (by omega)).trans es.2.2.1, (fr1 _ (by omega) (by omega)).trans es.2.2.2.1, fun _ _ _ _ _ => rfl⟩
        have hm6 := rc.1.2.2.2.2.2.1
        have hx3' : τ2.2.2 (x + 3) = some (.inl (4, 3, rA M)) := (fr1 _ (by omega) (by omega)).trans hx3
        have rc4 : RC x Z' T P w h (va_up f 7 (va_rf (some qr))) τ2.2.2 st2 M F := by
          refine rc.gen hZ (nrm2_of b2.1 (fun k _ _ => by rw [b2.2.1]) (fun k _ k2 => b2.2.2 k k2)) (hhl τ2 fr1) (fun i k1 k2 k3 k4 k5 k6 => (fr1 _ (by omega) (by omega)).trans (rs.hp_ (by omega) (by omega) (by omega) (by omega))) hx3' (fun m' hm' => ⟨?_, (hm6 m' hm').2⟩) ⟨some qr, va_at_, fun q' hq' => by cases hq'; exact ⟨hr1, hr2, hr3, _, _, Gr, a2⟩, fun m' hm' q' hq' => ⟨hbk τ2 q' fr1 (m3 m' hm' q' hq').1 (hfar m' q' hm' hq'), fun q'' hq'' => by cases hq''; exact hfar m' q' hm' hq'⟩, m4⟩
          have h6 := (hm6 m' hm').1
          cases hM' : M m' with
          | none =>
            rw [hM'] at h6
            show st2.2.1 38 m' = 0
            rw [b2.2.1]
            exact h6
          | some q' =>
            rw [hM'] at h6
            obtain ⟨R', K', G'', z1, z2, z3, z4, z5, z6, z7, z8⟩ := h6
            have hb' := (m3 m' hm' q' hM').1
            have hf' := hfar m' q' hm' hM'
            refine ⟨R', K', G'', z1.of (fun i hi => (fr1 _ (by have := hb'.1; omega) (by unfold far at hf'; omega)).trans (rs.hp_ (by have := hb'.1; omega) (by have := hb'.1; omega) (by have := hb'.1; omega) (by have := hb'.1; omega))), z2, z3, z4, z5, by rw [b2.2.1]; exact z6, by rw [b2.2.1]; exact z7, fun c d hc' hd' => ?_⟩
            rw [b2.2.2 35 (by decide)]
            exact z8 c d hc' hd'
        have vv5 : VV V st2 := fun i hi => by rw [b2.2.2 29 (by decide)]; exact vv i hi
        rw [oxr a1, b1]
        exact Or.inr ⟨3, aTh τ2, st2, slk P (nx P j), Z', h, _, _, M, F, V, rfl, rfl, ⟨by omega, rc4, es2.th.fa, vv5, b3, by show Z' ≤ τ2.1 + 1; omega⟩, hle.rfl_, ⟨by show _ ≤ τ2.1 + 1; omega, by show τ2.1 + 1 ≤ _; omega, by show _ ≤ τ2.2.1 + 6; omega, by show τ2.2.1 + 6 ≤ _; omega⟩⟩
  unfold af_X26_run_L51
  rw [ob (gC_of hc), (A_fit hvs hc hw hm1 hm2 hR6 hK6 hR26 hK26 hsame).1 hfit]
  unfold af_X26_worked_L61
  rw [if_neg n10, ob (show some x = some x from rfl), ob (rs.gR m1)]
  cases hsp : sp with
  | some qr =>
    rw [if_neg (fun z => nomatch z)]
    obtain ⟨y1, y2, y3, R0, K0, G, y4⟩ := m2 qr hsp
    refine tail σ qr R0 K0 Z G (es.mb y1 y4) y1 y2 (Nat.le_refl _) hz y3 (fun _ _ _ => rfl) ?_ (fun m' q' hm' hq' => (m3 m' hm' q' hq').2 qr hsp) (Nat.le_refl _) (by omega) (Nat.le_refl _) (by omega)
    rw [← hsp, va_same m1]
    exact es.1
  | none =>
    obtain ⟨σ2, G, a1, a2, a3, a4, a5⟩ := A_newm (n := n) (S := S) (σ := σ)
    have hx2 : σ2.2.2 x = some (mc (va_up f 9 (.int (c32 0)))) := (a5 x (by omega)).trans es.1
    have hcomm : va_up (va_up f 9 (.int (c32 0))) 7 (va_rf (some σ.1)) = va_up (va_up f 7 (va_rf (some σ.1))) 9 (.int (c32 0)) := by
      funext i
      unfold va_up
      by_cases g : i = 7
      · rw [if_pos g, if_neg (by omega), if_pos g]
      · rw [if_neg g, if_neg g]
    rw [if_pos rfl, ob (nO_eq _ _ _ _), oc a1, ob (m_put hx2), hcomm]
    refine tail _ σ.1 0 0 (σ.1 + 8) G (a4.of (fun i hi => mv_ne _ _ (by omega))) (by omega) (Nat.le_refl _) (by omega) (by show _ ≤ σ2.1; omega) (fun i hi => hz1 _ (by omega)) (fun q' k1 k2 => (mv_ne _ _ k1).trans (a5 q' (by omega))) (mv_at _ _ _) (fun m' q' hm' hq' => ?_) (by show _ ≤ σ2.1; omega) (by show σ2.1 ≤ _; omega) (by show _ ≤ σ2.2.1; omega) (by show σ2.2.1 ≤ _; omega)
    have := (m3 m' hm' q' hq').1.2.1
    unfold far
    omega
end RUN8
section RUN9
variable {x Z T : Nat} {P : PG_} {w : Nat → List UInt64} {h : Nat → Option aE} {f : Nat → Value} {hp hp' : Nat → Option aE} {st st' : bS} {M F : Nat → Option Nat} {σ σ0 : aS} {V : Nat → UInt64} {n : Nat} {S : Nat → Nat} {j ln s k : Nat}
theorem A_known_none {c m : Nat} {CR : Nat → Int32} {CO : Nat → UInt64} (hs : ES x f hp σ c V CR CO) (ec : EC x f hp h st M F) (hm : m < 3) (e : M m = none) : af_X1_known n S σ x (c32 m) = some (aTh σ, .inr 5) := by
  unfold af_X1_known
  rw [ob (hs.f6 ec.1), ob (show some (x + 3) = some (x + 3) from rfl), ob (hs.ms ec hm), if_pos e]
  rfl
theorem A_known_some {c m q : Nat} {CR : Nat → Int32} {CO : Nat → UInt64} (hs : ES x f hp σ c V CR CO) (ec : EC x f hp h st M F) (hm : m < 3) (e : M m = some q) : af_X1_known n S σ x (c32 m) = some (σ, .inl (some q)) := by
  unfold af_X1_known
  rw [ob (hs.f6 ec.1), ob (show some (x + 3) = some (x + 3) from rfl), ob (hs.ms ec hm), if_neg (by rw [e]; exact fun z => nomatch z), ob (hs.f6 ec.1), ob (show some (x + 3) = some (x + 3) from rfl), ob (hs.ms ec hm), e]
theorem R_14 (hn : 300000000 ≤ n) (rs : RS x Z T P w h σ st f hp M F V) (h20 : f 20 = .int 0) (hj : P j = some (ln, s, k, 14)) : SO x (T + 1) P w j h σ (af_run n S σ s (some x) (some ln)) (bf_step n st (c32 k)) := by
  obtain ⟨t, ww, a, b, r, g1, g2, g3, g4, g5, g6, g7, g8, g9, g10, g11⟩ : STM h s 14 (AV st k) (RV st k) := (rs.1.2.1.2.2 j _ hj).2.2
  have hk : k < 24 := (rs.1.2.1.2.1.1 j _ hj).2.2.1
  have hc := rs.cell g1
  have hA : af_run n S σ s (some x) (some ln) = af_X26_run n S σ s (some x) (some ln) := r_25 hc
  have hB : bf_step n st (c32 k) = (bf_doMat n st (c32 k)).bind fun q_2 => some (q_2.1, slk P (nx P j)) := by
    rw [B_st (by omega) rs.1.2.1 hj (by omega) (by omega)]
    rfl
  obtain ⟨b2, hb2, hbm, hb5, hb6⟩ : ∃ b2, b2 < 3 ∧ bf_doMat n st (c32 k) = bf_doMat_L65 n st (c32 k) (c32 t) (c32 ww) (c32 a) (c32 b2) ∧ (ww ≤ 5 → b2 = a) ∧ (5 < ww → b = c32 b2) := by
    have l1 : ldA st 12 ((c32 k * (8 : Int32)) + (1 : Int32)) = some (c32 ww) := by rw [show ldA st 12 ((c32 k * (8 : Int32)) + (1 : Int32)) = some (AV st k 1) from ld_av (i := 1) hk (by omega), g6]
    have e42 : bf_doMat n st (c32 k) = bf_doMat_L42 n st (c32 k) (c32 t) (c32 ww) (c32 a) := by
      unfold bf_doMat
      rw [ob (ld_av0 hk), ob l1, g5]
      by_cases h3 : 3 ≤ ww
      · have l2 : ldA st 12 ((c32 k * (8 : Int32)) + (2 : Int32)) = some (c32 a) := by rw [show ldA st 12 ((c32 k * (8 : Int32)) + (2 : Int32)) = some (AV st k 2) from ld_av (i := 2) hk (by omega), g8 h3]
        rw [if_pos (show (3 : Int32) ≤ c32 ww from (c_le (a := 3) (by omega) (by omega)).mpr h3), ob l2]
      · rw [if_neg (show ¬ (3 : Int32) ≤ c32 ww from fun z => h3 ((c_le (a := 3) (by omega) (by omega)).mp z)), g7 (by omega)]
    rw [e42]
    unfold bf_doMat_L42
    by_cases h5 : 5 < ww
    · obtain ⟨m, m1, m2, m3⟩ := g10 h5
      have l3 : ldA st 12 ((c32 k * (8 : Int32)) + (3 : Int32)) = some (c32 m) := by rw [show ldA st 12 ((c32 k * (8 : Int32)) + (3 : Int32)) = some (AV st k 3) from ld_av (i := 3) hk (by omega), m3]
      refine ⟨m, m1, ?_, fun z => by omega, fun _ => m2⟩
      rw [if_neg (show ¬ c32 ww ≤ (5 : Int32) from fun z => by have := (c_le (a := ww) (b := 5) (by omega) (by omega)).mp z; omega), ob l3]
    · refine ⟨a, g4, ?_, fun _ => rfl, fun z => by omega⟩
      rw [if_pos (show c32 ww ≤ (5 : Int32) from (c_le (b := 5) (by omega) (by omega)).mpr (by omega))]
  obtain ⟨rc, ⟨CR, CO, es⟩, vv, h27, hz⟩ := id rs
  have hm6 := rc.1.2.2.2.2.2.1
  rw [hA, hB, hbm]
  unfold af_X26_run
  rw [ob (gI_of hc rfl), ob (show some x = some x from rfl), ob rs.cls]
  cases hMa : M a with
  | none =>
    have e38 := (hm6 a g4).1
    rw [hMa] at e38
    unfold bf_doMat_L65
    rw [oxr (A_known_none es rc.1 g4 hMa), ob (B_fits_0a g3 g4 (fun z => (g7 z).symm) e38)]
    dsimp only
    rw [if_pos rfl]
    exact SN.of ((rs.tw (code := 5) (by omega)).t (by omega)) rfl rfl (gr.th rfl rfl)
  | some q1 =>
    have eMa := (hm6 a g4).1
    rw [hMa] at eMa
    obtain ⟨R1, K1, G1, y1, y2, y3, y4, y5, y6, y7, y8⟩ := eMa
    rw [ox (A_known_some es rc.1 g4 hMa), ob (gI_of hc rfl)]
    -- both matrices known
    have fin : ∀ q2 R2 K2 G2, M b2 = some q2 → MB hp q2 R2 K2 G2 → 1 ≤ R2 → R2 ≤ 6 → 1 ≤ K2 → K2 ≤ 6 → st.2.1 38 b2 = c32 R2 → st.2.1 39 b2 = c32 K2 → (∀ i j, i < R2 → j < K2 → G2 i j = st.2.2 35 (36 * b2 + 6 * i + j) ∧ okd (G2 i j)) → (ww ≤ 5 → R2 = R1 ∧ K2 = K1) → SO x (T + 1) P w j h σ (af_X26_run_L28 n S σ s (some x) (some q1) (some q2)) ((bf_doMat_L65 n st (c32 k) (c32 t) (c32 ww) (c32 a) (c32 b2)).bind fun q_2 => some (q_2.1, slk P (nx P j))) := by
      intro q2 R2 K2 G2 hMb z1 z2 z3 z4 z5 z6 z7 z8 hsame
      obtain ⟨ft, ff⟩ := B_fits (n := n) g3 g4 hb2 (fun z => (g7 z).symm) y2 y3 y5 z2 z3 z5 y6 y7 z6 z7
      unfold af_X26_run_L28 bf_doMat_L65
      rcases g11 with ⟨n4, rfl⟩ | ⟨e4, e, rfl, he⟩
      · rw [ob (gR_of (v := none) hc rfl), if_pos rfl]
        have nw4 : ¬ c32 ww = (4 : Int32) := n_c (b := 4) (by omega) (by omega) n4
        by_cases hf : fitM ww R1 K1 R2 K2
        · rw [ob (ft hf)]
          dsimp only
          rw [if_neg n10, if_neg nw4]
          exact R_mat hn (rs.t (by omega)) h20 g1 rfl rfl g3 g2 g4 hb2 hMa hMb y2 y3 y4 y5 z2 z3 z4 z5 y1 z1 y6 y7 z6 z7 y8 z8 hsame hf f_1 rfl rfl (e5 := 0)
        · rw [ob (ff hf)]
          dsimp only
          rw [if_pos rfl]
          have hm1 := es.mb ((hm6 a g4).2 q1 hMa) y1
          have hm2 := es.mb ((hm6 b2 hb2).2 q2 hMb) z1
          unfold af_X26_run_L51
          rw [ob (gC_of hc), (A_fit (vs := [.int (c32 t), .int (c32 (matC ww)), .int (c32 a), .int b, .null]) rfl hc g3 hm1 hm2 y3 y5 z3 z5 hsame).2 hf]
          unfold af_X26_worked_L61
          rw [if_pos rfl]
          exact SN.of ((rs.tw (code := 5) (by omega)).t (by omega)) rfl rfl (gr.th rfl rfl)
      · subst e4
        have hf : fitM 4 R1 K1 R2 K2 := ⟨fun z => by omega, fun z => by omega, fun z => by omega⟩
        rw [ob (gR_of (v := some e) hc rfl), if_neg (fun z => nomatch z), ob (gR_of (v := some e) hc rfl), ob (show some e = some e from rfl), ob (ft hf)]
        dsimp only
        rw [if_neg n10, if_pos (show c32 4 = (4 : Int32) from rfl), ob (ld_ex0 hk)]
        rcases R_val (n := n) (S := S) hn rs hk (by omega) he with ⟨v, σ1, st1, q1', q2', q3, q4, q5, rs1, q6⟩ | ⟨code, σ1, st1, u, q1', q2', q3, q4, rn, q5⟩
        · have c38 := q6.2.1 38 (by decide) (by decide)
          have c39 := q6.2.1 39 (by decide) (by decide)
          have c35 := q6.2.2 35 (by decide) (by decide) (by decide)
          rw [ox q1', ob q5]
          exact R_mat hn (rs1.t (by omega)) h20 g1 rfl rfl g3 g2 g4 hb2 hMa hMb y2 y3 y4 y5 z2 z3 z4 z5 y1 z1 (by rw [c38]; exact y6) (by rw [c39]; exact y7) (by rw [c38]; exact z6) (by rw [c39]; exact z7) (by rw [c35]; exact y8) (by rw [c35]; exact z8) hsame hf q2' q3 q4 (e5 := 0)
        · have c38 := q5.2.1 38 (by decide) (by decide)
          have c39 := q5.2.1 39 (by decide) (by decide)
          have hmul : rrM 4 R1 K1 ≤ 6 := by unfold rrM; split <;> omega
          rw [oxr q1', ob q4]
          dsimp only
          rw [B_L108 (R1 := R1) (K1 := K1) (K2 := K2) (by omega) g4 hb2 (by rw [c38]; exact y6) (by rw [c39]; exact y7) (by rw [c39]; exact z7) (fun _ => (hsame (by omega)).2), B_dead hmul rn.ne (rrM 4 R1 K1) 0 n 0 (by omega) (by omega)]
          exact SN.of (rn.t (by omega)) rfl rfl (gr.ft rfl rfl q2' q3)
    by_cases h5 : 5 < ww
    · rw [hb6 h5, if_pos (c_0le (by omega)), ob (gI_of (v := c32 b2) hc (by rw [hb6 h5]; rfl)), ob rs.cls]
      cases hMb : M b2 with
      | none =>
        have e38 := (hm6 b2 hb2).1
        rw [hMb] at e38
        unfold bf_doMat_L65
        rw [oxr (A_known_none es rc.1 hb2 hMb), ob (B_fits_0b g3 h5 g4 hb2 y2 y3 y6 e38)]
        dsimp only
        rw [if_pos rfl]
        exact SN.of ((rs.tw (code := 5) (by omega)).t (by omega)) rfl rfl (gr.th rfl rfl)
      | some q2 =>
        have eMb := (hm6 b2 hb2).1
        rw [hMb] at eMb
        obtain ⟨R2, K2, G2, z1, z2, z3, z4, z5, z6, z7, z8⟩ := eMb
        rw [ox (A_known_some es rc.1 hb2 hMb)]
        exact fin q2 R2 K2 G2 hMb z1 z2 z3 z4 z5 z6 z7 z8 (fun z => by omega)
    · have e5 := hb5 (by omega)
      rw [g9 (by omega), if_neg (by decide)]
      subst e5
      exact fin q1 R1 K1 G1 hMa y1 y2 y3 y4 y5 y6 y7 y8 (fun _ => ⟨rfl, rfl⟩)
end RUN9
