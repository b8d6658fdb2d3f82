/-! THE PURE LAW: runs of statements: MAT, the whole -/
section RUN7
variable {x Z T : Nat} {P : PG_} {w : Nat → List UInt64} {h : Nat → Option aE} {f : Nat → Value} {hp hp' : Nat → Option aE} {st st' : bS} {M F : Nat → Option Nat} {σ σ0 : aS} {V : Nat → UInt64} {n : Nat} {S : Nat → Nat} {j ln s k : Nat} {R1 K1 R2 K2 q1 q2 : Nat} {G1 G2 g1 g2 : Nat → Nat → UInt64} {ti : UInt64} {i jj : Nat}
def MAC (s : Nat) (vs : List Value) (q1 R1 K1 : Nat) (G1 : Nat → Nat → UInt64) (q2 R2 K2 : Nat) (G2 : Nat → Nat → UInt64) (σ : aS) : Prop := σ.2.2 s = some (.inr (25, vs)) ∧ MB σ.2.2 q1 R1 K1 G1 ∧ MB σ.2.2 q2 R2 K2 G2
theorem MAC.frm {vs : List Value} {qr : Nat} {σ' : aS} (g : MAC s vs q1 R1 K1 G1 q2 R2 K2 G2 σ) (hf : FRM qr σ σ') (hs : ¬ (qr ≤ s ∧ s < qr + 8)) (h1 : far q1 qr) (h2 : far q2 qr) : MAC s vs q1 R1 K1 G1 q2 R2 K2 G2 σ' :=
  ⟨(hf.2.2 _ hs).trans g.1, g.2.1.of (fun i hi => hf.2.2 _ (by unfold far at h1; omega)), g.2.2.of (fun i hi => hf.2.2 _ (by unfold far at h2; omega))⟩
theorem A_fill1 {ww qr R C i : Nat} {vs : List Value} (hn : 1000 ≤ n) (hvs : vs[1]? = some (.int (c32 (matC ww)))) (hw : ww < 9) (e1 : ∀ a b, a < R1 → b < K1 → G1 a b = g1 a b ∧ okd (g1 a b)) (e2 : ∀ a b, a < R2 → b < K2 → G2 a b = g2 a b ∧ okd (g2 a b)) (hR1 : R1 ≤ 6) (hK1 : K1 ≤ 6) (hR2 : R2 ≤ 6) (hK2 : K2 ≤ 6) (h1K : 1 ≤ K1) (ht : okd ti) (hm : ∀ b, b < C → mok ww R1 K1 R2 K2 i b) (hi : i < 6) (hC : C ≤ 6) (hs : ¬ (qr ≤ s ∧ s < qr + 8)) (f1 : far q1 qr) (f2 : far q2 qr) : ∀ (d jj fu : Nat) (σ : aS) (G : Nat → Nat → UInt64), jj + d = C → MAC s vs q1 R1 K1 G1 q2 R2 K2 G2 σ → MB σ.2.2 qr R C G →
    (∃ σ' G', af_X26_worked_S162 n S (fu + d + 1) 1 σ s (some q1) (some q2) ti (some qr) (c32 i) (c32 jj) = af_X26_worked_S162 n S fu 0 σ' s (some q1) (some q2) ti (some qr) (c32 (i + 1)) 0 ∧ MB σ'.2.2 qr R C G' ∧ FRM qr σ σ' ∧ (∀ a, a ≠ i → G' a = G a) ∧ (∀ b, b < jj → G' i b = G i b) ∧ ∀ b, jj ≤ b → b < C → mcell ww g1 g2 K1 ti i b = some (G' i b)) ∨
    (∃ σ' G' b, af_X26_worked_S162 n S (fu + d + 1) 1 σ s (some q1) (some q2) ti (some qr) (c32 i) (c32 jj) = some (aTh σ', .inr 3) ∧ MB σ'.2.2 qr R C G' ∧ FRM qr σ σ' ∧ b < C ∧ mcell ww g1 g2 K1 ti i b = none) := by
  intro d
  induction d with
  | zero =>
    intro jj fu σ G hj hac hb
    refine Or.inl ⟨σ, G, ?_, hb, FRM.rfl_, fun _ _ => rfl, fun _ _ => rfl, fun b h1 h2 => by omega⟩
    rw [af_X26_worked_S162, if_neg (by decide), af_X26_worked_B175]
    rw [ob (show some qr = some qr from rfl), ob (gI_of hb.1 rfl), if_pos ((c_le (by omega) (by omega)).mpr (by omega))]
    show af_X26_worked_S162 n S fu 0 σ s _ _ _ _ (c32 i + c32 1) 0 = _
    rw [c_add]
  | succ d ih =>
    intro jj fu σ G hj hac hb
    have hst : af_X26_worked_S162 n S (fu + (d + 1) + 1) 1 σ s (some q1) (some q2) ti (some qr) (c32 i) (c32 jj) = xb (af_X26_cell n S σ s (some q1) (some q2) ti (c32 i) (c32 jj)) fun st_7 v_8 => (wD st_7 (qr + 2 + i) (c32 jj) v_8).bind fun st_11 => af_X26_worked_S162 n S (fu + d + 1) 1 st_11 s (some q1) (some q2) ti (some qr) (c32 i) (c32 jj + (1 : Int32)) := by
      rw [af_X26_worked_S162, if_neg (by decide), af_X26_worked_B175]
      rw [ob (show some qr = some qr from rfl), ob (gI_of hb.1 rfl), if_neg (fun z => by have := (c_le (a := C) (b := jj) (by omega) (by omega)).mp z; omega), ob (mb_r hb), ob (show some (qr + 1) = some (qr + 1) from rfl), ob (mb_row hb hi), ob (gC_of hac.1)]
      rfl
    rw [hst, A_cell hn hac.1 hvs hw hac.2.1 hac.2.2 e1 e2 hR1 hK1 hR2 hK2 h1K ht (hm jj (by omega)) hi (by omega)]
    cases hv : mcell ww g1 g2 K1 ti i jj with
    | none => exact Or.inr ⟨σ, G, jj, rfl, hb, FRM.rfl_, by omega, hv⟩
    | some v =>
      show (∃ σ' G', (wD σ (qr + 2 + i) (c32 jj) v).bind _ = _ ∧ _) ∨ (∃ σ' G' b, (wD σ (qr + 2 + i) (c32 jj) v).bind _ = _ ∧ _)
      have ea : c32 jj + (1 : Int32) = c32 (jj + 1) := c_add jj 1
      rw [ob (wD_of (hb.2.2 i hi) (by omega) (by omega)), ea]
      have hfr : FRM qr σ (mv σ (qr + 2 + i) (.inl (2, 6, dA (vf_upd (G i) jj v)))) := FRM.mv_ (by omega) (by omega)
      rcases ih (jj + 1) fu _ _ (by omega) (hac.frm hfr hs f1 f2) (hb.set (jj := jj) (v := v) hi) with ⟨σ', G', a1, a2, a3, a4, a5, a6⟩ | ⟨σ', G', b, a1, a2, a3, a4, a5⟩
      · refine Or.inl ⟨σ', G', a1, a2, hfr.trans a3, fun a ha => by rw [a4 a ha, if_neg ha], fun b hb2 => by rw [a5 b (by omega), if_pos rfl, vf_ne (by omega)], fun b h1 h2 => ?_⟩
        by_cases g : b = jj
        · subst g
          rw [a5 b (by omega), if_pos rfl, vf_at]
          exact hv
        · exact a6 b (by omega) h2
      · exact Or.inr ⟨σ', G', b, a1, a2, hfr.trans a3, a4, a5⟩
theorem A_fill0 {ww qr R C : Nat} {vs : List Value} (hn : 1000 ≤ n) (hvs : vs[1]? = some (.int (c32 (matC ww)))) (hw : ww < 9) (e1 : ∀ a b, a < R1 → b < K1 → G1 a b = g1 a b ∧ okd (g1 a b)) (e2 : ∀ a b, a < R2 → b < K2 → G2 a b = g2 a b ∧ okd (g2 a b)) (hR1 : R1 ≤ 6) (hK1 : K1 ≤ 6) (hR2 : R2 ≤ 6) (hK2 : K2 ≤ 6) (h1K : 1 ≤ K1) (ht : okd ti) (hm : ∀ a b, a < R → b < C → mok ww R1 K1 R2 K2 a b) (hR : R ≤ 6) (hC : C ≤ 6) (hs : ¬ (qr ≤ s ∧ s < qr + 8)) (f1 : far q1 qr) (f2 : far q2 qr) : ∀ (d i fu : Nat) (σ : aS) (G : Nat → Nat → UInt64), i + d = R → d * (C + 2) + 1 ≤ fu → MAC s vs q1 R1 K1 G1 q2 R2 K2 G2 σ → MB σ.2.2 qr R C G →
    (∃ σ' G', af_X26_worked_S162 n S fu 0 σ s (some q1) (some q2) ti (some qr) (c32 i) 0 = some (σ', .inl (some qr)) ∧ MB σ'.2.2 qr R C G' ∧ FRM qr σ σ' ∧ (∀ a, a < i → G' a = G a) ∧ ∀ a b, i ≤ a → a < R → b < C → mcell ww g1 g2 K1 ti a b = some (G' a b)) ∨
    (∃ σ' G' a b, af_X26_worked_S162 n S fu 0 σ s (some q1) (some q2) ti (some qr) (c32 i) 0 = some (aTh σ', .inr 3) ∧ MB σ'.2.2 qr R C G' ∧ FRM qr σ σ' ∧ a < R ∧ b < C ∧ mcell ww g1 g2 K1 ti a b = none) := by
  intro d
  induction d with
  | zero =>
    intro i fu σ G hi hf hac hb
    obtain ⟨fu, rfl⟩ : ∃ m, fu = m + 1 := ⟨fu - 1, by omega⟩
    refine Or.inl ⟨σ, G, ?_, hb, FRM.rfl_, fun _ _ => rfl, fun a b h1 h2 => by omega⟩
    rw [af_X26_worked_S162, if_pos rfl, af_X26_worked_B162]
    rw [ob (show some qr = some qr from rfl), ob (gI_of hb.1 rfl), if_pos ((c_le (by omega) (by omega)).mpr (by omega))]
  | succ d ih =>
    intro i fu σ G hi hf hac hb
    rw [Nat.succ_mul] at hf
    obtain ⟨fu, rfl⟩ : ∃ m, fu = (m + C + 1) + 1 := ⟨fu - C - 2, by omega⟩
    have h0 : af_X26_worked_S162 n S ((fu + C + 1) + 1) 0 σ s (some q1) (some q2) ti (some qr) (c32 i) 0 = af_X26_worked_S162 n S (fu + C + 1) 1 σ s (some q1) (some q2) ti (some qr) (c32 i) (c32 0) := by
      rw [af_X26_worked_S162, if_pos rfl, af_X26_worked_B162]
      rw [ob (show some qr = some qr from rfl), ob (gI_of hb.1 rfl), if_neg (fun z => by have := (c_le (a := R) (b := i) (by omega) (by omega)).mp z; omega)]
      rfl
    rw [h0]
    rcases A_fill1 (n := n) (S := S) hn hvs hw e1 e2 hR1 hK1 hR2 hK2 h1K ht (fun b hb => hm i b (by omega) hb) (by omega) hC hs f1 f2 C 0 fu σ G (by omega) hac hb with ⟨σ1, G1', a1, a2, a3, a4, a5, a6⟩ | ⟨σ1, G1', b, a1, a2, a3, a4, a5⟩
    · rw [a1]
      rcases ih (i + 1) fu σ1 G1' (by omega) (by omega) (hac.frm a3 hs f1 f2) a2 with ⟨σ2, G2', b1, b2, b3, b4, b5⟩ | ⟨σ2, G2', a, b, b1, b2, b3, b4, b5, b6⟩
      · refine Or.inl ⟨σ2, G2', b1, b2, a3.trans b3, fun a ha => by rw [b4 a (by omega), a4 a (by omega)], fun a b h1 h2 h3 => ?_⟩
        by_cases g : a = i
        · subst g
          rw [b4 a (by omega)]
          exact a6 b (by omega) h3
        · exact b5 a b (by omega) h2 h3
      · exact Or.inr ⟨σ2, G2', a, b, b1, b2, a3.trans b3, b4, b5, b6⟩
    · exact Or.inr ⟨σ1, G1', i, b, a1, a2, a3, by omega, a4, a5⟩
/-! the model's loops -/
def BFr (st st' : bS) : Prop := (∀ k, k ≠ 27 → st'.1 k = st.1 k) ∧ st'.2.1 = st.2.1 ∧ ∀ k, k ≠ 36 → st'.2.2 k = st.2.2 k
theorem BFr.rfl_ : BFr st st := ⟨fun _ _ => rfl, rfl, fun _ _ => rfl⟩
theorem BFr.trans {a b c : bS} (g : BFr a b) (g' : BFr b c) : BFr a c := ⟨fun k hk => (g'.1 k hk).trans (g.1 k hk), g'.2.1.trans g.2.1, fun k hk => (g'.2.2 k hk).trans (g.2.2 k hk)⟩
def MBC (m1 m2 K1 : Nat) (g1 g2 : Nat → Nat → UInt64) (st : bS) : Prop := st.1 27 = 0 ∧ (g1 = fun a b => st.2.2 35 (36 * m1 + 6 * a + b)) ∧ (g2 = fun a b => st.2.2 35 (36 * m2 + 6 * a + b)) ∧ st.2.1 39 m1 = c32 K1
theorem MBC.fr {m1 m2 : Nat} (g : MBC m1 m2 K1 g1 g2 st) (e : BFr st st') (h27 : st'.1 27 = 0) : MBC m1 m2 K1 g1 g2 st' := by
  obtain ⟨_, y1, y2, y3⟩ := g
  refine ⟨h27, ?_, ?_, ?_⟩
  · rw [e.2.2 35 (by decide)]; exact y1
  · rw [e.2.2 35 (by decide)]; exact y2
  · rw [e.2.1]; exact y3
theorem dm_out {t ww m1 m2 R C : Nat} {c : Int32} (fu : Nat) (s : bS) : bf_doMat_S161 n (fu + 1) 2 s (c32 t) (c32 ww) (c32 m1) (c32 m2) ti (c32 R) (c32 C) (c32 i) c = bf_doMat_S161 n fu 0 s (c32 t) (c32 ww) (c32 m1) (c32 m2) ti (c32 R) (c32 C) (c32 (i + 1)) 0 := by
  rw [bf_doMat_S161, if_neg (by decide), if_neg (by decide), bf_doMat_B219]
  have e : c32 i + (1 : Int32) = c32 (i + 1) := c_add i 1
  rw [e]
theorem dm_end {t ww m1 m2 R C : Nat} (fu : Nat) (hC : C ≤ jj) (hj : jj ≤ 6) : bf_doMat_S161 n (fu + 1) 1 st (c32 t) (c32 ww) (c32 m1) (c32 m2) ti (c32 R) (c32 C) (c32 i) (c32 jj) = bf_doMat_S161 n fu 2 st (c32 t) (c32 ww) (c32 m1) (c32 m2) ti (c32 R) (c32 C) (c32 i) 0 := by
  rw [bf_doMat_S161, if_neg (by decide), if_pos rfl, bf_doMat_B171, if_pos ((c_le (by omega) (by omega)).mpr hC)]
theorem dm_bad {t ww m1 m2 R C : Nat} (fu : Nat) (h27 : ¬ st.1 27 = 0) : bf_doMat_S161 n (fu + 1) 1 st (c32 t) (c32 ww) (c32 m1) (c32 m2) ti (c32 R) (c32 C) (c32 i) (c32 jj) = bf_doMat_S161 n fu 2 st (c32 t) (c32 ww) (c32 m1) (c32 m2) ti (c32 R) (c32 C) (c32 i) 0 := by
  rw [bf_doMat_S161, if_neg (by decide), if_pos rfl, bf_doMat_B171]
  by_cases g : c32 C ≤ c32 jj
  · rw [if_pos g]
  · rw [if_neg g, if_neg h27]
theorem dm_step {t ww m1 m2 R C : Nat} (fu : Nat) (hC : ¬ C ≤ jj) (hC6 : C ≤ 6) (h27 : st.1 27 = 0) : bf_doMat_S161 n (fu + 1) 1 st (c32 t) (c32 ww) (c32 m1) (c32 m2) ti (c32 R) (c32 C) (c32 i) (c32 jj) = (bf_matCell n st (c32 ww) (c32 m1) (c32 m2) (c32 i) (c32 jj) ti).bind fun q_3 => (stD q_3.1 36 (c32 (6 * i + jj)) q_3.2).bind fun st_4 => bf_doMat_S161 n fu 1 st_4 (c32 t) (c32 ww) (c32 m1) (c32 m2) ti (c32 R) (c32 C) (c32 i) (c32 (jj + 1)) := by
  have e : c32 jj + (1 : Int32) = c32 (jj + 1) := c_add jj 1
  have e2 : (c32 i * (6 : Int32)) + c32 jj = c32 (6 * i + jj) := by
    show c32 i * c32 6 + c32 jj = _
    rw [c_mul, c_add, Nat.mul_comm i]
  rw [bf_doMat_S161, if_neg (by decide), if_pos rfl, bf_doMat_B171, if_neg (fun z => by have := (c_le (a := C) (b := jj) (by omega) (by omega)).mp z; omega), if_pos h27, e2, e]
theorem B_fill1 {ww m1 m2 R C i t : Nat} (hn : 1000 ≤ n) (hw : ww < 9) (hm1 : m1 < 3) (hm2 : m2 < 3) (o1 : ∀ a b, a < R1 → b < K1 → okd (g1 a b)) (o2 : ∀ a b, a < R2 → b < K2 → okd (g2 a b)) (hK1 : K1 ≤ 6) (h1K : 1 ≤ K1) (ht : okd ti) (hm : ∀ b, b < C → mok ww R1 K1 R2 K2 i b) (hi : i < 6) (hC : C ≤ 6) : ∀ (d jj fu : Nat) (st : bS), jj + d = C → MBC m1 m2 K1 g1 g2 st →
    (∃ st', bf_doMat_S161 n (fu + d + 2) 1 st (c32 t) (c32 ww) (c32 m1) (c32 m2) ti (c32 R) (c32 C) (c32 i) (c32 jj) = bf_doMat_S161 n fu 0 st' (c32 t) (c32 ww) (c32 m1) (c32 m2) ti (c32 R) (c32 C) (c32 (i + 1)) 0 ∧ BFr st st' ∧ st'.1 27 = 0 ∧ (∀ b, jj ≤ b → b < C → mcell ww g1 g2 K1 ti i b = some (st'.2.2 36 (6 * i + b))) ∧ ∀ c, ¬ (6 * i + jj ≤ c ∧ c < 6 * i + 6) → st'.2.2 36 c = st.2.2 36 c) ∨
    (∃ st' fu' b, fu ≤ fu' ∧ bf_doMat_S161 n (fu + d + 2) 1 st (c32 t) (c32 ww) (c32 m1) (c32 m2) ti (c32 R) (c32 C) (c32 i) (c32 jj) = bf_doMat_S161 n fu' 0 st' (c32 t) (c32 ww) (c32 m1) (c32 m2) ti (c32 R) (c32 C) (c32 (i + 1)) 0 ∧ BFr st st' ∧ st'.1 27 = c32 4 ∧ b < C ∧ mcell ww g1 g2 K1 ti i b = none) := by
  intro d
  induction d with
  | zero =>
    intro jj fu st hj hbc
    refine Or.inl ⟨st, ?_, BFr.rfl_, hbc.1, fun b h1 h2 => by omega, fun _ _ => rfl⟩
    rw [show fu + 0 + 2 = (fu + 1) + 1 from rfl, dm_end (fu + 1) (by omega) (by omega), dm_out]
  | succ d ih =>
    intro jj fu st hj hbc
    have hst := dm_step (n := n) (st := st) (ti := ti) (i := i) (jj := jj) (t := t) (ww := ww) (m1 := m1) (m2 := m2) (R := R) (C := C) (fu + d + 2) (by omega) hC hbc.1
    rw [show fu + d + 2 + 1 = fu + (d + 1) + 2 by omega] at hst
    have hcell := B_cell (n := n) (ti := ti) (i := i) (jj := jj) hn hw hm1 hm2 hbc.1 hbc.2.1 hbc.2.2.1 hbc.2.2.2 o1 o2 hK1 h1K ht (hm jj (by omega)) hi (by omega)
    rw [hst]
    cases hv : mcell ww g1 g2 K1 ti i jj with
    | none =>
      rw [hv] at hcell
      obtain ⟨u, hu⟩ := hcell
      rw [hu, ob rfl]
      dsimp only
      rw [ob (st_D (show 6 * i + jj < 36 by omega))]
      refine Or.inr ⟨sD (sI st 27 4) 36 (6 * i + jj) u, fu + d, jj, by omega, ?_, ⟨fun k hk => by show (sI st 27 4).1 k = _; rw [sI_at, if_neg hk], rfl, fun k hk => by rw [sD_ne _ hk]; rfl⟩, rfl, by omega, hv⟩
      rw [show fu + d + 2 = (fu + d + 1) + 1 from rfl, dm_bad (fu + d + 1) (show ¬ (sD (sI st 27 4) 36 (6 * i + jj) u).1 27 = 0 from n_c (a := 4) (b := 0) (by omega) (by omega) (by omega)), dm_out]
    | some v =>
      rw [hv] at hcell
      have hcell : bf_matCell n st (c32 ww) (c32 m1) (c32 m2) (c32 i) (c32 jj) ti = some (st, v) := hcell
      rw [hcell, ob rfl]
      dsimp only
      rw [ob (st_D (show 6 * i + jj < 36 by omega))]
      have hfr : BFr st (sD st 36 (6 * i + jj) v) := ⟨fun _ _ => rfl, rfl, fun k hk => sD_ne _ hk⟩
      rcases ih (jj + 1) fu (sD st 36 (6 * i + jj) v) (by omega) (hbc.fr hfr hbc.1) with ⟨st', a1, a2, a3, a4, a5⟩ | ⟨st', fu', b, a1, a2, a3, a4, a5, a6⟩
      · refine Or.inl ⟨st', a1, hfr.trans a2, a3, fun b h1 h2 => ?_, fun c hc => ?_⟩
        · by_cases g : b = jj
          · subst g
            rw [a5 _ (by omega), sD_at, if_pos rfl, if_pos rfl]
            exact hv
          · exact a4 b (by omega) h2
        · rw [a5 c (by omega), sD_at, if_pos rfl, if_neg (by omega)]
      · exact Or.inr ⟨st', fu', b, a1, a2, hfr.trans a3, a4, a5, a6⟩
theorem B_dead {R C t ww m1 m2 : Nat} (hR : R ≤ 6) (h27 : ¬ st.1 27 = 0) : ∀ (d i fu : Nat) (c : Int32), i + d = R → 3 * d + 1 ≤ fu → bf_doMat_S161 n fu 0 st (c32 t) (c32 ww) (c32 m1) (c32 m2) ti (c32 R) (c32 C) (c32 i) c = some (st, ()) := by
  intro d
  induction d with
  | zero =>
    intro i fu c hi hf
    obtain ⟨fu, rfl⟩ : ∃ m, fu = m + 1 := ⟨fu - 1, by omega⟩
    rw [bf_doMat_S161, if_pos rfl, bf_doMat_B161]
    rw [if_pos ((c_le (by omega) (by omega)).mpr (by omega)), if_neg h27]
  | succ d ih =>
    intro i fu c hi hf
    obtain ⟨fu, rfl⟩ : ∃ m, fu = m + 3 := ⟨fu - 3, by omega⟩
    rw [← ih (i + 1) fu 0 (by omega) (by omega)]
    rw [bf_doMat_S161, if_pos rfl, bf_doMat_B161]
    rw [if_neg (fun z => by have := (c_le (a := R) (b := i) (by omega) (by omega)).mp z; omega)]
    rw [bf_doMat_S161, if_neg (by decide), if_pos rfl, bf_doMat_B171]
    have e : bf_doMat_S161 n (fu + 1) 2 st (c32 t) (c32 ww) (c32 m1) (c32 m2) ti (c32 R) (c32 C) (c32 i) 0 = bf_doMat_S161 n fu 0 st (c32 t) (c32 ww) (c32 m1) (c32 m2) ti (c32 R) (c32 C) (c32 (i + 1)) 0 := by
      rw [bf_doMat_S161, if_neg (by decide), if_neg (by decide), bf_doMat_B219]
      show bf_doMat_S161 n fu 0 st _ _ _ _ _ _ _ (c32 i + c32 1) 0 = _
      rw [c_add]
    split
    · exact e
    · exact e
theorem B_fill0 {ww m1 m2 R C t : Nat} (hn : 1000 ≤ n) (hw : ww < 9) (hm1 : m1 < 3) (hm2 : m2 < 3) (o1 : ∀ a b, a < R1 → b < K1 → okd (g1 a b)) (o2 : ∀ a b, a < R2 → b < K2 → okd (g2 a b)) (hK1 : K1 ≤ 6) (h1K : 1 ≤ K1) (ht : okd ti) (hm : ∀ a b, a < R → b < C → mok ww R1 K1 R2 K2 a b) (hR : R ≤ 6) (hC : C ≤ 6) : ∀ (d i fu : Nat) (st : bS), i + d = R → d * (C + 6) + 1 ≤ fu → MBC m1 m2 K1 g1 g2 st →
    (∃ st', bf_doMat_S161 n fu 0 st (c32 t) (c32 ww) (c32 m1) (c32 m2) ti (c32 R) (c32 C) (c32 i) 0 = ((stA st' 38 (c32 t) (c32 R)).bind fun st_3 => (stA st_3 39 (c32 t) (c32 C)).bind fun st_4 => bf_doMat_S252 n n st_4 (c32 t) (0 : Int32)) ∧ BFr st st' ∧ st'.1 27 = 0 ∧ (∀ a b, i ≤ a → a < R → b < C → mcell ww g1 g2 K1 ti a b = some (st'.2.2 36 (6 * a + b))) ∧ ∀ c, c < 6 * i → st'.2.2 36 c = st.2.2 36 c) ∨
    (∃ st' a b, bf_doMat_S161 n fu 0 st (c32 t) (c32 ww) (c32 m1) (c32 m2) ti (c32 R) (c32 C) (c32 i) 0 = some (st', ()) ∧ BFr st st' ∧ st'.1 27 = c32 4 ∧ a < R ∧ b < C ∧ mcell ww g1 g2 K1 ti a b = none) := by
  intro d
  induction d with
  | zero =>
    intro i fu st hi hf hbc
    obtain ⟨fu, rfl⟩ : ∃ m, fu = m + 1 := ⟨fu - 1, by omega⟩
    refine Or.inl ⟨st, ?_, BFr.rfl_, hbc.1, fun a b h1 h2 => by omega, fun _ _ => rfl⟩
    rw [bf_doMat_S161, if_pos rfl, bf_doMat_B161]
    rw [if_pos ((c_le (by omega) (by omega)).mpr (by omega)), if_pos hbc.1]
  | succ d ih =>
    intro i fu st hi hf hbc
    rw [Nat.succ_mul] at hf
    have h3d : 3 * d ≤ d * (C + 6) := by
      rw [Nat.mul_comm 3 d]
      exact Nat.mul_le_mul_left d (by omega)
    obtain ⟨fu, rfl⟩ : ∃ m, fu = (m + C + 2) + 1 := ⟨fu - C - 3, by omega⟩
    have h0 : bf_doMat_S161 n ((fu + C + 2) + 1) 0 st (c32 t) (c32 ww) (c32 m1) (c32 m2) ti (c32 R) (c32 C) (c32 i) 0 = bf_doMat_S161 n (fu + C + 2) 1 st (c32 t) (c32 ww) (c32 m1) (c32 m2) ti (c32 R) (c32 C) (c32 i) (c32 0) := by
      rw [bf_doMat_S161, if_pos rfl, bf_doMat_B161]
      rw [if_neg (fun z => by have := (c_le (a := R) (b := i) (by omega) (by omega)).mp z; omega)]
      rfl
    rw [h0]
    rcases B_fill1 (n := n) (R := R) (t := t) hn hw hm1 hm2 o1 o2 hK1 h1K ht (fun b hb => hm i b (by omega) hb) (by omega) hC C 0 fu st (by omega) hbc with ⟨st1, a1, a2, a3, a4, a5⟩ | ⟨st1, fu', b, a1, a2, a3, a4, a5, a6⟩
    · rw [a1]
      rcases ih (i + 1) fu st1 (by omega) (by omega) (hbc.fr a2 a3) with ⟨st2, b1, b2, b3, b4, b5⟩ | ⟨st2, a, b, b1, b2, b3, b4, b5, b6⟩
      · refine Or.inl ⟨st2, b1, a2.trans b2, b3, fun a b h1 h2 h3 => ?_, fun c hc => by rw [b5 c (by omega), a5 c (by omega)]⟩
        by_cases g : a = i
        · subst g
          rw [b5 _ (by omega)]
          exact a4 b (by omega) h3
        · exact b4 a b (by omega) h2 h3
      · exact Or.inr ⟨st2, a, b, b1, a2.trans b2, b3, b4, b5, b6⟩
    · rw [a2]
      exact Or.inr ⟨st1, i, b, B_dead hR (by rw [a4]; exact n_c (b := 0) (by omega) (by omega) (by omega)) d (i + 1) fu' 0 (by omega) (by omega), a3, a4, by omega, a5, a6⟩
theorem B_copy {t : Nat} (ht : t < 3) : ∀ (d i fu : Nat) (st : bS), i + d = 36 → d < fu → ∃ st', bf_doMat_S252 n fu st (c32 t) (c32 i) = some (st', ()) ∧ st'.1 = st.1 ∧ st'.2.1 = st.2.1 ∧ (∀ k, k ≠ 35 → st'.2.2 k = st.2.2 k) ∧ (∀ c, ¬ (36 * t + i ≤ c ∧ c < 36 * t + 36) → st'.2.2 35 c = st.2.2 35 c) ∧ ∀ c, i ≤ c → c < 36 → st'.2.2 35 (36 * t + c) = st.2.2 36 c := by
  intro d
  induction d with
  | zero =>
    intro i fu st hi hf
    obtain ⟨fu, rfl⟩ : ∃ m, fu = m + 1 := ⟨fu - 1, by omega⟩
    refine ⟨st, ?_, rfl, rfl, fun _ _ => rfl, fun _ _ => rfl, fun c h1 h2 => by omega⟩
    show bf_doMat_B252 n _ st _ _ = _
    unfold bf_doMat_B252
    rw [if_pos (show (36 : Int32) ≤ c32 i from (c_le (a := 36) (by omega) (by omega)).mpr (by omega))]
  | succ d ih =>
    intro i fu st hi hf
    obtain ⟨fu, rfl⟩ : ∃ m, fu = m + 1 := ⟨fu - 1, by omega⟩
    obtain ⟨st', a1, a2, a3, a4, a5, a6⟩ := ih (i + 1) fu (sD st 35 (36 * t + i) (st.2.2 36 i)) (by omega) (by omega)
    refine ⟨st', ?_, a2, a3, fun k hk => (a4 k hk).trans (sD_ne _ hk), fun c hc => by rw [a5 c (by omega), sD_at, if_pos rfl, if_neg (by omega)], fun c h1 h2 => ?_⟩
    · rw [← a1]
      show bf_doMat_B252 n _ st _ _ = _
      unfold bf_doMat_B252
      rw [if_neg (fun z => by have := (c_le (a := 36) (b := i) (by omega) (by omega)).mp z; omega), ob (ld_D (show i < 36 by omega))]
      show (stD st 35 (c32 t * c32 36 + c32 i) (st.2.2 36 i)).bind (fun st_3 => bf_doMat_S252 n fu st_3 (c32 t) (c32 i + c32 1)) = _
      rw [c_mul, c_add, c_add, Nat.mul_comm t, ob (st_D (show 36 * t + i < 108 by omega))]
    · by_cases g : c = i
      · subst g
        rw [a5 _ (by omega), sD_at, if_pos rfl, if_pos rfl]
      · rw [a6 c (by omega) h2, sD_ne _ (by decide)]
end RUN7
