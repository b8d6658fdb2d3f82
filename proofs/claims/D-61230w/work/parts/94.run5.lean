/-! THE PURE LAW: runs of statements: DIM -/
/-- all but a block is as before -/
def FRM (q : Nat) (σ σ' : aS) : Prop := σ'.1 = σ.1 ∧ σ'.2.1 = σ.2.1 ∧ ∀ q', ¬ (q ≤ q' ∧ q' < q + 8) → σ'.2.2 q' = σ.2.2 q'
theorem FRM.rfl_ {q : Nat} {σ : aS} : FRM q σ σ := ⟨rfl, rfl, fun _ _ => rfl⟩
theorem FRM.trans {q : Nat} {a b c : aS} (h : FRM q a b) (g : FRM q b c) : FRM q a c := ⟨g.1.trans h.1, g.2.1.trans h.2.1, fun q' hq => (g.2.2 q' hq).trans (h.2.2 q' hq)⟩
theorem FRM.mv_ {q a : Nat} {σ : aS} {e : aE} (h1 : q ≤ a) (h2 : a < q + 8) : FRM q σ (mv σ a e) := ⟨rfl, rfl, fun q' hq => mv_ne _ _ (by omega)⟩
def nrm2 (st : bS) : bS := (fun k => if k = 0 then 0 else if k = 2 then 0 else if k = 4 then 0 else if k = 5 then 0 else if k = 6 then 0 else if k = 7 then 0 else if k = 24 then 0 else if k = 25 then 0 else if k = 27 then 0 else st.1 k, fun k => if k = 38 then fun _ => 0 else if k = 39 then fun _ => 0 else st.2.1 k, fun k => if k = 35 then fun _ => 0 else if k = 36 then fun _ => 0 else st.2.2 k)
theorem nrm2_of {a b : bS} (h1 : ∀ k, k ≠ 27 → b.1 k = a.1 k) (h2 : ∀ k, k ≠ 38 → k ≠ 39 → b.2.1 k = a.2.1 k) (h3 : ∀ k, k ≠ 35 → k ≠ 36 → b.2.2 k = a.2.2 k) : nrm2 a = nrm2 b := by
  unfold nrm2
  refine Prod.ext ?_ (Prod.ext ?_ ?_)
  · funext k
    show (if _ then _ else _) = (if _ then _ else _)
    repeat' split
    all_goals first | rfl | exact (h1 k (by assumption)).symm
  · funext k
    show (if _ then _ else _) = (if _ then _ else _)
    repeat' split
    all_goals first | rfl | exact (h2 k (by assumption) (by assumption)).symm
  · funext k
    show (if _ then _ else _) = (if _ then _ else _)
    repeat' split
    all_goals first | rfl | exact (h3 k (by assumption) (by assumption)).symm
section RUN5
variable {x Z T : Nat} {P : PG_} {w : Nat → List UInt64} {h : Nat → Option aE} {f : Nat → Value} {hp hp' : Nat → Option aE} {st st' : bS} {M F : Nat → Option Nat} {σ σ0 : aS} {V : Nat → UInt64} {n : Nat} {S : Nat → Nat} {j ln s k : Nat}
theorem A_be1 {q R K i : Nat} (hi : i < 6) (hK : K ≤ 6) : ∀ (d jj fu : Nat) (σ : aS) (G : Nat → Nat → UInt64), jj + d = K → MB σ.2.2 q R K G → ∃ σ' G', af_X28_be_S12 n S (fu + d + 1) 1 σ q (c32 R) (c32 K) (c32 i) (c32 jj) = af_X28_be_S12 n S fu 0 σ' q (c32 R) (c32 K) (c32 (i + 1)) 0 ∧ MB σ'.2.2 q R K G' ∧ FRM q σ σ' ∧ (∀ a, a ≠ i → G' a = G a) ∧ (∀ b, b < jj → G' i b = G i b) ∧ ∀ b, jj ≤ b → b < K → G' i b = FP.dconst0 := by
  intro d
  induction d with
  | zero =>
    intro jj fu σ G hj hb
    refine ⟨σ, G, ?_, hb, FRM.rfl_, fun _ _ => rfl, fun _ _ => rfl, fun b h1 h2 => by omega⟩
    rw [af_X28_be_S12, if_neg (by decide), af_X28_be_B20]
    rw [if_pos ((c_le (by omega) (by omega)).mpr (by omega))]
    show af_X28_be_S12 n S fu 0 σ q _ _ (c32 i + c32 1) 0 = _
    rw [c_add]
  | succ d ih =>
    intro jj fu σ G hj hb
    obtain ⟨b1, b2, b3⟩ := id hb
    have e9 : lR σ (q + 1) 9 (c32 i) = some (some (q + 2 + i)) := by rw [lR_of b2 (by omega) (by omega), if_pos (by omega)]
    have hb' : MB (mv σ (q + 2 + i) (.inl (2, 6, dA (vf_upd (G i) jj FP.dconst0)))).2.2 q R K _ := hb.set (jj := jj) (v := FP.dconst0) hi
    obtain ⟨σ', G', a1, a2, a3, a4, a5, a6⟩ := ih (jj + 1) fu _ _ (by omega) hb'
    refine ⟨σ', G', ?_, a2, (FRM.mv_ (by omega) (by omega)).trans a3, fun a ha => by rw [a4 a ha, if_neg ha], fun b hb2 => by rw [a5 b (by omega), if_pos rfl, vf_ne (by omega)], fun b h1 h2 => ?_⟩
    · rw [← a1]
      rw [af_X28_be_S12, if_neg (by decide), af_X28_be_B20]
      rw [if_neg (fun z => by have := (c_le (a := K) (b := jj) (by omega) (by omega)).mp z; omega), ob (gR_of (v := some (q + 1)) b1 rfl), ob (show some (q + 1) = some (q + 1) from rfl), ob e9, ob (show some (q + 2 + i) = some (q + 2 + i) from rfl), ob (wD_of (b3 i hi) (by omega) (by omega))]
      show af_X28_be_S12 n S (fu + d + 1) 1 _ q _ _ _ (c32 jj + c32 1) = _
      rw [c_add]
    · by_cases g : b = jj
      · subst g
        rw [a5 b (by omega), if_pos rfl, vf_at]
      · exact a6 b (by omega) h2
theorem A_be0 {q R K : Nat} (hR : R ≤ 6) (hK : K ≤ 6) : ∀ (d i fu : Nat) (σ : aS) (G : Nat → Nat → UInt64), i + d = R → d * (K + 2) + 1 ≤ fu → MB σ.2.2 q R K G → (∀ a b, a < i → b < K → G a b = FP.dconst0) → ∃ σ' G', af_X28_be_S12 n S fu 0 σ q (c32 R) (c32 K) (c32 i) 0 = some (σ', some q) ∧ MB σ'.2.2 q R K G' ∧ FRM q σ σ' ∧ ∀ a b, a < R → b < K → G' a b = FP.dconst0 := by
  intro d
  induction d with
  | zero =>
    intro i fu σ G hi hf hb hG
    obtain ⟨fu, rfl⟩ : ∃ m, fu = m + 1 := ⟨fu - 1, by omega⟩
    refine ⟨σ, G, ?_, hb, FRM.rfl_, fun a b ha hb2 => hG a b (by omega) hb2⟩
    rw [af_X28_be_S12, if_pos rfl, af_X28_be_B12]
    rw [if_pos ((c_le (by omega) (by omega)).mpr (by omega))]
  | succ d ih =>
    intro i fu σ G hi hf hb hG
    rw [Nat.succ_mul] at hf
    obtain ⟨fu, rfl⟩ : ∃ m, fu = (m + K + 1) + 1 := ⟨fu - K - 2, by omega⟩
    obtain ⟨σ1, G1, a1, a2, a3, a4, a5, a6⟩ := A_be1 (n := n) (S := S) (i := i) (by omega) hK K 0 fu σ G (by omega) hb
    obtain ⟨σ2, G2, b1, b2, b3, b4⟩ := ih (i + 1) fu σ1 G1 (by omega) (by omega) a2 (fun a b ha hb2 => by
      by_cases g : a = i
      · subst g; exact a6 b (by omega) hb2
      · rw [a4 a g]; exact hG a b (by omega) hb2)
    refine ⟨σ2, G2, ?_, b2, a3.trans b3, b4⟩
    rw [← b1, ← a1]
    rw [af_X28_be_S12, if_pos rfl, af_X28_be_B12]
    rw [if_neg (fun z => by have := (c_le (a := R) (b := i) (by omega) (by omega)).mp z; omega)]
    rfl
theorem A_be {q R0 K0 R K : Nat} {G : Nat → Nat → UInt64} (hn : 1000 ≤ n) (hb : MB σ.2.2 q R0 K0 G) (hR : R ≤ 6) (hK : K ≤ 6) : ∃ σ' G', af_X28_be n S σ q (c32 R) (c32 K) = some (σ', some q) ∧ MB σ'.2.2 q R K G' ∧ FRM q σ σ' ∧ ∀ a b, a < R → b < K → G' a b = FP.dconst0 := by
  obtain ⟨b1, b2, b3⟩ := hb
  have hc1 : (mv σ q (.inr (27, [.ref (q + 1), .int (c32 R), .int (c32 K0)]))).2.2 q = some (.inr (27, [.ref (q + 1), .int (c32 R), .int (c32 K0)])) := mv_at _ _ _
  have hmb : MB (mv σ q (.inr (27, [.ref (q + 1), .int (c32 R), .int (c32 K)]))).2.2 q R K G := ⟨mv_at _ _ _, (mv_ne _ _ (by omega)).trans b2, fun i hi => (mv_ne _ _ (by omega)).trans (b3 i hi)⟩
  have hmul : R * (K + 2) ≤ 6 * 8 := Nat.mul_le_mul hR (by omega)
  obtain ⟨σ', G', a1, a2, a3, a4⟩ := A_be0 (n := n) (S := S) hR hK R 0 n _ G (by omega) (by omega) hmb (fun a b ha => by omega)
  refine ⟨σ', G', ?_, a2, (FRM.mv_ (by omega) (by omega)).trans a3, a4⟩
  unfold af_X28_be
  rw [ob (pF_of b1 (by show 1 < 3; omega))]
  show (pF (mv σ q (.inr (27, [.ref (q + 1), .int (c32 R), .int (c32 K0)]))) q 27 2 (.int (c32 K))).bind _ = _
  rw [ob (pF_of hc1 (by show 2 < 3; omega)), mv_mv]
  exact a1
/-- a new matrix -/
theorem A_newm : ∃ σ2 G, af_X28_init n S (nw σ (.inr (27, [.null, .int 0, .int 0])) 3) σ.1 = some (σ2, ()) ∧ σ2.1 = σ.1 + 8 ∧ σ2.2.1 = σ.2.1 + 45 ∧ MB σ2.2.2 σ.1 0 0 G ∧ ∀ q', q' < σ.1 ∨ σ.1 + 8 ≤ q' → σ2.2.2 q' = σ.2.2 q' := by
  obtain ⟨τ, hτ⟩ : ∃ τ : aS, τ = (σ.1 + 1 + 7, σ.2.1 + 3 + 42, fun q => if q = σ.1 + 1 then some (.inl (9, 6, rA (fun i => if i < 6 then some (σ.1 + 1 + 1 + i) else none))) else if σ.1 + 1 < q ∧ q < σ.1 + 1 + 7 then some (.inl (2, 6, dA (fun _ => 0))) else (nw σ (.inr (27, [.null, .int 0, .int 0])) 3).2.2 q) := ⟨_, rfl⟩
  have h0 : nM (nw σ (.inr (27, [.null, .int 0, .int 0])) 3) = some τ := by rw [hτ]; rfl
  have t1 : τ.1 = σ.1 + 8 := by rw [hτ]
  have t2 : τ.2.1 = σ.2.1 + 45 := by rw [hτ]
  have t3 : ∀ q, τ.2.2 q = if q = σ.1 + 1 then some (.inl (9, 6, rA (fun i => if i < 6 then some (σ.1 + 1 + 1 + i) else none))) else if σ.1 + 1 < q ∧ q < σ.1 + 1 + 7 then some (.inl (2, 6, dA (fun _ => 0))) else (nw σ (.inr (27, [.null, .int 0, .int 0])) 3).2.2 q := fun q => by rw [hτ]
  have hq : τ.2.2 σ.1 = some (.inr (27, [.null, .int 0, .int 0])) := by
    rw [t3, if_neg (by omega), if_neg (by omega)]
    exact nw_at _ _ _
  have e : af_X28_init n S (nw σ (.inr (27, [.null, .int 0, .int 0])) 3) σ.1 = some (mv τ σ.1 (.inr (27, [.ref (σ.1 + 1), .int 0, .int 0])), ()) := by
    unfold af_X28_init
    rw [ob h0, ob (pF_of hq (by show 0 < 3; omega))]
    rfl
  refine ⟨_, fun _ _ => 0, e, t1, t2, ⟨mv_at _ _ _, ?_, fun i hi => ?_⟩, fun q' hq' => ?_⟩
  · rw [mv_ne _ _ (by omega), t3, if_pos rfl]
  · rw [mv_ne _ _ (by omega), t3, if_neg (by omega), if_pos (by omega)]
  · rw [mv_ne _ _ (by omega), t3, if_neg (by omega), if_neg (by omega)]
    exact nw_ne _ _ _ (by omega)
/-- matrices are set anew -/
theorem RC.gen {Z' : Nat} {M' : Nat → Option Nat} {sp' : Option Nat} (rc : RC x Z T P w h f hp st M F) (hZ : Z ≤ Z') (e : nrm2 st = nrm2 st') (hle' : ∀ q e, h q = some e → hp' q = hp q) (hpx : ∀ i, i ≤ 9 → i ≠ 0 → i ≠ 2 → i ≠ 3 → i ≠ 5 → i ≠ 6 → hp' (x + i) = hp (x + i)) (hx3 : hp' (x + 3) = some (.inl (4, 3, rA M'))) (hMR : ∀ m, m < 3 → MR hp' st' m (M' m) ∧ ∀ q, M' m = some q → x + 9 < q) (mx : MX x Z' h hp' (va_up f 7 (va_rf sp')) M') : RC x Z' T P w h (va_up f 7 (va_rf sp')) hp' st' M' F := by
  obtain ⟨⟨c1, c2, c3, c4, c5, c6, c7⟩, pg, h3, wp, dat, sub, lop, prt, _, ot, hz1, hz2⟩ := rc
  have key : PGM h st' P ∧ WP h st' P w ∧ DAT w f st' ∧ SUB x P f hp st' ∧ LOP x P h f hp st' ∧ PRT x T f hp st' ∧ OT x f hp st' ∧ ∀ g, g < 3 → FR h st' g (F g) := by
    have k0 : PGM h (nrm2 st) P ∧ WP h (nrm2 st) P w ∧ DAT w f (nrm2 st) ∧ SUB x P f hp (nrm2 st) ∧ LOP x P h f hp (nrm2 st) ∧ PRT x T f hp (nrm2 st) ∧ OT x f hp (nrm2 st) ∧ ∀ g, g < 3 → FR h (nrm2 st) g (F g) := ⟨pg, wp, dat, sub, lop, prt, ot, c7⟩
    rw [e] at k0
    exact k0
  obtain ⟨pg', wp', dat', ⟨sr, sB, s1, s2, s3, s4, s5⟩, ⟨l, L, l1, l2, l3, l4, l5, l6⟩, ⟨p, Gp, g1, g2, g3, g4, g5⟩, ⟨⟨tl, Tc, t1, t2, t3, t4, t5⟩, ot'⟩, c7'⟩ := key
  exact ⟨⟨c1, fun q e he => (hle' q e he).trans (c2 q e he), c3, hx3, (hpx 4 (by omega) (by omega) (by omega) (by omega) (by omega) (by omega)).trans c5, hMR, c7'⟩, pg', h3, wp', dat', ⟨sr, sB, s1, s2, s3, (hpx 7 (by omega) (by omega) (by omega) (by omega) (by omega) (by omega)).trans s4, s5⟩, ⟨l, L, l1, l2, l3, (hpx 8 (by omega) (by omega) (by omega) (by omega) (by omega) (by omega)).trans l4, l5, l6⟩, ⟨p, Gp, g1, g2, g3, (hpx 9 (by omega) (by omega) (by omega) (by omega) (by omega) (by omega)).trans g4, g5⟩, mx, ⟨⟨tl, Tc, t1, t2, t3, (hpx 1 (by omega) (by omega) (by omega) (by omega) (by omega) (by omega)).trans t4, t5⟩, ot'⟩, fun q hq => hz1 q (by omega), by omega⟩
/-- the model's side of DIM -/
def DMF (m : Nat) (st st' : bS) : Prop := st'.1 = st.1 ∧ (∀ k, k ≠ 38 → k ≠ 39 → st'.2.1 k = st.2.1 k) ∧ (∀ m', m' ≠ m → st'.2.1 38 m' = st.2.1 38 m' ∧ st'.2.1 39 m' = st.2.1 39 m') ∧ (∀ k, k ≠ 35 → k ≠ 36 → st'.2.2 k = st.2.2 k) ∧ ∀ t, ¬ (36 * m ≤ t ∧ t < 36 * m + 36) → st'.2.2 35 t = st.2.2 35 t
theorem DMF.nr {m : Nat} (g : DMF m st st') : nrm2 st = nrm2 st' := nrm2_of (fun k _ => by rw [g.1]) g.2.1 g.2.2.2.1
theorem B_dimS {m : Nat} (hm : m < 3) : ∀ (d i fu : Nat) (st : bS), i + d = 36 → d < fu → ∃ st', bf_dimension_S20 n fu st (c32 m) (c32 (36 * m + i)) = some (st', ()) ∧ st'.1 = st.1 ∧ st'.2.1 = st.2.1 ∧ (∀ k, k ≠ 35 → st'.2.2 k = st.2.2 k) ∧ (∀ t, ¬ (36 * m + i ≤ t ∧ t < 36 * m + 36) → st'.2.2 35 t = st.2.2 35 t) ∧ ∀ t, 36 * m + i ≤ t → t < 36 * m + 36 → st'.2.2 35 t = FP.dconst0 := by
  intro d
  induction d with
  | zero =>
    intro i fu st hi hf
    obtain ⟨fu, rfl⟩ : ∃ m, fu = m + 1 := ⟨fu - 1, by omega⟩
    refine ⟨st, ?_, rfl, rfl, fun _ _ => rfl, fun _ _ => rfl, fun t h1 h2 => by omega⟩
    show bf_dimension_B20 n _ st _ _ = _
    unfold bf_dimension_B20
    show (if c32 m * c32 36 + c32 36 ≤ c32 (36 * m + i) then _ else _) = _
    rw [c_mul, c_add, if_pos ((c_le (by omega) (by omega)).mpr (by omega))]
  | succ d ih =>
    intro i fu st hi hf
    obtain ⟨fu, rfl⟩ : ∃ m, fu = m + 1 := ⟨fu - 1, by omega⟩
    obtain ⟨st', a1, a2, a3, a4, a5, a6⟩ := ih (i + 1) fu (sD st 35 (36 * m + i) FP.dconst0) (by omega) (by omega)
    refine ⟨st', ?_, a2, a3, fun k hk => (a4 k hk).trans (sD_ne _ hk), fun t ht => ?_, fun t h1 h2 => ?_⟩
    · rw [← a1]
      show bf_dimension_B20 n _ st _ _ = _
      unfold bf_dimension_B20
      show (if c32 m * c32 36 + c32 36 ≤ c32 (36 * m + i) then _ else _) = _
      rw [c_mul, c_add, if_neg (fun z => by have := (c_le (a := m * 36 + 36) (b := 36 * m + i) (by omega) (by omega)).mp z; omega), ob (st_D (show 36 * m + i < 108 by omega))]
      show bf_dimension_S20 n fu _ _ (c32 (36 * m + i) + c32 1) = _
      rw [c_add, Nat.add_assoc]
    · rw [a5 t (by omega), sD_at, if_pos rfl, if_neg (by omega)]
    · by_cases g : t = 36 * m + i
      · rw [a5 t (by omega), sD_at, if_pos rfl, if_pos g]
      · exact a6 t (by omega) h2
theorem B_dim {m R K : Nat} (hn : 1000 ≤ n) (hm : m < 3) : ∃ st', bf_dimension n st (c32 m) (c32 R) (c32 K) = some (st', ()) ∧ DMF m st st' ∧ st'.2.1 38 m = c32 R ∧ st'.2.1 39 m = c32 K ∧ ∀ t, 36 * m ≤ t → t < 36 * m + 36 → st'.2.2 35 t = FP.dconst0 := by
  obtain ⟨st', a1, a2, a3, a4, a5, a6⟩ := B_dimS (n := n) hm 36 0 n (sA (sA st 38 m (c32 R)) 39 m (c32 K)) (by omega) (by omega)
  refine ⟨st', ?_, ⟨a2, fun k h1 h2 => by rw [a3, sA_ne _ h2, sA_ne _ h1], fun m' hm' => ?_, fun k h1 h2 => a4 k h1, fun t ht => a5 t (by omega)⟩, ?_, ?_, fun t h1 h2 => a6 t (by omega) h2⟩
  · unfold bf_dimension
    rw [ob (st_A (show m < 3 from hm)), ob (st_A (show m < 3 from hm))]
    show bf_dimension_S20 n n _ _ (c32 m * c32 36) = _
    rw [c_mul, Nat.mul_comm m]
    exact a1
  · rw [a3]
    refine ⟨?_, ?_⟩
    · rw [sA_ne _ (by decide), sA_at, if_pos rfl, if_neg hm']
    · rw [sA_at, if_pos rfl, if_neg hm', sA_ne _ (by decide)]
  · rw [a3, sA_ne _ (by decide), sA_at, if_pos rfl, if_pos rfl]
  · rw [a3, sA_at, if_pos rfl, if_pos rfl]
theorem va_same {α : Type} {g : Nat → α} {i : Nat} {v : α} (e : g i = v) : va_up g i v = g := by
  funext a
  unfold va_up
  split
  · rename_i h; rw [h, e]
  · rfl
/-- a matrix's block is set anew in the machine; the model's rows too -/
theorem RC.one {Z' m q R K : Nat} {G : Nat → Nat → UInt64} (rc : RC x Z T P w h f hp st M F) (hm : m < 3) (hZ : Z ≤ Z') (hq1 : x + 9 < q) (hq2 : q + 8 ≤ Z') (hq3 : ∀ i, i < 8 → h (q + i) = none) (hfr : ∀ q', q' ≠ x → q' ≠ x + 2 → q' ≠ x + 3 → q' ≠ x + 5 → q' ≠ x + 6 → ¬ (q ≤ q' ∧ q' < q + 8) → hp' q' = hp q') (hx3 : hp' (x + 3) = some (.inl (4, 3, rA (va_up M m (some q))))) (hb : MB hp' q R K G) (hR1 : 1 ≤ R) (hR : R ≤ 6) (hK1 : 1 ≤ K) (hK : K ≤ 6) (df : DMF m st st') (e38 : st'.2.1 38 m = c32 R) (e39 : st'.2.1 39 m = c32 K) (hG : ∀ a b, a < R → b < K → G a b = st'.2.2 35 (36 * m + 6 * a + b) ∧ okd (G a b)) (hnew : M m = some q ∨ (∀ m' q', m' < 3 → M m' = some q' → far q q') ∧ ∀ q', f 7 = va_rf (some q') → far q q') : RC x Z' T P w h f hp' st' (va_up M m (some q)) F := by
  obtain ⟨sp, m1, m2, m3, m4⟩ := id rc.2.2.2.2.2.2.2.2.1
  have hfar : ∀ m' q', m' < 3 → m' ≠ m → M m' = some q' → far q q' := fun m' q' hm' hne hq' => by
    rcases hnew with g | ⟨g, _⟩
    · exact m4 m m' hm hm' (fun z => hne z.symm) q q' g hq'
    · exact g m' q' hm' hq'
  have hfs : ∀ q', sp = some q' → far q q' := fun q' hq' => by
    rcases hnew with g | ⟨_, g⟩
    · exact (m3 m hm q g).2 q' hq'
    · exact g q' (by rw [m1, hq'])
  have hbk : ∀ q', BK x Z h hp q' → far q q' → BK x Z' h hp' q' := fun q' b hf =>
    (b.of (fun i hi => hfr (q' + i) (by have := b.1; omega) (by have := b.1; omega) (by have := b.1; omega) (by have := b.1; omega) (by have := b.1; omega) (by unfold far at hf; omega))).z hZ
  have hm6 := rc.1.2.2.2.2.2.1
  have := rc.gen (hp' := hp') (st' := st') (M' := va_up M m (some q)) (sp' := sp) hZ df.nr (fun q' e he => hfr q' ?_ ?_ ?_ ?_ ?_ ?_) (fun i h1 h2 h3 h4 h5 h6 => hfr (x + i) (by omega) (by omega) (by omega) (by omega) (by omega) (by omega)) hx3 (fun m' hm' => ?_) ⟨sp, va_at_, fun q' hq' => hbk q' (m2 q' hq') (hfs q' hq'), fun m' hm' q' hq' => ?_, fun m' m'' hm' hm'' hne q' q'' hq' hq'' => ?_⟩
  · rw [va_same m1] at this
    exact this
  · intro z; rw [rc.1.2.2.1 q' (by omega) (by omega)] at he; exact nomatch he
  · intro z; rw [rc.1.2.2.1 q' (by omega) (by omega)] at he; exact nomatch he
  · intro z; rw [rc.1.2.2.1 q' (by omega) (by omega)] at he; exact nomatch he
  · intro z; rw [rc.1.2.2.1 q' (by omega) (by omega)] at he; exact nomatch he
  · intro z; rw [rc.1.2.2.1 q' (by omega) (by omega)] at he; exact nomatch he
  · intro z
    have h8 := hq3 (q' - q) (by omega)
    rw [show q + (q' - q) = q' by omega, he] at h8
    exact nomatch h8
  · by_cases g : m' = m
    · subst g
      rw [va_at_]
      exact ⟨⟨R, K, G, hb, hR1, hR, hK1, hK, e38, e39, hG⟩, fun q' hq' => by cases hq'; exact hq1⟩
    · rw [va_ne_ g]
      refine ⟨?_, (hm6 m' hm').2⟩
      have h6 := (hm6 m' hm').1
      obtain ⟨d1, d2⟩ := df.2.2.1 m' g
      cases hM' : M m' with
      | none =>
        rw [hM'] at h6
        exact d1.trans h6
      | some q' =>
        rw [hM'] at h6
        obtain ⟨R', K', G', y1, y2, y3, y4, y5, y6, y7, y8⟩ := h6
        have hb' := m3 m' hm' q' hM'
        have hf := hfar m' q' hm' g hM'
        refine ⟨R', K', G', y1.of (fun i hi => hfr (q' + i) (by have := hb'.1.1; omega) (by have := hb'.1.1; omega) (by have := hb'.1.1; omega) (by have := hb'.1.1; omega) (by have := hb'.1.1; omega) (by unfold far at hf; omega)), y2, y3, y4, y5, d1.trans y6, d2.trans y7, fun a b ha hb2 => ?_⟩
        rw [df.2.2.2.2 _ (by omega)]
        exact y8 a b ha hb2
  · by_cases g : m' = m
    · subst g
      rw [va_at_] at hq'
      cases hq'
      exact ⟨⟨hq1, hq2, hq3, R, K, G, hb⟩, hfs⟩
    · rw [va_ne_ g] at hq'
      exact ⟨hbk q' (m3 m' hm' q' hq').1 (hfar m' q' hm' g hq'), (m3 m' hm' q' hq').2⟩
  · by_cases g : m' = m
    · subst g
      rw [va_at_] at hq'
      cases hq'
      rw [va_ne_ (fun z => hne z.symm)] at hq''
      exact hfar m'' q'' hm'' (fun z => hne z.symm) hq''
    · rw [va_ne_ g] at hq'
      by_cases g' : m'' = m
      · subst g'
        rw [va_at_] at hq''
        cases hq''
        have := hfar m' q' hm' g hq'
        unfold far at this ⊢
        omega
      · rw [va_ne_ g'] at hq''
        exact m4 m' m'' hm' hm'' hne q' q'' hq' hq''
theorem R_12 (hn : 300000000 ≤ n) (rs : RS x Z T P w h σ st f hp M F V) (h20 : f 20 = .int 0) (hj : P j = some (ln, s, k, 12)) : SO x (T + 1) P w j h σ (af_run n S σ s (some x) (some ln)) (bf_step n st (c32 k)) := by
  obtain ⟨m, R, K, g1, g2, g3, g4, g5, g6, g7, g8, g9⟩ : STM h s 12 (AV st k) (RV st k) := (rs.1.2.1.2.2 j _ hj).2.2
  have hk : k < 24 := (rs.1.2.1.2.1.1 j _ hj).2.2.1
  have hc := rs.cell g1
  have hA : af_run n S σ s (some x) (some ln) = af_X24_run n S σ s (some x) (some ln) := r_23 hc
  obtain ⟨st', d1, d2, d3, d4, d5⟩ := B_dim (n := n) (st := st) (R := R) (K := K) (by omega) g2
  have hB : bf_step n st (c32 k) = some (st', slk P (nx P j)) := by
    have e1 : bf_step_L55 n st (c32 k) (c32 12) (AV st k 0) (slk P (nx P j)) = (ldA st 12 ((c32 k * (8 : Int32)) + (1 : Int32))).bind fun v_2 => (ldA st 12 ((c32 k * (8 : Int32)) + (2 : Int32))).bind fun v_3 => (bf_dimension n st (AV st k 0) v_2 v_3).bind fun q_4 => bf_step_L353 n q_4.1 (c32 k) (c32 12) (AV st k 0) (slk P (nx P j)) := rfl
    have e2 : ldA st 12 ((c32 k * (8 : Int32)) + (1 : Int32)) = some (c32 R) := by rw [show ldA st 12 ((c32 k * (8 : Int32)) + (1 : Int32)) = some (AV st k 1) from ld_av (i := 1) hk (by omega), g8]
    have e3 : ldA st 12 ((c32 k * (8 : Int32)) + (2 : Int32)) = some (c32 K) := by rw [show ldA st 12 ((c32 k * (8 : Int32)) + (2 : Int32)) = some (AV st k 2) from ld_av (i := 2) hk (by omega), g9]
    rw [B_st (by omega) rs.1.2.1 hj (by omega) (by omega), e1, ob e2, ob e3, g7, ob d1]
    rfl
  obtain ⟨rc, ⟨CR, CO, es⟩, vv, h27, hz⟩ := id rs
  have hz1 := rc.2.2.2.2.2.2.2.2.2.2.1
  have hz2 := rc.2.2.2.2.2.2.2.2.2.2.2
  obtain ⟨sp, m1, m2, m3, m4⟩ := id rc.2.2.2.2.2.2.2.2.1
  have h27' : st'.1 27 = 0 := by rw [d2.1]; exact h27
  have vv' : VV V st' := fun i hi => by rw [d2.2.2.2.1 29 (by decide) (by decide)]; exact vv i hi
  have hx3 : σ.2.2 (x + 3) = some (.inl (4, 3, rA M)) := (rs.hp_ (by omega) (by omega) (by omega) (by omega)).trans rc.1.2.2.2.1
  -- the tail, for a matrix at q in a store τ
  have tail : ∀ (τ : aS) (q R0 K0 Z' : Nat) (G : Nat → Nat → UInt64), MB τ.2.2 q R0 K0 G → x + 9 < q → q + 8 ≤ Z' → Z ≤ Z' → Z' ≤ τ.1 → (∀ i, i < 8 → h (q + i) = none) → (∀ q', q' ≠ x + 3 → ¬ (q ≤ q' ∧ q' < q + 8) → τ.2.2 q' = σ.2.2 q') → τ.2.2 (x + 3) = some (.inl (4, 3, rA (va_up M m (some q)))) → (M m = some q ∨ (∀ m' q', m' < 3 → M m' = some q' → far q q') ∧ ∀ q', f 7 = va_rf (some q') → far q q') → gr σ τ → SO x (T + 1) P w j h σ (af_X24_run_L28 n S τ s (some x)) (bf_step n st (c32 k)) := by
    intro τ q R0 K0 Z' G hb hq1 hq2 hZ hZ' hq3 hfr hx3' hnew hgr
    obtain ⟨σ', G', a1, a2, a3, a4⟩ := A_be (n := n) (S := S) (R := R) (K := K) (by omega) hb g4 g6
    have hcτ : τ.2.2 x = some (mc (va_up f 9 (.int (c32 0)))) := (hfr x (by omega) (by omega)).trans es.1
    have hsn : ¬ (q ≤ s ∧ s < q + 8) := fun z => by
      have := hq3 (s - q) (by omega)
      rw [show q + (s - q) = s by omega, g1] at this
      exact nomatch this
    have hsx : s ≠ x + 3 := fun z => by
      have := rc.1.2.2.1 s (by omega) (by omega)
      rw [g1] at this
      exact nomatch this
    have hsτ : τ.2.2 s = _ := (hfr s hsx hsn).trans hc
    have h6 : gR τ x 0 6 = some (some (x + 3)) := m_R hcτ ((va_ne_ (by decide)).trans rc.1.1.2.2.1)
    have e3 : lR τ (x + 3) 4 (c32 m) = some (some q) := by rw [lR_of hx3' g2 (by omega), va_at_]
    have hA2 : af_X24_run_L28 n S τ s (some x) = some (σ', .inl none) := by
      unfold af_X24_run_L28
      rw [ob (show some x = some x from rfl), ob h6, ob (gI_of hsτ rfl), ob (show some (x + 3) = some (x + 3) from rfl), ob e3, ob (gI_of hsτ rfl), ob (gI_of hsτ rfl), ob (show some q = some q from rfl), ob (gC_of hb.1), oc a1]
    have hfr' : ∀ q', q' ≠ x + 3 → ¬ (q ≤ q' ∧ q' < q + 8) → σ'.2.2 q' = σ.2.2 q' := fun q' h1 h2 => (a3.2.2 q' h2).trans (hfr q' h1 h2)
    have rc' : RC x Z' T P w h f σ'.2.2 st' (va_up M m (some q)) F := rc.one g2 hZ hq1 hq2 hq3 (fun q' k1 k2 k3 k4 k5 k6 => (hfr' q' k3 k6).trans (rs.hp_ k1 k2 k4 k5)) ((a3.2.2 _ (by omega)).trans hx3') a2 g3 g4 g5 g6 d2 d3 d4 (fun a b ha hb2 => by
      rw [a4 a b ha hb2, d5 _ (by omega) (by omega)]
      exact ⟨rfl, f_0⟩) hnew
    have es' : ES x f σ'.2.2 σ' 0 V CR CO := ⟨(hfr' x (by omega) (by omega)).trans es.1, (hfr' _ (by omega) (by omega)).trans es.2.1, (hfr' _ (by omega) (by omega)).trans es.2.2.1, (hfr' _ (by omega) (by omega)).trans es.2.2.2.1, fun _ _ _ _ _ => rfl⟩
    rw [hA2, hB]
    obtain ⟨y1, y2, y3, y4⟩ := hgr
    exact Or.inl ⟨σ', none, st', _, Z', h, f, _, _, F, V, rfl, rfl, RS.t ⟨rc', ⟨CR, CO, es'⟩, vv', h27', by rw [a3.1]; exact hZ'⟩ (by omega), hle.rfl_, ⟨by rw [a3.1]; exact y1, by rw [a3.1]; exact y2, by rw [a3.2.1]; exact y3, by rw [a3.2.1]; exact y4⟩, nx P j, rfl, fun i hi => (nx_some hi).2.2.1, Or.inr (Or.inr ⟨rfl, rfl, h20⟩)⟩
  rw [hA]
  unfold af_X24_run
  have e3 : lR σ (x + 3) 4 (c32 m) = some (M m) := lR_of hx3 g2 (by omega)
  rw [ob (show some x = some x from rfl), ob (es.f6 rc.1.1), ob (gI_of hc rfl), ob (show some (x + 3) = some (x + 3) from rfl), ob e3]
  cases hMm : M m with
  | some q =>
    rw [if_neg (fun z => nomatch z)]
    obtain ⟨b1, b2, b3, R0, K0, G, b4⟩ := (m3 m g2 q hMm).1
    refine tail σ q R0 K0 Z G (es.mb b1 b4) b1 b2 (Nat.le_refl _) hz b3 (fun _ _ _ => rfl) ?_ (Or.inl hMm) gr.rfl_
    rw [hx3, va_same hMm]
  | none =>
    obtain ⟨σ2, G, a1, a2, a3, a4, a5⟩ := A_newm (n := n) (S := S) (σ := σ)
    have hx3' : σ2.2.2 (x + 3) = some (.inl (4, 3, rA M)) := (a5 _ (by omega)).trans hx3
    rw [if_pos rfl, ob (es.f6 rc.1.1), ob (gI_of hc rfl), ob (nO_eq _ _ _ _), oc a1, ob (show some (x + 3) = some (x + 3) from rfl), ob (gC_of a4.1), ob (wR_of hx3' g2 (by omega))]
    refine tail _ σ.1 0 0 (σ.1 + 8) G (a4.of (fun i hi => mv_ne _ _ (by omega))) (by omega) (Nat.le_refl _) (by omega) (by show _ ≤ σ2.1; omega) (fun i hi => hz1 _ (by omega)) (fun q' h1 h2 => (mv_ne _ _ h1).trans (a5 q' (by omega))) (mv_at _ _ _) (Or.inr ⟨fun m' q' hm' hq' => ?_, fun q' hq' => ?_⟩) ⟨by show _ ≤ σ2.1; omega, by show σ2.1 ≤ _; omega, by show _ ≤ σ2.2.1; omega, by show σ2.2.1 ≤ _; omega⟩
    · have := (m3 m' hm' q' hq').1.2.1
      unfold far
      omega
    · have e : sp = some q' := by
        rw [m1] at hq'
        cases sp with
        | none => exact nomatch hq'
        | some a => cases hq'; rfl
      have := (m2 q' e).2.1
      unfold far
      omega
end RUN5
