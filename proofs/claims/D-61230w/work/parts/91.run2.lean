/-! THE PURE LAW: runs of statements: IF, ON, GOSUB, RETURN, DEF -/
def hh (r : Nat) (o : Ordering) : Bool := match r with
  | 0 => o == .eq
  | 1 => o == .lt
  | 2 => o == .gt
  | 3 => o != .gt
  | 4 => o != .lt
  | _ => o != .eq
def ordc (o : Ordering) : Int32 := match o with
  | .lt => 1
  | .eq => 2
  | .gt => 4
theorem hh_rel : ∀ r, r < 6 → ∀ o, (c32 (relA r) &&& ordc o) = 0 ↔ hh r o = false := by
  intro r hr o
  match r, hr with
  | 0, _ => cases o <;> decide
  | 1, _ => cases o <;> decide
  | 2, _ => cases o <;> decide
  | 3, _ => cases o <;> decide
  | 4, _ => cases o <;> decide
  | 5, _ => cases o <;> decide
section RUN2
variable {x Z T : Nat} {P : PG_} {w : Nat → List UInt64} {h : Nat → Option aE} {f : Nat → Value} {hp hp' : Nat → Option aE} {st st' : bS} {M F : Nat → Option Nat} {σ σ0 : aS} {V : Nat → UInt64} {n : Nat} {S : Nat → Nat} {j ln s k : Nat}
theorem B_holds {r : Nat} {v u : UInt64} {o : Ordering} (hr : r < 6) (ho : FP.dcmp v u = some o) : bf_holds n st (c32 r) v u = some (st, if hh r o = true then 1 else 0) := by
  unfold bf_holds
  rw [ho]
  match r, hr with
  | 0, _ => cases o <;> rfl
  | 1, _ => cases o <;> rfl
  | 2, _ => cases o <;> rfl
  | 3, _ => cases o <;> rfl
  | 4, _ => cases o <;> rfl
  | 5, _ => cases o <;> rfl
theorem A_ord {α : Type} {v u : UInt64} {o : Ordering} (ho : FP.dcmp v u = some o) (g : Int32 → α) : (if 0 ≤ (Op.cmpValue (FP.dcmp v u) .g) then if (Op.cmpValue (FP.dcmp v u) .l) = 0 then g 2 else g 4 else g 1) = g (ordc o) := by
  rw [ho]
  cases o <;> rfl
theorem RN.ne {σ' : aS} {code : Nat} (rn : RN x Z T P w h σ' st' f hp M F V code) : ¬ st'.1 27 = 0 := by
  rw [rn.2.2.2.2.1]
  exact n_c (b := 0) (by have := rn.1; omega) (by omega) (by omega)
theorem R_2 (hn : 300000000 ≤ n) (rs : RS x Z T P w h σ st f hp M F V) (h20 : f 20 = .int 0) (hj : P j = some (ln, s, k, 2)) : SO x (T + 1) P w j h σ (af_run n S σ s (some x) (some ln)) (bf_step n st (c32 k)) := by
  obtain ⟨a, b, r, m, g1, g2, g3, g4, g5, g6, g7, g8⟩ : STM h s 2 (AV st k) (RV st k) := (rs.1.2.1.2.2 j _ hj).2.2
  have hk : k < 24 := (rs.1.2.1.2.1.1 j _ hj).2.2.1
  have hc := rs.cell g1
  have hA : af_run n S σ s (some x) (some ln) = af_X14_run n S σ s (some x) (some ln) := r_13 hc
  have hB : bf_step n st (c32 k) = (bf_work n st (st.2.1 13 (4 * k + 0))).bind fun q_3 => if (q_3.1.1 27) = 0 then (ldA q_3.1 13 ((c32 k * (4 : Int32)) + (1 : Int32))).bind fun v_5 => (bf_work n q_3.1 v_5).bind fun q_6 => bf_step_L162 n q_6.1 (c32 k) (c32 2) (AV st k 0) (slk P (nx P j)) q_3.2 q_6.2 else bf_step_L162 n q_3.1 (c32 k) (c32 2) (AV st k 0) (slk P (nx P j)) q_3.2 FP.dconst0 := by
    rw [B_st (by omega) rs.1.2.1 hj (by omega) (by omega)]
    unfold bf_step_L55
    rw [if_neg (by decide)]
    unfold bf_step_L118
    rw [if_pos (by decide), ob (ld_ex0 hk)]
  rw [hA, hB]
  unfold af_X14_run
  rw [ob (gR_of (v := some a) hc rfl), ob (show some a = some a from rfl)]
  rcases R_val (n := n) (S := S) hn rs hk (by omega) g7 with ⟨v, σ1, st1, q1, q2, q3, q4, q5, rs1, q6⟩ | ⟨code, σ1, st1, u, q1, q2, q3, q4, rn, q5⟩
  · have hc1 := rs1.cell g1
    rw [ox q1, ob (gR_of (v := some b) hc1 rfl), ob (show some b = some b from rfl), ob q5]
    dsimp only
    have el : ldA st1 13 ((c32 k * (4 : Int32)) + (1 : Int32)) = some (st1.2.1 13 (4 * k + 1)) := ld_ex (i := 1) hk (by omega)
    have g8' : EXP h b 1 (RV st1 k) := by
      have : STM h s 2 (AV st1 k) (RV st1 k) := (rs1.1.2.1.2.2 j _ hj).2.2
      have e13 := q6.2.1 13 (by decide) (by decide)
      have e14 := q6.2.1 14 (by decide) (by decide)
      refine g8.map hle.rfl_ (fun l hl => ?_)
      unfold RV at hl ⊢
      rw [e13, e14]
      exact hl
    rw [if_pos rs1.2.2.2.1, ob el]
    rcases R_val (n := n) (S := S) hn rs1 hk (by omega) g8' with ⟨u, σ2, st2, p1, p2, p3, p4, p5, rs2, p6⟩ | ⟨code, σ2, st2, u, p1, p2, p3, p4, rn, p5⟩
    · have hc2 := rs2.cell g1
      obtain ⟨o, ho⟩ := f_cmp q2 p2
      rw [ox p1, ob p5, A_ord ho]
      dsimp only
      unfold af_X14_run_L46 bf_step_L162
      have ea : ldA st2 12 ((c32 k * (8 : Int32)) + (1 : Int32)) = some (c32 r) := by
        rw [show ldA st2 12 ((c32 k * (8 : Int32)) + (1 : Int32)) = some (AV st2 k 1) from ld_av (i := 1) hk (by omega), AV.vf p6, AV.vf q6, g6]
      rw [ob (gI_of hc2 rfl), if_pos rs2.2.2.2.1, ob ea, ob (B_holds g2 ho)]
      dsimp only
      by_cases hq : hh r o = true
      · rw [if_neg (fun z => by rw [(hh_rel r g2 o).mp z] at hq; exact nomatch hq), if_pos hq, if_neg n10, ob (gI_of hc2 rfl), ob (show some x = some x from rfl), ob rs2.cls, xb_idR, bb_idI, g5]
        exact R_goto hn (rs2.t (by omega)) h20 g3 g4 (by omega) (by omega)
      · have hq' : hh r o = false := by cases hhh : hh r o with
          | true => exact absurd hhh hq
          | false => rfl
        rw [if_pos ((hh_rel r g2 o).mpr hq'), if_neg hq, if_pos rfl]
        exact SY.none_ rs2.1.2.1.2.1 (rs2.t (by omega)) h20 rfl rfl (by omega) (by omega)
    · rw [oxr p1, ob p4]
      dsimp only
      unfold bf_step_L162
      rw [if_neg rn.ne]
      exact SN.of (rn.t (by omega)) rfl rfl (gr.ft q3 q4 p2 p3)
  · rw [oxr q1, ob q4]
    dsimp only
    unfold bf_step_L162
    rw [if_neg rn.ne, if_neg rn.ne]
    exact SN.of (rn.t (by omega)) rfl rfl (gr.ft rfl rfl q2 q3)
/-! ON -/
theorem aLen_ {a t m : Nat} {A : (Nat → Int32) ⊕ (Nat → Int64) ⊕ (Nat → UInt32) ⊕ (Nat → UInt64) ⊕ (Nat → Option Nat)} (g : σ.2.2 a = some (.inl (t, m, A))) (ht : t < 10) : aLen σ a = some (c32 m) := by
  unfold aLen
  rw [g]
  exact if_pos ht
theorem R_4 (hn : 300000000 ≤ n) (rs : RS x Z T P w h σ st f hp M F V) (h20 : f 20 = .int 0) (hj : P j = some (ln, s, k, 4)) : SO x (T + 1) P w j h σ (af_run n S σ s (some x) (some ln)) (bf_step n st (c32 k)) := by
  obtain ⟨e, q, ff, c, g1, g2, g3, g4, g5, g6, g7⟩ : STM h s 4 (AV st k) (RV st k) := (rs.1.2.1.2.2 j _ hj).2.2
  have hk : k < 24 := (rs.1.2.1.2.1.1 j _ hj).2.2.1
  have hc := rs.cell g1
  have hA : af_run n S σ s (some x) (some ln) = af_X16_run n S σ s (some x) (some ln) := r_15 hc
  have hB : bf_step n st (c32 k) = bf_choose n st (c32 k) := by
    rw [B_st (by omega) rs.1.2.1 hj (by omega) (by omega)]
    exact bb_idI
  rw [hA, hB]
  unfold af_X16_run bf_choose
  rw [ob (gR_of (v := some e) hc rfl), ob (show some e = some e from rfl), ob (ld_ex0 hk)]
  rcases R_val (n := n) (S := S) hn rs hk (by omega) g7 with ⟨v, σ1, st1, q1, q2, q3, q4, q5, rs1, q6⟩ | ⟨code, σ1, st1, u, q1, q2, q3, q4, rn, q5⟩
  · have hc1 := rs1.cell g1
    have hq1 := rs1.cell g2
    rw [ox q1, oc (show af_X1_whole n S σ1 v = some (σ1, FP.d2l v) from rfl), ob q5]
    dsimp only
    rw [if_pos rs1.2.2.2.1, ob (show nm (FP.d2l v) = some (FP.d2l v) from rfl)]
    have eN : aLen σ1 q = some (c32 c) := aLen_ hq1 (by omega)
    have eA : ldA st1 12 (c32 k * (8 : Int32)) = some (c32 c) := by rw [ld_av0 hk, AV.vf q6, g5]
    by_cases h1 : FP.d2l v < 1
    · rw [if_pos ((lg_cmp_lt _ _).mpr h1), if_pos ((lg_cmp_lt _ _).mpr h1)]
      exact SN.of ((rs1.tw (code := 0) (by omega)).t (by omega)) rfl rfl (gr.th q3 q4)
    · rw [if_neg (fun z => h1 ((lg_cmp_lt _ _).mp z)), if_neg (fun z => h1 ((lg_cmp_lt _ _).mp z)), ob (gR_of (v := some q) hc1 rfl), ob (show some q = some q from rfl), ob eN, ob eA, e_of (by omega)]
      by_cases h2 : FP.d2l v ≤ c64 c
      · rw [if_pos ((lg_cmp_le _ _).mpr h2), if_pos ((lg_cmp_le _ _).mpr h2), ob (gR_of (v := some q) hc1 rfl), ob (show some q = some q from rfl)]
        obtain ⟨i, i1, i2, i3⟩ := pl_in (by omega) h1 h2
        rw [i3, e_32 (by omega)]
        obtain ⟨m, m1, m2, m3, m4⟩ := g6 (i - 1) (by omega)
        rw [Nat.sub_add_cancel i1] at m4
        have e1 : lI σ1 q 1 (c32 i - (1 : Int32)) = some (c32 m) := by
          show lI σ1 q 1 (c32 i - c32 1) = _
          rw [c_sub i1, lI_of hq1 (by omega) (by omega), m3]
        have e2 : ldA st1 12 ((c32 k * (8 : Int32)) + c32 i) = some (c32 m) := by rw [ld_av hk (by omega), AV.vf q6, m4]
        rw [ob e1, ob (show some x = some x from rfl), ob rs1.cls, xb_idR, ob e2, bb_idI]
        exact R_goto hn (rs1.t (by omega)) h20 m1 m2 q3 q4
      · rw [if_neg (fun z => h2 ((lg_cmp_le _ _).mp z)), if_neg (fun z => h2 ((lg_cmp_le _ _).mp z))]
        exact SN.of ((rs1.tw (code := 0) (by omega)).t (by omega)) rfl rfl (gr.th q3 q4)
  · rw [oxr q1, ob q4]
    dsimp only
    rw [if_neg rn.ne]
    exact SN.of (rn.t (by omega)) rfl rfl (gr.ft rfl rfl q2 q3)
/-! RETURN, GOSUB -/
theorem A_after (rs : RS x Z T P w h σ st f hp M F V) (h20 : f 20 = .int 0) {i : Nat} {e : Nat × Nat × Nat × Nat} (hj : P i = some e) : ∃ σ' f', af_X1_after n S σ x (some e.1) = some (σ', lnk P (nx P i)) ∧ σ'.1 = σ.1 ∧ σ'.2.1 = σ.2.1 ∧ RS x Z T P w h σ' st f' hp M F V ∧ ((nx P i = none ∧ f' 20 = .int 1) ∨ (nx P i ≠ none ∧ f' 20 = .int 0)) := by
  have hc := rs.pl i e hj
  unfold af_X1_after
  cases hx : nx P i with
  | none =>
    obtain ⟨σ', e1, e2, e3, rs'⟩ := rs.fld (k := 20) (v := .int 1) rs.1
    have hc' := rs'.pl i e hj
    rw [hx] at hc hc'
    refine ⟨σ', _, ?_, e2, e3, rs', Or.inl ⟨rfl, rfl⟩⟩
    rw [ob (show some e.1 = some e.1 from rfl), ob (gR_of (v := lnk P none) hc rfl), if_pos (show lnk P none = none from rfl), ob e1, ob (gR_of (v := lnk P none) hc' rfl)]
  | some i' =>
    obtain ⟨_, _, ⟨e', he'⟩, _⟩ := nx_some hx
    rw [hx] at hc
    refine ⟨σ, f, ?_, rfl, rfl, rs, Or.inr ⟨(fun z => nomatch z), h20⟩⟩
    rw [ob (show some e.1 = some e.1 from rfl), ob (gR_of (v := lnk P (some i')) hc rfl), if_neg (by rw [lnk_some he']; exact fun z => nomatch z), ob (gR_of (v := lnk P (some i')) hc rfl)]
theorem due.aft {i : Nat} {f' : Nat → Value} (hf : (nx P i = none ∧ f' 20 = .int 1) ∨ (nx P i ≠ none ∧ f' 20 = .int 0)) : due P j f' (lnk P (nx P i)) (slk P (nx P i)) := by
  refine ⟨nx P i, rfl, fun i' hi => (nx_some hi).2.2.1, ?_⟩
  rcases hf with ⟨h1, h2⟩ | ⟨h1, h2⟩
  · exact Or.inr (Or.inl ⟨by rw [h1]; rfl, h1, h2⟩)
  · exact Or.inl ⟨rfl, h1, h2⟩
theorem R_6 (hn : 300000000 ≤ n) (rs : RS x Z T P w h σ st f hp M F V) (h20 : f 20 = .int 0) (hj : P j = some (ln, s, k, 6)) : SO x (T + 1) P w j h σ (af_run n S σ s (some x) (some ln)) (bf_step n st (c32 k)) := by
  have g1 : h s = some (.inr (17, [])) := (rs.1.2.1.2.2 j _ hj).2.2
  have hc := rs.cell g1
  obtain ⟨⟨ec, pg, h3, wp, dat, ⟨r, B, r1, r2, r3, r4, r5⟩, lop, prt, mx, ot, hz1, hz2⟩, ⟨CR, CO, es⟩, vv, h27, hz⟩ := id rs
  have hA : af_run n S σ s (some x) (some ln) = af_X18_run n S σ s (some x) (some ln) := r_17 hc
  have hB : bf_step n st (c32 k) = if (st.1 22) = 0 then (ptI st 27 (2 : Int32)).bind fun st_6 => bf_step_L281 n st_6 (c32 k) (c32 6) (AV st k 0) (slk P (nx P j)) else bf_step_L255 n st (c32 k) (c32 6) (AV st k 0) (slk P (nx P j)) := by
    rw [B_st (by omega) rs.1.2.1 hj (by omega) (by omega)]
    rfl
  rw [hA, hB]
  unfold af_X18_run
  rw [ob (show some x = some x from rfl), ob (rs.gI r2), r3]
  by_cases h0 : r = 0
  · subst h0
    rw [if_pos (show c32 0 = 0 from rfl), if_pos (show c32 0 = 0 from rfl)]
    exact SN.of ((rs.tw (code := 1) (by omega)).t (by omega)) rfl rfl (gr.th rfl rfl)
  · have hr0 : ¬ c32 r = 0 := n_c (b := 0) (by omega) (by omega) h0
    have esub : c32 r - (1 : Int32) = c32 (r - 1) := c_sub (b := 1) (by omega)
    rw [if_neg hr0, if_neg hr0, ob (rs.gI r2), esub]
    obtain ⟨e1, e2⟩ := es.fld (k := 13) (v := .int (c32 (r - 1)))
    have rc' : RC x Z T P w h (va_up f 13 (.int (c32 (r - 1)))) hp (sI st 22 (c32 (r - 1))) M F := ⟨ec, pg, h3, wp, dat, ⟨r - 1, B, by omega, rfl, rfl, r4, fun i hi => r5 i (by omega)⟩, lop, prt, mx, ot, hz1, hz2⟩
    have rs' : RS x Z T P w h _ (sI st 22 (c32 (r - 1))) (va_up f 13 (.int (c32 (r - 1)))) hp M F V := ⟨rc', ⟨CR, CO, e2⟩, vv, h27, hz⟩
    obtain ⟨i, e, i1, i2, i3⟩ := r5 (r - 1) (by omega)
    have hx7 := (rs'.hp_ (q := x + 7) (by omega) (by omega) (by omega) (by omega)).trans r4
    have e7 : lR (mv σ x (mc (va_up (va_up f 13 (.int (c32 (r - 1)))) 9 (.int (c32 0))))) (x + 7) 6 (c32 (r - 1)) = some (some e.1) := by rw [lR_of hx7 (by omega) (by omega), i2]
    obtain ⟨σ2, f2, a1, a2, a3, rs2, a4⟩ := A_after (n := n) (S := S) rs' h20 i1
    rw [ob e1, ob (rs'.gR (k := 12) (v := some (x + 7)) ec.1.2.2.2.2.2.2.1), ob (rs'.gI (k := 13) rfl), ob (show some (x + 7) = some (x + 7) from rfl), ob e7, ob rs'.cls, oc a1]
    have hb2 : bf_step_L255 n st (c32 k) (c32 6) (AV st k 0) (slk P (nx P j)) = some (sI st 22 (c32 (r - 1)), slk P (nx P i)) := by
      unfold bf_step_L255
      rw [if_pos (by decide), r3, esub, ob (show ptI st 22 (c32 (r - 1)) = some (sI st 22 (c32 (r - 1))) from rfl)]
      have : ldA (sI st 22 (c32 (r - 1))) 40 ((sI st 22 (c32 (r - 1))).1 22) = some (slk P (nx P i)) := by
        show ldA (sI st 22 (c32 (r - 1))) 40 (c32 (r - 1)) = _
        rw [ld_A (show r - 1 < 8 by omega)]
        exact congrArg some i3
      rw [ob this]
    rw [hb2]
    exact Or.inl ⟨σ2, _, _, _, Z, h, f2, hp, M, F, V, rfl, rfl, rs2.t (by omega), hle.rfl_, gr.eq a2 a3, due.aft a4⟩
theorem R_5 (hn : 300000000 ≤ n) (rs : RS x Z T P w h σ st f hp M F V) (h20 : f 20 = .int 0) (hj : P j = some (ln, s, k, 5)) : SO x (T + 1) P w j h σ (af_run n S σ s (some x) (some ln)) (bf_step n st (c32 k)) := by
  obtain ⟨m, g1, g2, g3, g4⟩ : STM h s 5 (AV st k) (RV st k) := (rs.1.2.1.2.2 j _ hj).2.2
  have hk : k < 24 := (rs.1.2.1.2.1.1 j _ hj).2.2.1
  have hc := rs.cell g1
  have hln := rs.pl j _ hj
  obtain ⟨⟨ec, pg, h3, wp, dat, ⟨r, B, r1, r2, r3, r4, r5⟩, lop, prt, mx, ot, hz1, hz2⟩, ⟨CR, CO, es⟩, vv, h27, hz⟩ := id rs
  have hA : af_run n S σ s (some x) (some ln) = af_X17_run n S σ s (some x) (some ln) := r_16 hc
  have hB : bf_step n st (c32 k) = bf_goSub n st (c32 k) (slk P (nx P j)) := by
    rw [B_st (by omega) rs.1.2.1 hj (by omega) (by omega)]
    exact bb_idI
  rw [hA, hB]
  unfold af_X17_run bf_goSub
  rw [ob (show some x = some x from rfl), ob (rs.gI r2), r3]
  by_cases h8 : r = 8
  · subst h8
    rw [if_pos (show c32 8 = 8 from rfl), if_pos (show c32 8 = 8 from rfl)]
    exact SN.of ((rs.tw (code := 1) (by omega)).t (by omega)) rfl rfl (gr.th rfl rfl)
  · have hr8 : ¬ c32 r = 8 := n_c (b := 8) (by omega) (by omega) h8
    rw [if_neg hr8, if_neg hr8, ob (gI_of hc rfl), ob rs.cls, ob (ld_av0 hk), g4]
    cases hPm : P m with
    | none =>
      rw [oxr (A_line_f (by omega) rs hPm g2), ob (B_goTo_f (by omega) pg.2.1 hPm g3 g2)]
      dsimp only
      rw [if_neg (show ¬ (sI st 27 (c32 3)).1 27 = 0 from n_c (a := 3) (b := 0) (by omega) (by omega) (by omega))]
      exact SN.of ((rs.tw (code := 2) (by omega)).t (by omega)) rfl rfl (gr.th rfl rfl)
    | some e' =>
      have hx7 := (rs.hp_ (q := x + 7) (by omega) (by omega) (by omega) (by omega)).trans r4
      rw [ox (A_line_t (by omega) rs hPm), ob (B_goTo_t (by omega) pg.2.1 hPm), ob (rs.gR (v := some (x + 7)) ec.1.2.2.2.2.2.2.1), ob (rs.gI r2), ob (show some (x + 7) = some (x + 7) from rfl), ob (show some ln = some ln from rfl), ob (gC_of hln), ob (wR_of hx7 (by omega) (by omega))]
      dsimp only
      rw [if_pos h27, r3, ob (st_A (show r < 8 by omega))]
      have es2 := es.cw (q := x + 7) (e := .inl (6, 8, rA (va_up B r (some ln)))) (by omega) (by omega) (by omega) (by omega)
      obtain ⟨e1, e2⟩ := es2.fld (k := 13) (v := .int (c32 (r + 1)))
      have rc' : RC x Z T P w h (va_up f 13 (.int (c32 (r + 1)))) (va_up hp (x + 7) (some (.inl (6, 8, rA (va_up B r (some ln)))))) (sI (sA st 40 r (slk P (nx P j))) 22 (c32 (r + 1))) M F := ⟨ec.hx (by omega) (by omega), pg, h3, wp, dat, ⟨r + 1, va_up B r (some ln), by omega, rfl, rfl, va_at_, fun i hi => by
        by_cases gi : i = r
        · subst gi
          refine ⟨j, _, hj, va_at_, ?_⟩
          show (sA st 40 i (slk P (nx P j))).2.1 40 i = _
          rw [sA_at, if_pos rfl, if_pos rfl]
        · obtain ⟨j', e'', y1, y2, y3⟩ := r5 i (by omega)
          refine ⟨j', e'', y1, (va_ne_ gi).trans y2, ?_⟩
          show (sA st 40 r (slk P (nx P j))).2.1 40 i = _
          rw [sA_at, if_pos rfl, if_neg gi]
          exact y3⟩, lop.hx (by omega), prt.hx (by omega), mx.hx (by omega), ot.hx (by omega), hz1, hz2⟩
      have rs' : RS x Z T P w h _ (sI (sA st 40 r (slk P (nx P j))) 22 (c32 (r + 1))) (va_up f 13 (.int (c32 (r + 1)))) (va_up hp (x + 7) (some (.inl (6, 8, rA (va_up B r (some ln)))))) M F V := ⟨rc', ⟨CR, CO, e2⟩, vv, h27, hz⟩
      have gp : gI (mv σ (x + 7) (.inl (6, 8, rA (va_up B r (some ln))))) x 0 13 = some (c32 r) := m_I es2.1 ((va_ne_ (by decide)).trans r2)
      refine Or.inl ⟨_, some e'.1, _, slk P (some m), Z, h, _, _, M, F, V, ?_, ?_, rs'.t (by omega), hle.rfl_, gr.eq rfl rfl, some m, rfl, fun i hi => by cases hi; exact ⟨_, hPm⟩, Or.inl ⟨(lnk_some hPm).symm, (fun z => nomatch z), h20⟩⟩
      · rw [ob gp]
        show (pF _ x 0 13 (.int (c32 r + c32 1))).bind _ = _
        rw [c_add, ob e1]
      · have e22 : (sA st 40 r (slk P (nx P j))).1 22 = c32 r := r3
        rw [e22]
        show (ptI _ 22 (c32 r + c32 1)).bind _ = _
        rw [c_add]
        rfl
/-! DEF -/
theorem FR.ne {g g' kk : Nat} {r : Option Nat} (hne : g' ≠ g) (fr : FR h st g' r) : FR h (sA st 37 g (c32 kk)) g' r := by
  have e : (sA st 37 g (c32 kk)).2.1 37 g' = st.2.1 37 g' := by rw [sA_at, if_pos rfl, if_neg hne]
  cases r with
  | none => exact e.trans fr
  | some d =>
    obtain ⟨gg, s, b, k, f1, f2, f3, f4, f5⟩ := fr
    exact ⟨gg, s, b, k, f1, f2, f3, e.trans f4, f5⟩
theorem R_13 (hn : 300000000 ≤ n) (rs : RS x Z T P w h σ st f hp M F V) (h20 : f 20 = .int 0) (hj : P j = some (ln, s, k, 13)) : SO x (T + 1) P w j h σ (af_run n S σ s (some x) (some ln)) (bf_step n st (c32 k)) := by
  obtain ⟨g, v, b, g1, g2, g3, g4, g5, g6⟩ : STM h s 13 (AV st k) (RV st k) := (rs.1.2.1.2.2 j _ hj).2.2
  have hk : k < 24 := (rs.1.2.1.2.1.1 j _ hj).2.2.1
  have hc := rs.cell g1
  obtain ⟨⟨⟨c1, c2, c3, c4, c5, c6, c7⟩, pg, h3, wp, dat, sub, lop, prt, mx, ot, hz1, hz2⟩, ⟨CR, CO, es⟩, vv, h27, hz⟩ := id rs
  have hx4 := (rs.hp_ (q := x + 4) (by omega) (by omega) (by omega) (by omega)).trans c5
  have es2 := es.cw (q := x + 4) (e := .inl (5, 3, rA (va_up F g (some s)))) (by omega) (by omega) (by omega) (by omega)
  have hE : EC x f (va_up hp (x + 4) (some (.inl (5, 3, rA (va_up F g (some s)))))) h (sA st 37 g (c32 k)) M (va_up F g (some s)) := by
    refine ⟨c1, fun q e he => (va_ne_ (fun z => ?_)).trans (c2 q e he), c3, (va_ne_ (by omega)).trans c4, va_at_, fun m hm => ⟨MR.of (st := sA st 37 g (c32 k)) (hp := hp) (c6 m hm).1 (fun q hq i hi => va_ne_ (by have := (c6 m hm).2 q hq; omega)), (c6 m hm).2⟩, fun g' hg' => ?_⟩
    · rw [c3 q (by omega) (by omega)] at he
      exact nomatch he
    · by_cases gg : g' = g
      · subst gg
        rw [va_at_]
        refine ⟨_, v, b, k, g1, g3, hk, ?_, g5, g6⟩
        rw [sA_at, if_pos rfl, if_pos rfl]
      · rw [va_ne_ gg]
        exact (c7 g' hg').ne gg
  have rc' : RC x Z T P w h f (va_up hp (x + 4) (some (.inl (5, 3, rA (va_up F g (some s)))))) (sA st 37 g (c32 k)) M (va_up F g (some s)) := ⟨hE, pg, h3, wp, dat, sub.hx (by omega), lop.hx (by omega), prt.hx (by omega), mx.hx (by omega), ot.hx (by omega), hz1, hz2⟩
  have rs' : RS x Z T P w h _ (sA st 37 g (c32 k)) f (va_up hp (x + 4) (some (.inl (5, 3, rA (va_up F g (some s)))))) M (va_up F g (some s)) V := ⟨rc', ⟨CR, CO, es2⟩, vv, h27, hz⟩
  refine SY.none_ rs'.1.2.1.2.1 (rs'.t (by omega)) h20 ?_ ?_ rfl rfl
  · rw [r_24 hc]
    unfold af_X25_run
    rw [ob (show some x = some x from rfl), ob (rs.gR (v := some (x + 4)) c1.2.2.2.1), ob (gI_of hc rfl), ob (show some (x + 4) = some (x + 4) from rfl), ob (gC_of hc), ob (wR_of hx4 g2 (by omega))]
  · have e1 : bf_step_L55 n st (c32 k) (c32 13) (AV st k 0) (slk P (nx P j)) = (stA st 37 (AV st k 0) (c32 k)).bind fun st_2 => bf_step_L366 n st_2 (c32 k) (c32 13) (slk P (nx P j)) := rfl
    rw [B_st (by omega) rs.1.2.1 hj (by omega) (by omega), e1, g4, ob (st_A (show g < 3 from g2))]
    rfl
end RUN2
