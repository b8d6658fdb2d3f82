/-! THE PURE LAW: MAT -/
section KINDS7
variable {C : pC} {n : Nat}
theorem wb_20 : wd 24 = wb 20 ∧ wd 25 = wb 21 ∧ wd 26 = wb 22 ∧ wb 20 = [90, 69, 82] ∧ wb 21 = [67, 79, 78] ∧ wb 22 = [73, 68, 78] ∧ wb 23 = [84, 82, 78] ∧ wd 27 = [84, 82, 78, 40] := by decide +kernel
/-- of the four words only the one that begins so can stand here -/
theorem mt_0 {p c : Nat} {w : List Nat} (h : ch C p ≠ c) : mt C (c :: w) p = 0 := by
  unfold mt
  rw [if_neg h]
theorem mx_20 {p : Nat} : mx C p 20 4 = max (max (max (mt C (wb 20) p) (mt C (wb 21) p)) (mt C (wb 22) p)) (mt C (wb 23) p) := by
  unfold mx mx mx mx mx
  show max (max (max (max 0 (mt C (wb 20) p)) (mt C (wb 21) p)) (mt C (wb 22) p)) (mt C (wb 23) p) = _
  omega
theorem matC_lt (w : Nat) : matC w < 65536 := by unfold matC; split <;> (try split) <;> (try split) <;> (try split) <;> (try split) <;> (try split) <;> (try split) <;> (try split) <;> omega
/-- a new Mat -/
theorem M_new {σ : aS} {a t w m : Nat} {b : Int32} {r : Option Nat} (hA : PA C σ a 0 0) :
    ∃ σ', (cb (af_X26_init n C.S (nw σ (.inr (25, [.int 0, .int 0, .int 0, .int 0, .null])) 5) σ.1 (c32 t) (c32 (matC w)) (c32 m) b r) fun st_5 _ => some (st_5, .inl (some σ.1)) : Option (aS × (Option Nat ⊕ Nat))) = some (σ', .inl (some σ.1)) ∧ PA C σ' a 0 0 ∧ Ext C.P σ σ' ∧ σ'.1 = σ.1 + 1 ∧ σ'.2.1 = σ.2.1 + 5 ∧ σ'.2.2 σ.1 = some (.inr (25, [.int (c32 t), .int (c32 (matC w)), .int (c32 m), .int b, va_rf r])) := by
  have hne := hA.ne (q := σ.1) (by omega)
  rw [oc (i_X26 (nw_at _ _ _) (cz_of (matC_lt w)))]
  exact ⟨_, rfl, PA.mvq hA.nwc hne.1 hne.2.1 hne.2.2, Ext.nwc.new (Nat.le_refl _), rfl, rfl, mv_at _ _ _⟩
theorem K_14 (ok : pOk C) (hS : sInj C.S) (hn : 1000 ≤ n) {σ : aS} {st : bS} {a : Nat} {cs : List Nat} (J : JS C σ st a 0 0 cs) : KO C σ (af_X3_statement_L379 n C.S σ C.P 14) st (bf_mat n st) 14 := by
  have hN := ok.1
  obtain ⟨hA, hP, hM, hp, hb⟩ := J
  have hPlt := hA.2.2.2.1
  unfold af_X3_statement_L379
  rw [if_neg (by decide), if_neg (by decide), if_neg (by decide), if_neg (by decide), if_neg (by decide), if_neg (by decide), if_neg (by decide), if_neg (by decide), if_neg (by decide), if_neg (by decide), if_neg (by decide), if_neg (by decide), if_neg (by decide), if_neg (by decide), if_pos rfl, ob (A_cls hA), xb_id]
  unfold af_X3_mat bf_mat
  rw [ob (A_cls hA)]
  by_cases hm : isM (ch C a)
  · have hin := ch_in (C := C) (i := a) (by unfold isM at hm; omega)
    have hA1 : PA C (ps C σ (a + 1) 0 0) (a + 1) 0 0 := hA.ps
    rw [ox (A_matrix_t ok hA (by omega) hm), ob (A_cls hA1), ob (b_matrix_t ok hP (by omega) hm), ob (b_setArg (k := 0) (by omega))]
    generalize hmm : ch C a - 80 = t
    have ht3 : t < 3 := by unfold isM at hm; omega
    have hP1 : BP C (sA (sI st 4 (c32 (a + 1))) 12 (192 + 0) (c32 t)) (a + 1) 0 0 := BP.set hP.p (by decide)
    have hM1 : BM (sA (sI st 4 (c32 (a + 1))) 12 (192 + 0) (c32 t)) cs := BM.set (st := sI st 4 (c32 (a + 1))) hM (by decide)
    have hF1 : BF st (sA (sI st 4 (c32 (a + 1))) 12 (192 + 0) (c32 t)) := BE.i4.f.trans (BF.a (by omega))
    have hv1 : (sA (sI st 4 (c32 (a + 1))) 12 (192 + 0) (c32 t)).2.1 12 192 = c32 t := by rw [sA_at, if_pos rfl, if_pos rfl]
    dsimp only
    generalize sA (sI st 4 (c32 (a + 1))) 12 (192 + 0) (c32 t) = s1 at *
    by_cases h61 : ch C (a + 1) = 61
    · have hin1 := ch_in (C := C) (i := a + 1) (by omega)
      rw [ox (A_take_t (c := 61) ok hA1 (by omega) h61), ps_ps, ob (b_need_t (c := 61) ok hP1 (by omega) h61)]
      have hA2 : PA C (ps C σ (a + 1 + 1) 0 0) (a + 2) 0 0 := hA.ps
      have hx2 : Ext C.P σ (ps C σ (a + 1 + 1) 0 0) := Ext.mvP
      have hP2 : BP C (sI s1 4 (c32 (a + 1 + 1))) (a + 2) 0 0 := hP1.p
      have hM2 : BM (sI s1 4 (c32 (a + 1 + 1))) cs := hM1
      have hF2 : BF st (sI s1 4 (c32 (a + 1 + 1))) := hF1.trans BE.i4.f
      have hv2 : (sI s1 4 (c32 (a + 1 + 1))).2.1 12 192 = c32 t := hv1
      have hsz : (ps C σ (a + 1 + 1) 0 0).1 = σ.1 := rfl
      have hsl : (ps C σ (a + 1 + 1) 0 0).2.1 = σ.2.1 := rfl
      dsimp only
      generalize sI s1 4 (c32 (a + 1 + 1)) = s2 at *
      generalize ps C σ (a + 1 + 1) 0 0 = σ2 at *
      have hcl := ch_lt ok (a + 2)
      rw [ob (A_cls hA2), oc (A_here ok hA2 (by omega)), ob (b_look ok hP2 (by omega))]
      dsimp only
      rw [if_pos hP2.2.2.2.2]
      -- ZER, CON, IDN
      have hzci : ∀ (w i c : Nat), w < 3 → i = 24 + w → matC w = c → ch C (a + 2) = c → wd i = wb (20 + w) → (∀ k, k < 4 → k ≠ w → mt C (wb (20 + k)) (a + 2) = 0) → KO C σ (af_X3_mat_L62 n C.S σ2 C.P (c32 t) (c32 c) (some (C.S i))) st ((bf_takeWord n s2 (20 : Int32) (23 : Int32)).bind fun q_9 => (bf_setArg n q_9.1 (1 : Int32) (q_9.2 - (20 : Int32))).bind fun q_10 => (ldA q_10.1 12 (193 : Int32)).bind fun v_11 => if v_11 = (3 : Int32) then (bf_need n q_10.1 (40 : Int32)).bind fun q_13 => (bf_matrix n q_13.1).bind fun q_14 => (bf_setArg n q_14.1 (2 : Int32) q_14.2).bind fun q_15 => (bf_need n q_15.1 (41 : Int32)).bind fun q_16 => some (q_16.1, ()) else some (q_10.1, ())) 14 := by
        intro w i c hw hi hmc hc hwd h0
        unfold af_X3_mat_L62
        rw [ob (A_cls hA2)]
        have hmtin := mt_in C (wb (20 + w)) (a + 2) (fun c hc => ((wb_ok ⟨20 + w, by omega⟩).1 c hc).1) (by omega)
        by_cases hfu : mt C (wb (20 + w)) (a + 2) = (wb (20 + w)).length
        · have h7 : 2 ≤ (wb (20 + w)).length ∧ (wb (20 + w)).length ≤ 7 := (wb_ok ⟨20 + w, by omega⟩).2
          have eA := A_take2_t (n := n) ok hS (i := i) (by omega) hA2 (by omega) (by omega) (by rw [hwd]; exact hfu)
          rw [hwd] at eA
          have eB := b_takeWord_t (n := n) (lo := 20) (c := 4) (i := 20 + w) (x := 20) (y := 23) ok hP2 (by omega) (by omega) (by omega) (by omega) hfu hn
          rw [hfu] at hmtin
          generalize (wb (20 + w)).length = L at *
          have hA3 : PA C (ps C σ2 (a + 2 + L) 0 0) (a + 2 + L) 0 0 := hA2.ps
          obtain ⟨σ', e1, k1, k2, k3, k4, k5⟩ := M_new (n := n) (t := t) (w := w) (m := t) (b := -1) (r := none) hA3
          rw [hmc] at e1
          rw [ox eA, ob (nO_eq _ _ _ _), e1, ob eB]
          have e20 : c32 (20 + w) - 20 = c32 w := by
            show c32 (20 + w) - c32 20 = _
            rw [c_sub (by omega), Nat.add_sub_cancel_left]
          dsimp only
          rw [e20, ob (b_setArg (k := 1) (by omega))]
          have eld : ldA (sA (sI s2 4 (c32 (a + 2 + L))) 12 (192 + 1) (c32 w)) 12 (193 : Int32) = some (c32 w) := by
            show ldA _ 12 (c32 193) = _
            rw [ld_A (show 193 < 200 by omega), sA_at, if_pos rfl, if_pos rfl]
          dsimp only
          rw [ob eld, if_neg (by exact n_c (b := 3) (by omega) (by omega) (by omega))]
          have k3 : σ'.1 = σ2.1 + 1 := k3
          have k4 : σ'.2.1 = σ2.2.1 + 5 := k4
          have k5 : σ'.2.2 σ2.1 = some (.inr (25, [.int (c32 t), .int (c32 (matC w)), .int (c32 t), .int (-1), .null])) := k5
          refine Or.inl ⟨a + 2 + L, σ', σ2.1, _, cs, by omega, rfl, ⟨_, _, k1⟩, (hx2.trans Ext.mvP).trans k2, by omega, by omega, rfl, ⟨0, BP.set hP2.p (by decide)⟩, BM.set (st := sI s2 4 (c32 (a + 2 + L))) hM2 (by decide), by omega, hF2.trans (BE.i4.f.trans (BF.a (by omega))), ?_⟩
          refine ⟨t, w, t, -1, .null, hi_at k5 (by omega) (by omega), ht3, by omega, ht3, ?_, ?_, fun _ => rfl, fun z => by omega, fun _ => rfl, fun z => by omega, Or.inl ⟨by omega, rfl⟩⟩
          · show (sA (sI s2 4 (c32 (a + 2 + L))) 12 (192 + 1) (c32 w)).2.1 12 192 = _
            rw [sA_at, if_pos rfl, if_neg (by decide)]
            exact hv2
          · show (sA (sI s2 4 (c32 (a + 2 + L))) 12 (192 + 1) (c32 w)).2.1 12 (192 + 1) = _
            rw [sA_at, if_pos rfl, if_pos rfl]
        · have eA := A_take2_f (n := n) ok hS (i := i) (by omega) hA2 (by omega) (by omega) (by rw [hwd]; exact hfu)
          rw [hwd] at eA
          have hmx : mx C (a + 2) 20 4 = mt C (wb (20 + w)) (a + 2) := by
            rw [mx_20]
            have h00 := h0 0 (by omega)
            have h01 := h0 1 (by omega)
            have h02 := h0 2 (by omega)
            have h03 := h0 3 (by omega) (by omega)
            have hcs : w = 0 ∨ w = 1 ∨ w = 2 := by omega
            rcases hcs with rfl | rfl | rfl
            · have g1 : mt C (wb 21) (a + 2) = 0 := h01 (by omega)
              have g2 : mt C (wb 22) (a + 2) = 0 := h02 (by omega)
              have g3 : mt C (wb 23) (a + 2) = 0 := h03
              show _ = mt C (wb 20) (a + 2)
              omega
            · have g1 : mt C (wb 20) (a + 2) = 0 := h00 (by omega)
              have g2 : mt C (wb 22) (a + 2) = 0 := h02 (by omega)
              have g3 : mt C (wb 23) (a + 2) = 0 := h03
              show _ = mt C (wb 21) (a + 2)
              omega
            · have g1 : mt C (wb 20) (a + 2) = 0 := h00 (by omega)
              have g2 : mt C (wb 21) (a + 2) = 0 := h01 (by omega)
              have g3 : mt C (wb 23) (a + 2) = 0 := h03
              show _ = mt C (wb 22) (a + 2)
              omega
          have eB := b_takeWord_f (n := n) (lo := 20) (c := 4) (x := 20) (y := 23) ok hP2 (by omega) (by omega) (by omega) (fun k hk => by
            by_cases g : k = w
            · subst g; exact hfu
            · rw [h0 k hk g]
              have : 2 ≤ (wb (20 + k)).length := (wb_ok ⟨20 + k, by omega⟩).2.1
              omega) hn
          rw [hmx] at eB
          rw [oxr eA, ob eB]
          dsimp only
          rw [ob (b_setArg (k := 1) (by omega))]
          generalize mt C (wb (20 + w)) (a + 2) = L at *
          have eld : ldA (sA (sI (sI s2 4 (c32 (a + 2 + L))) 7 1) 12 (192 + 1) (-1 - 20)) 12 (193 : Int32) = some (-1 - 20) := by
            show ldA _ 12 (c32 193) = _
            rw [ld_A (show 193 < 200 by omega), sA_at, if_pos rfl, if_pos rfl]
          dsimp only
          rw [ob eld, if_neg (by decide)]
          exact Or.inr ⟨a + 2 + L, _, _, hmtin, rfl, ⟨_, _, hA2.ps.th⟩, (hx2.trans Ext.mvP).th, by show σ2.1 + 1 ≤ _; omega, by show σ2.2.1 + 6 ≤ _; omega, rfl, ⟨0, cs.length, 1, BP.set hP2.p.b (by decide), Or.inl rfl, hM2.1, by omega⟩, hF2.trans ((BE.i4.trans BE.i7).f.trans (BF.a (by omega)))⟩
      have hB40 : ch C (a + 2) ≠ 40 → ¬ isM (ch C (a + 2)) → (if c32 (ch C (a + 2)) = (40 : Int32) then (bf_bracket n s2).bind fun q_25 => (bf_expression n q_25.1 (0 : Int32)).bind fun q_26 => (bf_setExpr n q_26.1 (0 : Int32) q_26.2).bind fun q_27 => (bf_shut n q_27.1).bind fun q_28 => (bf_need n q_28.1 (42 : Int32)).bind fun q_29 => (bf_setArg n q_29.1 (1 : Int32) (4 : Int32)).bind fun q_30 => (bf_matrix n q_30.1).bind fun q_31 => (bf_setArg n q_31.1 (2 : Int32) q_31.2).bind fun q_32 => some (q_32.1, ()) else (bf_isMatrix n s2 (c32 (ch C (a + 2)))).bind fun q_7 => if q_7.2 = 0 then (bf_takeWord n q_7.1 (20 : Int32) (23 : Int32)).bind fun q_9 => (bf_setArg n q_9.1 (1 : Int32) (q_9.2 - (20 : Int32))).bind fun q_10 => (ldA q_10.1 12 (193 : Int32)).bind fun v_11 => if v_11 = (3 : Int32) then (bf_need n q_10.1 (40 : Int32)).bind fun q_13 => (bf_matrix n q_13.1).bind fun q_14 => (bf_setArg n q_14.1 (2 : Int32) q_14.2).bind fun q_15 => (bf_need n q_15.1 (41 : Int32)).bind fun q_16 => some (q_16.1, ()) else some (q_10.1, ()) else (bf_matrix n q_7.1).bind fun q_17 => (bf_setArg n q_17.1 (2 : Int32) q_17.2).bind fun q_18 => (bf_take n q_18.1 (43 : Int32)).bind fun q_19 => if q_19.2 = 0 then (bf_take n q_19.1 (45 : Int32)).bind fun q_21 => if q_21.2 = 0 then (bf_take n q_21.1 (42 : Int32)).bind fun q_23 => if q_23.2 = 0 then bf_mat_L138 n q_23.1 (1 : Int32) (5 : Int32) else bf_mat_L138 n q_23.1 (1 : Int32) (8 : Int32) else bf_mat_L138 n q_21.1 (1 : Int32) (7 : Int32) else bf_mat_L138 n q_19.1 (1 : Int32) (6 : Int32)) = ((bf_takeWord n s2 (20 : Int32) (23 : Int32)).bind fun q_9 => (bf_setArg n q_9.1 (1 : Int32) (q_9.2 - (20 : Int32))).bind fun q_10 => (ldA q_10.1 12 (193 : Int32)).bind fun v_11 => if v_11 = (3 : Int32) then (bf_need n q_10.1 (40 : Int32)).bind fun q_13 => (bf_matrix n q_13.1).bind fun q_14 => (bf_setArg n q_14.1 (2 : Int32) q_14.2).bind fun q_15 => (bf_need n q_15.1 (41 : Int32)).bind fun q_16 => some (q_16.1, ()) else some (q_10.1, ())) := by
        intro g1 g2
        rw [if_neg (by exact n_c (b := 40) (by omega) (by omega) g1), ob (b_isMatrix_f (by omega) g2), if_pos rfl]
      by_cases hZ : ch C (a + 2) = 90
      · rw [hB40 (by omega) (by unfold isM; omega), if_pos (by rw [hZ]; rfl)]
        unfold af_X3_mat_L34
        rw [if_pos (by rw [hZ]; rfl), hZ]
        refine hzci 0 24 90 (by omega) rfl rfl hZ wb_20.1 (fun k hk hk0 => ?_)
        have hcs : k = 1 ∨ k = 2 ∨ k = 3 := by omega
        rcases hcs with rfl | rfl | rfl
        · rw [wb_20.2.2.2.2.1]; exact mt_0 (by omega)
        · rw [wb_20.2.2.2.2.2.1]; exact mt_0 (by omega)
        · rw [wb_20.2.2.2.2.2.2.1]; exact mt_0 (by omega)
      rw [if_neg (by exact n_c (b := 90) (by omega) (by omega) hZ)]
      by_cases hCc : ch C (a + 2) = 67
      · rw [hB40 (by omega) (by unfold isM; omega), if_pos (by rw [hCc]; rfl)]
        unfold af_X3_mat_L34
        rw [if_neg (by rw [hCc]; decide), if_pos (by rw [hCc]; rfl), hCc]
        refine hzci 1 25 67 (by omega) rfl rfl hCc wb_20.2.1 (fun k hk hk0 => ?_)
        have hcs : k = 0 ∨ k = 2 ∨ k = 3 := by omega
        rcases hcs with rfl | rfl | rfl
        · rw [wb_20.2.2.2.1]; exact mt_0 (by omega)
        · rw [wb_20.2.2.2.2.2.1]; exact mt_0 (by omega)
        · rw [wb_20.2.2.2.2.2.2.1]; exact mt_0 (by omega)
      rw [if_neg (by exact n_c (b := 67) (by omega) (by omega) hCc)]
      by_cases hI : ch C (a + 2) = 73
      · rw [hB40 (by omega) (by unfold isM; omega), if_pos (by rw [hI]; rfl)]
        unfold af_X3_mat_L34
        rw [if_neg (by rw [hI]; decide), if_neg (by rw [hI]; decide), hI]
        refine hzci 2 26 73 (by omega) rfl rfl hI wb_20.2.2.1 (fun k hk hk0 => ?_)
        have hcs : k = 0 ∨ k = 1 ∨ k = 3 := by omega
        rcases hcs with rfl | rfl | rfl
        · rw [wb_20.2.2.2.1]; exact mt_0 (by omega)
        · rw [wb_20.2.2.2.2.1]; exact mt_0 (by omega)
        · rw [wb_20.2.2.2.2.2.2.1]; exact mt_0 (by omega)
      rw [if_neg (by exact n_c (b := 73) (by omega) (by omega) hI)]
      by_cases hT : ch C (a + 2) = 84
      · rw [hB40 (by omega) (by unfold isM; omega), if_pos (by rw [hT]; rfl), ob (A_cls hA2)]
        have hz20 : mt C (wb 20) (a + 2) = 0 := by rw [wb_20.2.2.2.1]; exact mt_0 (by omega)
        have hz21 : mt C (wb 21) (a + 2) = 0 := by rw [wb_20.2.2.2.2.1]; exact mt_0 (by omega)
        have hz22 : mt C (wb 22) (a + 2) = 0 := by rw [wb_20.2.2.2.2.2.1]; exact mt_0 (by omega)
        have hmx : mx C (a + 2) 20 4 = mt C (wb 23) (a + 2) := by rw [mx_20, hz20, hz21, hz22]; omega
        by_cases hfu : mt C (wb 23) (a + 2) = (wb 23).length
        · have hl3 : (wb 23).length = 3 := by rw [wb_20.2.2.2.2.2.2.1]; rfl
          have hmtin := mt_in C (wb 23) (a + 2) (fun c hc => ((wb_ok ⟨23, by omega⟩).1 c hc).1) (by omega)
          have eB := b_takeWord_t (n := n) (lo := 20) (c := 4) (i := 23) (x := 20) (y := 23) ok hP2 (by omega) (by omega) (by omega) (by omega) hfu hn
          rw [hfu, hl3] at hmtin
          rw [hl3] at eB
          have hmt4 : mt C (wd 27) (a + 2) = if ch C (a + 5) = 40 then 4 else 3 := by
            rw [wb_20.2.2.2.2.2.2.1] at hfu
            rw [wb_20.2.2.2.2.2.2.2]
            unfold mt mt mt mt at hfu ⊢
            by_cases g1 : ch C (a + 2) = 84
            · rw [if_pos g1] at hfu ⊢
              by_cases g2 : ch C (a + 2 + 1) = 82
              · rw [if_pos g2] at hfu ⊢
                by_cases g3 : ch C (a + 2 + 1 + 1) = 78
                · rw [if_pos g3]
                  show mt C [40] (a + 5) + 1 + 1 + 1 = _
                  unfold mt mt
                  split <;> rfl
                · rw [if_neg g3] at hfu
                  exact absurd hfu (by show ¬ 0 + 1 + 1 = 3; omega)
              · rw [if_neg g2] at hfu
                exact absurd hfu (by show ¬ 0 + 1 = 3; omega)
            · rw [if_neg g1] at hfu
              exact absurd hfu (by show ¬ 0 = 3; omega)
          have hwl : (wd 27).length = 4 := by rw [wb_20.2.2.2.2.2.2.2]; rfl
          have e23 : c32 23 - 20 = c32 3 := c_sub (a := 23) (b := 20) (by omega)
          rw [ob eB]
          dsimp only
          rw [e23, ob (b_setArg (k := 1) (by omega))]
          have eld : ldA (sA (sI s2 4 (c32 (a + 2 + 3))) 12 (192 + 1) (c32 3)) 12 (193 : Int32) = some (c32 3) := by
            show ldA _ 12 (c32 193) = _
            rw [ld_A (show 193 < 200 by omega), sA_at, if_pos rfl, if_pos rfl]
          dsimp only
          rw [ob eld, if_pos (by rfl)]
          have hP3 : BP C (sA (sI s2 4 (c32 (a + 2 + 3))) 12 (192 + 1) (c32 3)) (a + 5) 0 0 := BP.set hP2.p (by decide)
          have hM3 : BM (sA (sI s2 4 (c32 (a + 2 + 3))) 12 (192 + 1) (c32 3)) cs := BM.set (st := sI s2 4 (c32 (a + 2 + 3))) hM2 (by decide)
          have hF3 : BF st (sA (sI s2 4 (c32 (a + 2 + 3))) 12 (192 + 1) (c32 3)) := hF2.trans (BE.i4.f.trans (BF.a (by omega)))
          have hv31 : (sA (sI s2 4 (c32 (a + 2 + 3))) 12 (192 + 1) (c32 3)).2.1 12 193 = c32 3 := by rw [sA_at, if_pos rfl, if_pos rfl]
          have hv30 : (sA (sI s2 4 (c32 (a + 2 + 3))) 12 (192 + 1) (c32 3)).2.1 12 192 = c32 t := by rw [sA_at, if_pos rfl, if_neg (by decide)]; exact hv2
          generalize sA (sI s2 4 (c32 (a + 2 + 3))) 12 (192 + 1) (c32 3) = s3 at *
          have T41 : ∀ (s : bS) (at_ M : Nat), DB C s at_ M → ∃ s', ((bf_need n s (41 : Int32)).bind fun q_16 => some (q_16.1, ())) = some (s', ()) ∧ DB C s' at_ M ∧ BF s s' := fun s at_ M hD => ⟨sI s 7 1, by rw [ob (D_needB hD).1], (D_needB (n := n) (c := 41) hD).2, BE.i7.f⟩
          have Tm : ∀ (s : bS) (at_ M : Nat), DB C s at_ M → at_ ≤ 60 → ∃ s', ((bf_matrix n s).bind fun q_14 => (bf_setArg n q_14.1 (2 : Int32) q_14.2).bind fun q_15 => (bf_need n q_15.1 (41 : Int32)).bind fun q_16 => some (q_16.1, ())) = some (s', ()) ∧ DB C s' at_ M ∧ BF s s' := by
            intro s at_ M hD ha
            obtain ⟨s', e, h1, h2⟩ := T41 (sA (sI s 7 1) 12 (192 + 2) 0) at_ M ((D_matrix (n := n) ok hD ha).2.set (by decide))
            exact ⟨s', by rw [ob (D_matrix (n := n) ok hD ha).1, ob (b_setArg (k := 2) (by omega))]; exact e, h1, (BE.i7.f.trans (BF.a (by omega))).trans h2⟩
          by_cases h40 : ch C (a + 5) = 40
          · have hin5 := ch_in (C := C) (i := a + 5) (by omega)
            rw [if_pos h40] at hmt4
            have eA := A_take2_t (n := n) ok hS (i := 27) (by omega) hA2 (by omega) (by omega) (by rw [hmt4, hwl])
            rw [hwl] at eA
            have hA3 : PA C (ps C σ2 (a + 2 + 4) 0 0) (a + 6) 0 0 := hA2.ps
            have hP4 : BP C (sI s3 4 (c32 (a + 5 + 1))) (a + 6) 0 0 := hP3.p
            rw [ox eA, ob (A_cls hA3), ob (b_need_t (c := 40) ok hP3 (by omega) h40)]
            dsimp only
            by_cases hm2 : isM (ch C (a + 6))
            · have hin6 := ch_in (C := C) (i := a + 6) (by unfold isM at hm2; omega)
              have hA4 : PA C (ps C σ2 (a + 6 + 1) 0 0) (a + 7) 0 0 := hA2.ps
              rw [ox (A_matrix_t ok hA3 (by omega) hm2), ps_ps, ob (A_cls hA4), ob (b_matrix_t ok hP4 (by omega) hm2), sI_sI, ob (b_setArg (k := 2) (by omega))]
              generalize hmm2 : ch C (a + 6) - 80 = m2
              have hm23 : m2 < 3 := by unfold isM at hm2; omega
              have hP5 : BP C (sA (sI s3 4 (c32 (a + 6 + 1))) 12 (192 + 2) (c32 m2)) (a + 7) 0 0 := BP.set hP3.p (by decide)
              have hM5 : BM (sA (sI s3 4 (c32 (a + 6 + 1))) 12 (192 + 2) (c32 m2)) cs := BM.set (st := sI s3 4 (c32 (a + 6 + 1))) hM3 (by decide)
              have hF5 : BF st (sA (sI s3 4 (c32 (a + 6 + 1))) 12 (192 + 2) (c32 m2)) := hF3.trans (BE.i4.f.trans (BF.a (by omega)))
              have hv52 : (sA (sI s3 4 (c32 (a + 6 + 1))) 12 (192 + 2) (c32 m2)).2.1 12 194 = c32 m2 := by rw [sA_at, if_pos rfl, if_pos rfl]
              have hv51 : (sA (sI s3 4 (c32 (a + 6 + 1))) 12 (192 + 2) (c32 m2)).2.1 12 193 = c32 3 := by rw [sA_at, if_pos rfl, if_neg (by decide)]; exact hv31
              have hv50 : (sA (sI s3 4 (c32 (a + 6 + 1))) 12 (192 + 2) (c32 m2)).2.1 12 192 = c32 t := by rw [sA_at, if_pos rfl, if_neg (by decide)]; exact hv30
              dsimp only
              generalize sA (sI s3 4 (c32 (a + 6 + 1))) 12 (192 + 2) (c32 m2) = s5 at *
              by_cases h41 : ch C (a + 7) = 41
              · have hin7 := ch_in (C := C) (i := a + 7) (by omega)
                have hA5 : PA C (ps C σ2 (a + 7 + 1) 0 0) (a + 8) 0 0 := hA2.ps
                obtain ⟨σ', e1, k1, k2, k3, k4, k5⟩ := M_new (n := n) (t := t) (w := 3) (m := m2) (b := -1) (r := none) hA5
                have e1 : (cb (af_X26_init n C.S (nw (ps C σ2 (a + 7 + 1) 0 0) (.inr (25, [.int 0, .int 0, .int 0, .int 0, .null])) 5) (ps C σ2 (a + 7 + 1) 0 0).1 (c32 t) (84 : Int32) (c32 m2) (-1 : Int32) none) fun st_5 _ => some (st_5, .inl (some (ps C σ2 (a + 7 + 1) 0 0).1)) : Option (aS × (Option Nat ⊕ Nat))) = some (σ', .inl (some σ2.1)) := e1
                rw [ox (A_take_t (c := 41) ok hA4 (by omega) h41), ps_ps, ob (nO_eq _ _ _ _), e1, ob (b_need_t (c := 41) ok hP5 (by omega) h41)]
                have k3 : σ'.1 = σ2.1 + 1 := k3
                have k4 : σ'.2.1 = σ2.2.1 + 5 := k4
                have k5 : σ'.2.2 σ2.1 = some (.inr (25, [.int (c32 t), .int (c32 (matC 3)), .int (c32 m2), .int (-1), .null])) := k5
                refine Or.inl ⟨a + 8, σ', σ2.1, _, cs, by omega, rfl, ⟨_, _, k1⟩, (hx2.trans Ext.mvP).trans k2, by omega, by omega, rfl, ⟨0, hP5.p⟩, hM5, by omega, hF5.trans BE.i4.f, ?_⟩
                exact ⟨t, 3, m2, -1, .null, hi_at k5 (by omega) (by omega), ht3, by omega, hm23, hv50, hv51, fun z => by omega, fun _ => hv52, fun _ => rfl, fun z => by omega, Or.inl ⟨by omega, rfl⟩⟩
              · rw [oxr (A_take_f (c := 41) ok hA4 (by omega) (by omega) h41), ob (b_need_f (c := 41) ok hP5 (by omega) (by omega) h41)]
                exact Or.inr ⟨a + 7, _, _, by omega, rfl, ⟨_, _, hA4.th⟩, (hx2.trans Ext.mvP).th, by show σ2.1 + 1 ≤ _; omega, by show σ2.2.1 + 6 ≤ _; omega, rfl, ⟨0, cs.length, 1, hP5.b, Or.inl rfl, hM5.1, by omega⟩, hF5.trans BE.i7.f⟩
            · have hD : DB C (sA (sI (sI s3 4 (c32 (a + 5 + 1))) 7 1) 12 (192 + 2) 0) (a + 6) 130 := ⟨0, cs.length, BP.set hP4.b (by decide), (by exact hM3.1), by omega⟩
              obtain ⟨s', e, g1, g2⟩ := T41 _ _ _ hD
              rw [oxr (A_matrix_f ok hA3 (by omega) hm2), ob (b_matrix_f ok hP4 (by omega) hm2), ob (b_setArg (k := 2) (by omega))]
              dsimp only
              exact KN_of rfl (by omega) ⟨_, _, hA3.th⟩ (hx2.trans Ext.mvP).th (by show σ2.1 + 1 ≤ _; omega) (by show σ2.2.1 + 6 ≤ _; omega) e g1 (by omega) hF3 ((BE.i4.trans BE.i7).f.trans ((BF.a (by omega)).trans g2))
          · rw [if_neg h40] at hmt4
            have eA := A_take2_f (n := n) ok hS (i := 27) (by omega) hA2 (by omega) (by omega) (by rw [hmt4, hwl]; omega)
            rw [hmt4] at eA
            have hD : DB C (sI s3 7 1) (a + 5) 130 := ⟨0, cs.length, hP3.b, (by exact hM3.1), by omega⟩
            obtain ⟨s', e, g1, g2⟩ := Tm _ _ _ hD (by omega)
            rw [oxr eA, ob (b_need_f (c := 40) ok hP3 (by omega) (by omega) h40)]
            dsimp only
            have hAx : PA C (ps C σ2 (a + 2 + 3) 0 0) (a + 5) 0 0 := hA2.ps
            exact KN_of rfl hmtin ⟨_, _, hAx.th⟩ (hx2.trans Ext.mvP).th (by show σ2.1 + 1 ≤ _; omega) (by show σ2.2.1 + 6 ≤ _; omega) e g1 (by omega) hF3 (BE.i7.f.trans g2)
        · have hmtin := mt_in C (wb 23) (a + 2) (fun c hc => ((wb_ok ⟨23, by omega⟩).1 c hc).1) (by omega)
          have hl3 : (wb 23).length = 3 := by rw [wb_20.2.2.2.2.2.2.1]; rfl
          have hmtl := mt_le C (wb 23) (a + 2)
          have hmt4 : mt C (wd 27) (a + 2) = mt C (wb 23) (a + 2) := by
            rw [hl3] at hfu
            rw [wb_20.2.2.2.2.2.2.2, wb_20.2.2.2.2.2.2.1]
            rw [wb_20.2.2.2.2.2.2.1] at hfu
            unfold mt mt mt mt at hfu ⊢
            by_cases g1 : ch C (a + 2) = 84
            · rw [if_pos g1] at hfu
              rw [if_pos g1, if_pos g1]
              by_cases g2 : ch C (a + 2 + 1) = 82
              · rw [if_pos g2] at hfu
                rw [if_pos g2, if_pos g2]
                by_cases g3 : ch C (a + 2 + 1 + 1) = 78
                · rw [if_pos g3] at hfu
                  exact absurd rfl hfu
                · rw [if_neg g3, if_neg g3]
              · rw [if_neg g2, if_neg g2]
            · rw [if_neg g1, if_neg g1]
          have hwl : (wd 27).length = 4 := by rw [wb_20.2.2.2.2.2.2.2]; rfl
          have eA := A_take2_f (n := n) ok hS (i := 27) (by omega) hA2 (by omega) (by omega) (by rw [hmt4, hwl]; omega)
          rw [hmt4] at eA
          have eB := b_takeWord_f (n := n) (lo := 20) (c := 4) (x := 20) (y := 23) ok hP2 (by omega) (by omega) (by omega) (fun k hk => by
            have h2 : 2 ≤ (wb (20 + k)).length := (wb_ok ⟨20 + k, by omega⟩).2.1
            have hcs : k = 0 ∨ k = 1 ∨ k = 2 ∨ k = 3 := by omega
            rcases hcs with rfl | rfl | rfl | rfl
            · rw [hz20]; omega
            · rw [hz21]; omega
            · rw [hz22]; omega
            · exact hfu) hn
          rw [hmx] at eB
          rw [oxr eA, ob eB]
          dsimp only
          rw [ob (b_setArg (k := 1) (by omega))]
          generalize mt C (wb 23) (a + 2) = L at *
          have eld : ldA (sA (sI (sI s2 4 (c32 (a + 2 + L))) 7 1) 12 (192 + 1) (-1 - 20)) 12 (193 : Int32) = some (-1 - 20) := by
            show ldA _ 12 (c32 193) = _
            rw [ld_A (show 193 < 200 by omega), sA_at, if_pos rfl, if_pos rfl]
          dsimp only
          rw [ob eld, if_neg (by decide)]
          exact Or.inr ⟨a + 2 + L, _, _, hmtin, rfl, ⟨_, _, hA2.ps.th⟩, (hx2.trans Ext.mvP).th, by show σ2.1 + 1 ≤ _; omega, by show σ2.2.1 + 6 ≤ _; omega, rfl, ⟨0, cs.length, 1, BP.set hP2.p.b (by decide), Or.inl rfl, hM2.1, by omega⟩, hF2.trans ((BE.i4.trans BE.i7).f.trans (BF.a (by omega)))⟩
      rw [if_neg (by exact n_c (b := 84) (by omega) (by omega) hT)]
      by_cases h40 : ch C (a + 2) = 40
      · rw [if_pos (by rw [h40]; rfl), if_pos (by rw [h40]; rfl), ob (A_cls hA2)]
        have hin2 := ch_in (C := C) (i := a + 2) (by omega)
        -- tails, once bad
        have Tm : ∀ (s : bS) (at_ M : Nat), DB C s at_ M → at_ ≤ 60 → ∃ s', ((bf_setArg n s (1 : Int32) (4 : Int32)).bind fun q_30 => (bf_matrix n q_30.1).bind fun q_31 => (bf_setArg n q_31.1 (2 : Int32) q_31.2).bind fun q_32 => some (q_32.1, ())) = some (s', ()) ∧ DB C s' at_ M ∧ BF s s' := by
          intro s at_ M hD ha
          have hD1 : DB C (sA s 12 (192 + 1) 4) at_ M := hD.set (by decide)
          refine ⟨sA (sI (sA s 12 (192 + 1) 4) 7 1) 12 (192 + 2) 0, ?_, (D_matrix (n := n) ok hD1 ha).2.set (by decide), (BF.a (by omega)).trans (BE.i7.f.trans (BF.a (by omega)))⟩
          rw [ob (b_setArg (k := 1) (by omega))]
          dsimp only
          rw [ob (D_matrix (n := n) ok hD1 ha).1, ob (b_setArg (k := 2) (by omega))]
        have T42 : ∀ (s : bS) (at_ M : Nat), DB C s at_ M → at_ ≤ 60 → ∃ s', ((bf_need n s (42 : Int32)).bind fun q_29 => (bf_setArg n q_29.1 (1 : Int32) (4 : Int32)).bind fun q_30 => (bf_matrix n q_30.1).bind fun q_31 => (bf_setArg n q_31.1 (2 : Int32) q_31.2).bind fun q_32 => some (q_32.1, ())) = some (s', ()) ∧ DB C s' at_ M ∧ BF s s' := by
          intro s at_ M hD ha
          obtain ⟨s', e, h1, h2⟩ := Tm (sI s 7 1) at_ M (D_needB (n := n) (c := 42) hD).2 ha
          exact ⟨s', by rw [ob (D_needB hD).1]; exact e, h1, BE.i7.f.trans h2⟩
        have Ts : ∀ (s : bS) (at_ M : Nat), DM C s at_ M → at_ ≤ 60 → ∃ s', ((bf_shut n s).bind fun q_28 => (bf_need n q_28.1 (42 : Int32)).bind fun q_29 => (bf_setArg n q_29.1 (1 : Int32) (4 : Int32)).bind fun q_30 => (bf_matrix n q_30.1).bind fun q_31 => (bf_setArg n q_31.1 (2 : Int32) q_31.2).bind fun q_32 => some (q_32.1, ())) = some (s', ()) ∧ DB C s' at_ M ∧ BF s s' := by
          intro s at_ M hD ha
          obtain ⟨s1, e1, g1, g2⟩ := D_shut (n := n) ok hD ha
          obtain ⟨s', e, h1, h2⟩ := T42 s1 at_ M g1 ha
          exact ⟨s', by rw [ob e1]; exact e, h1, g2.trans h2⟩
        unfold af_X3_inside
        have hA3 : PA C (ps C σ2 (a + 2 + 1) 1 0) (a + 3) 1 0 := hA2.ps
        have hP3 : BP C (sI (sI s2 4 (c32 (a + 2 + 1))) 5 (c32 (0 + 1))) (a + 3) 1 0 := hP2.p.o
        have hM3 : BM (sI (sI s2 4 (c32 (a + 2 + 1))) 5 (c32 (0 + 1))) cs := hM2
        have hF3 : BF st (sI (sI s2 4 (c32 (a + 2 + 1))) 5 (c32 (0 + 1))) := hF2.trans (BE.i4.trans BE.i5).f
        have hv3 : (sI (sI s2 4 (c32 (a + 2 + 1))) 5 (c32 (0 + 1))).2.1 12 192 = c32 t := hv2
        have eop := A_open_t (n := n) ok hA2 (by omega) h40
        rw [ps_ps] at eop
        rw [ob (A_cls hA2), ox eop, ob (b_bracket_t ok hP2 (by omega) (by omega) h40)]
        have hA3' : PA C (ps C σ2 (a + 2 + 1) (0 + 1) 0) (a + 3) 1 0 := hA3
        rw [ob (A_cls hA3')]
        dsimp only
        generalize sI (sI s2 4 (c32 (a + 2 + 1))) 5 (c32 (0 + 1)) = s3 at *
        rcases E_top (n := n) (x1 := 0) ok hS hn hA3' hP3 hM3 (by omega) (by omega) (by omega) (Or.inl rfl) with ⟨at1, l1, q1, q2, ⟨σ3, r1, e1, hA4, hx4, t1, t2, hex1⟩, hnop1, s4, e2, hP4, hM4, hE4, hb4⟩ | ⟨at1, q1, q2, ⟨σ3, op1, go1, e1, hA4, hx4, t1, t2⟩, s4, e2, hD4, hF4⟩
        · have t1 : σ3.1 ≤ σ2.1 + (at1 - (a + 3)) := t1
          have t2 : σ3.2.1 ≤ σ2.2.1 + 3 * (at1 - (a + 3)) := t2
          have hs3 : σ2.1 ≤ σ3.1 := hx4.1
          rw [ox e1, ob (A_cls hA4), ob e2, ob (b_setExpr (k := 0) (by omega))]
          have hl1 : (cs ++ (l1 ++ [14])).length = cs.length + (l1.length + 1) := by simp
          have hP5 : BP C (sA s4 13 (96 + 0) (c32 cs.length)) at1 1 0 := hP4.set (by decide)
          have hM5 : BM (sA s4 13 (96 + 0) (c32 cs.length)) (cs ++ (l1 ++ [14])) := hM4.set (by decide)
          have hF5 : BF st (sA s4 13 (96 + 0) (c32 cs.length)) := hF3.trans (hE4.f.trans (BF.e (by omega)))
          have hw5 : (sA s4 13 (96 + 0) (c32 cs.length)).2.1 13 (96 + 0) = c32 cs.length := by rw [sA_at, if_pos rfl, if_pos rfl]
          have hv5 : (sA s4 13 (96 + 0) (c32 cs.length)).2.1 12 192 = c32 t := by rw [sA_ne _ (by decide), hE4.2.1 12 (by decide) (by decide)]; exact hv3
          dsimp only
          generalize sA s4 13 (96 + 0) (c32 cs.length) = s5 at *
          by_cases h41 : ch C at1 = 41
          · have hin4 := ch_in (C := C) (i := at1) (by omega)
            have ecl := A_close_t (n := n) ok hA4 (by omega) (by omega) h41
            rw [ps_ps] at ecl
            have hA5 : PA C (ps C σ3 (at1 + 1) (1 - 1) 0) (at1 + 1) 0 0 := hA4.ps
            have hP6 : BP C (sI (sI s5 4 (c32 (at1 + 1))) 5 (c32 (1 - 1))) (at1 + 1) 0 0 := hP5.p.o
            have hM6 : BM (sI (sI s5 4 (c32 (at1 + 1))) 5 (c32 (1 - 1))) (cs ++ (l1 ++ [14])) := hM5
            rw [ox ecl, ob (b_shut_t ok hP5 (by omega) (by omega) h41)]
            show KO C σ ((gC (ps C σ3 (at1 + 1) (1 - 1) 0) C.P 2).bind _) st _ 14
            rw [ob (A_cls hA5)]
            dsimp only
            by_cases h42 : ch C (at1 + 1) = 42
            · have hin5 := ch_in (C := C) (i := at1 + 1) (by omega)
              have hA6 : PA C (ps C σ3 (at1 + 1 + 1) 0 0) (at1 + 2) 0 0 := hA4.ps
              have etk := A_take_t (n := n) (c := 42) (v := 42) ok hA5 (by omega) h42
              rw [ps_ps] at etk
              rw [ox etk, ob (nO_eq _ _ _ _), ob (b_need_t (c := 42) ok hP6 (by omega) h42), ob (b_setArg (k := 1) (by omega))]
              have hA7 : PA C (nw (ps C σ3 (at1 + 1 + 1) 0 0) (.inr (25, [.int 0, .int 0, .int 0, .int 0, .null])) 5) (at1 + 2) 0 0 := hA6.nwc
              have hP7 : BP C (sA (sI (sI (sI s5 4 (c32 (at1 + 1))) 5 (c32 (1 - 1))) 4 (c32 (at1 + 1 + 1))) 12 (192 + 1) 4) (at1 + 2) 0 0 := BP.set hP6.p (by decide)
              have hM7 : BM (sA (sI (sI (sI s5 4 (c32 (at1 + 1))) 5 (c32 (1 - 1))) 4 (c32 (at1 + 1 + 1))) 12 (192 + 1) 4) (cs ++ (l1 ++ [14])) := BM.set (st := sI (sI (sI s5 4 (c32 (at1 + 1))) 5 (c32 (1 - 1))) 4 (c32 (at1 + 1 + 1))) hM5 (by decide)
              have hF7 : BF st (sA (sI (sI (sI s5 4 (c32 (at1 + 1))) 5 (c32 (1 - 1))) 4 (c32 (at1 + 1 + 1))) 12 (192 + 1) 4) := hF5.trans ((BE.i4.trans (BE.i5.trans BE.i4)).f.trans (BF.a (by omega)))
              have hw7 : (sA (sI (sI (sI s5 4 (c32 (at1 + 1))) 5 (c32 (1 - 1))) 4 (c32 (at1 + 1 + 1))) 12 (192 + 1) 4).2.1 13 (96 + 0) = c32 cs.length := by rw [sA_ne _ (by decide)]; exact hw5
              have hv71 : (sA (sI (sI (sI s5 4 (c32 (at1 + 1))) 5 (c32 (1 - 1))) 4 (c32 (at1 + 1 + 1))) 12 (192 + 1) 4).2.1 12 193 = c32 4 := by rw [sA_at, if_pos rfl, if_pos rfl]; rfl
              have hv70 : (sA (sI (sI (sI s5 4 (c32 (at1 + 1))) 5 (c32 (1 - 1))) 4 (c32 (at1 + 1 + 1))) 12 (192 + 1) 4).2.1 12 192 = c32 t := by rw [sA_at, if_pos rfl, if_neg (by decide)]; exact hv5
              dsimp only
              generalize sA (sI (sI (sI s5 4 (c32 (at1 + 1))) 5 (c32 (1 - 1))) 4 (c32 (at1 + 1 + 1))) 12 (192 + 1) 4 = s7 at *
              rw [ob (A_cls hA7)]
              by_cases hm2 : isM (ch C (at1 + 2))
              · have hin6 := ch_in (C := C) (i := at1 + 2) (by unfold isM at hm2; omega)
                have hne := hA.ne (q := σ3.1) (by omega)
                have hcell : (ps C (nw (ps C σ3 (at1 + 1 + 1) 0 0) (.inr (25, [.int 0, .int 0, .int 0, .int 0, .null])) 5) (at1 + 2 + 1) 0 0).2.2 σ3.1 = some (.inr (25, [.int 0, .int 0, .int 0, .int 0, .null])) := by
                  rw [mv_ne _ _ hne.1]
                  exact nw_at _ _ _
                rw [ox (A_matrix_t ok hA7 (by omega) hm2), ob (b_matrix_t ok hP7 (by omega) hm2), ob (b_setArg (k := 2) (by omega))]
                generalize hmm2 : ch C (at1 + 2) - 80 = m2
                have hm23 : m2 < 3 := by unfold isM at hm2; omega
                have e9 : af_X26_init n C.S (ps C (nw (ps C σ3 (at1 + 1 + 1) 0 0) (.inr (25, [.int 0, .int 0, .int 0, .int 0, .null])) 5) (at1 + 2 + 1) 0 0) (ps C σ3 (at1 + 1 + 1) 0 0).1 (c32 t) (83 : Int32) (c32 m2) (-1 : Int32) (some r1) = some (mv (ps C (nw (ps C σ3 (at1 + 1 + 1) 0 0) (.inr (25, [.int 0, .int 0, .int 0, .int 0, .null])) 5) (at1 + 2 + 1) 0 0) σ3.1 (.inr (25, [.int (c32 t), .int (c32 (matC 4)), .int (c32 m2), .int (-1), .ref r1])), ()) := i_X26 hcell (cz_of (a := 83) (by omega))
                rw [oc e9]
                have hA8 : PA C (ps C (nw (ps C σ3 (at1 + 1 + 1) 0 0) (.inr (25, [.int 0, .int 0, .int 0, .int 0, .null])) 5) (at1 + 2 + 1) 0 0) (at1 + 3) 0 0 := hA7.ps
                have hxx : Ext C.P σ3 (mv (ps C (nw (ps C σ3 (at1 + 1 + 1) 0 0) (.inr (25, [.int 0, .int 0, .int 0, .int 0, .null])) 5) (at1 + 2 + 1) 0 0) σ3.1 (.inr (25, [.int (c32 t), .int (c32 (matC 4)), .int (c32 m2), .int (-1), .ref r1]))) := ((Ext.mvP.trans Ext.nwc).trans Ext.mvP).new (Nat.le_refl _)
                have hM8 : BM (sA (sI s7 4 (c32 (at1 + 2 + 1))) 12 (192 + 2) (c32 m2)) (cs ++ (l1 ++ [14])) := BM.set (st := sI s7 4 (c32 (at1 + 2 + 1))) hM7 (by decide)
                refine Or.inl ⟨at1 + 3, _, σ3.1, _, _, by omega, rfl, ⟨_, _, hA8.mvq hne.1 hne.2.1 hne.2.2⟩, ((hx2.trans Ext.mvP).trans hx4).trans hxx, by show σ3.1 + 1 ≤ _; omega, by show σ3.2.1 + 5 ≤ _; omega, rfl, ⟨0, BP.set hP7.p (by decide)⟩, hM8, by omega, hF7.trans (BE.i4.f.trans (BF.a (by omega))), ?_⟩
                refine ⟨t, 4, m2, -1, .ref r1, hi_at (mv_at _ _ _) (by omega) (by show σ3.1 < σ3.1 + 1; omega), ht3, by omega, hm23, ?_, ?_, fun z => by omega, fun _ => ?_, fun _ => rfl, fun z => by omega, Or.inr ⟨rfl, r1, rfl, l1, ?_, by omega, ?_⟩⟩
                · show (sA (sI s7 4 (c32 (at1 + 2 + 1))) 12 (192 + 2) (c32 m2)).2.1 12 192 = _
                  rw [sA_at, if_pos rfl, if_neg (by decide)]
                  exact hv70
                · show (sA (sI s7 4 (c32 (at1 + 2 + 1))) 12 (192 + 2) (c32 m2)).2.1 12 193 = _
                  rw [sA_at, if_pos rfl, if_neg (by decide)]
                  exact hv71
                · show (sA (sI s7 4 (c32 (at1 + 2 + 1))) 12 (192 + 2) (c32 m2)).2.1 12 (192 + 2) = _
                  rw [sA_at, if_pos rfl, if_pos rfl]
                · exact (ex.map (hi_le hxx (by show C.P < σ2.1; omega) (by show σ.1 ≤ σ2.1; omega)) _ _ _ hex1).up (by omega)
                · have h7 := R24_of (cs := cs) (l := l1 ++ [14]) (x := []) (i := 0) (st := sA (sI s7 4 (c32 (at1 + 2 + 1))) 12 (192 + 2) (c32 m2)) (by rw [List.append_nil]; exact hM8) (by rw [sA_ne _ (by decide)]; exact hw7)
                  rw [List.append_nil] at h7
                  exact h7
              · rw [oxr (A_matrix_f ok hA7 (by omega) hm2), ob (b_matrix_f ok hP7 (by omega) hm2), ob (b_setArg (k := 2) (by omega))]
                exact Or.inr ⟨at1 + 2, _, _, by omega, rfl, ⟨_, _, hA7.th⟩, (((hx2.trans Ext.mvP).trans hx4).trans (Ext.mvP.trans Ext.nwc)).th, by show σ3.1 + 1 + 1 ≤ _; omega, by show σ3.2.1 + 5 + 6 ≤ _; omega, rfl, ⟨0, _, 1, BP.set hP7.b (by decide), Or.inl rfl, hM7.1, by omega⟩, hF7.trans (BE.i7.f.trans (BF.a (by omega)))⟩
            · have hD : DB C (sI (sI (sI s5 4 (c32 (at1 + 1))) 5 (c32 (1 - 1))) 7 1) (at1 + 1) 130 := ⟨0, _, hP6.b, (by exact hM5.1), by omega⟩
              obtain ⟨s', e, g1, g2⟩ := Tm _ _ _ hD (by omega)
              rw [oxr (A_take_f (c := 42) ok hA5 (by omega) (by omega) h42), ob (b_need_f (c := 42) ok hP6 (by omega) (by omega) h42)]
              dsimp only
              exact KN_of rfl (by omega) ⟨_, _, hA5.th⟩ (((hx2.trans Ext.mvP).trans hx4).trans Ext.mvP).th (by show σ3.1 + 1 ≤ _; omega) (by show σ3.2.1 + 6 ≤ _; omega) e g1 (by omega) hF5 ((BE.i4.trans (BE.i5.trans BE.i7)).f.trans g2)
          · have hD : DB C (sI s5 7 1) at1 130 := ⟨1, _, hP5.b, (by exact hM5.1), by omega⟩
            obtain ⟨s', e, g1, g2⟩ := T42 _ _ _ hD (by omega)
            rw [oxr (A_close_f ok hA4 (by omega) h41), ob (b_shut_f ok hP5 (by omega) h41)]
            dsimp only
            exact KN_of rfl q2 ⟨_, _, hA4.th⟩ ((hx2.trans Ext.mvP).trans hx4).th (by show σ3.1 + 1 ≤ _; omega) (by show σ3.2.1 + 6 ≤ _; omega) e g1 (by omega) hF5 (BE.i7.f.trans g2)
        · have t1 : σ3.1 ≤ σ2.1 + (at1 - (a + 3)) + 2 := t1
          have t2 : σ3.2.1 ≤ σ2.2.1 + 3 * (at1 - (a + 3)) + 9 := t2
          obtain ⟨s', e, g1, g2⟩ := Ts (sA s4 13 (96 + 0) (c32 cs.length)) at1 _ (hD4.set (by decide)) (by omega)
          rw [oxr e1, ob e2, ob (b_setExpr (k := 0) (by omega))]
          dsimp only
          exact KN_of rfl q2 ⟨_, _, hA4⟩ ((hx2.trans Ext.mvP).trans hx4) (by omega) (by omega) e g1 (by omega) hF3 (hF4.trans ((BF.e (by omega)).trans g2))
      rw [if_neg (by exact n_c (b := 40) (by omega) (by omega) h40), ob (A_cls hA2)]
      by_cases hm2 : isM (ch C (a + 2))
      · have hin2 := ch_in (C := C) (i := a + 2) (by unfold isM at hm2; omega)
        have hA3 : PA C (ps C σ2 (a + 2 + 1) 0 0) (a + 3) 0 0 := hA2.ps
        have hcl3 := ch_lt ok (a + 3)
        rw [ox (A_matrix_t ok hA2 (by omega) hm2), if_neg (by exact n_c (b := 40) (by omega) (by omega) h40), ob (b_isMatrix_t hm2), if_neg n10, ob (b_matrix_t ok hP2 (by omega) hm2), ob (b_setArg (k := 2) (by omega)), ob (A_cls hA3), oc (A_here ok hA3 (by omega))]
        generalize hmm2 : ch C (a + 2) - 80 = m2
        have hm23 : m2 < 3 := by unfold isM at hm2; omega
        have hP3 : BP C (sA (sI s2 4 (c32 (a + 2 + 1))) 12 (192 + 2) (c32 m2)) (a + 3) 0 0 := BP.set hP2.p (by decide)
        have hM3 : BM (sA (sI s2 4 (c32 (a + 2 + 1))) 12 (192 + 2) (c32 m2)) cs := BM.set (st := sI s2 4 (c32 (a + 2 + 1))) hM2 (by decide)
        have hF3 : BF st (sA (sI s2 4 (c32 (a + 2 + 1))) 12 (192 + 2) (c32 m2)) := hF2.trans (BE.i4.f.trans (BF.a (by omega)))
        have hv32 : (sA (sI s2 4 (c32 (a + 2 + 1))) 12 (192 + 2) (c32 m2)).2.1 12 194 = c32 m2 := by rw [sA_at, if_pos rfl, if_pos rfl]
        have hv30 : (sA (sI s2 4 (c32 (a + 2 + 1))) 12 (192 + 2) (c32 m2)).2.1 12 192 = c32 t := by rw [sA_at, if_pos rfl, if_neg (by decide)]; exact hv2
        have hs3 : (ps C σ2 (a + 2 + 1) 0 0).1 = σ2.1 := rfl
        have hsl3 : (ps C σ2 (a + 2 + 1) 0 0).2.1 = σ2.2.1 := rfl
        have hx3 : Ext C.P σ (ps C σ2 (a + 2 + 1) 0 0) := hx2.trans Ext.mvP
        dsimp only
        generalize sA (sI s2 4 (c32 (a + 2 + 1))) 12 (192 + 2) (c32 m2) = s3 at *
        generalize ps C σ2 (a + 2 + 1) 0 0 = σ3 at *
        -- + - *
        have hop : ∀ (w c : Nat), 6 ≤ w → w ≤ 8 → matC w = c → ch C (a + 3) = c → c ≠ 0 → KO C σ (af_X3_mat_L196 n C.S σ3 C.P (c32 t) (c32 m2) (c32 c)) st (bf_mat_L138 n (sI s3 4 (c32 (a + 3 + 1))) (1 : Int32) (c32 w)) 14 := by
          intro w c hw6 hw8 hmc hc hc0
          have hin3 := ch_in (C := C) (i := a + 3) (by omega)
          unfold af_X3_mat_L196 bf_mat_L138
          have hA4 : PA C (nw (ps C σ3 (a + 3 + 1) 0 0) (.inr (25, [.int 0, .int 0, .int 0, .int 0, .null])) 5) (a + 4) 0 0 := hA3.ps.nwc
          have hne := hA.ne (q := σ3.1) (by omega)
          rw [ob (A_at hA3)]
          show KO C σ ((pF σ3 C.P 2 2 (.int (c32 (a + 3) + c32 1))).bind _) st _ 14
          rw [c_add, ob (A_setAt hA3), ob (nO_eq _ _ _ _), ob (A_cls hA4), ob (b_setArg (k := 1) (by omega))]
          have eld : ldA (sA (sI s3 4 (c32 (a + 3 + 1))) 12 (192 + 1) (c32 w)) 12 (193 : Int32) = some (c32 w) := by
            show ldA _ 12 (c32 193) = _
            rw [ld_A (show 193 < 200 by omega), sA_at, if_pos rfl, if_pos rfl]
          dsimp only
          rw [ob eld, if_neg (fun z => by have := (c_le (a := w) (b := 5) (by omega) (by omega)).mp z; omega)]
          have hP4 : BP C (sA (sI s3 4 (c32 (a + 3 + 1))) 12 (192 + 1) (c32 w)) (a + 4) 0 0 := BP.set hP3.p (by decide)
          have hM4 : BM (sA (sI s3 4 (c32 (a + 3 + 1))) 12 (192 + 1) (c32 w)) cs := BM.set (st := sI s3 4 (c32 (a + 3 + 1))) hM3 (by decide)
          have hF4 : BF st (sA (sI s3 4 (c32 (a + 3 + 1))) 12 (192 + 1) (c32 w)) := hF3.trans (BE.i4.f.trans (BF.a (by omega)))
          have hv41 : (sA (sI s3 4 (c32 (a + 3 + 1))) 12 (192 + 1) (c32 w)).2.1 12 193 = c32 w := by rw [sA_at, if_pos rfl, if_pos rfl]
          have hv42 : (sA (sI s3 4 (c32 (a + 3 + 1))) 12 (192 + 1) (c32 w)).2.1 12 194 = c32 m2 := by rw [sA_at, if_pos rfl, if_neg (by decide)]; exact hv32
          have hv40 : (sA (sI s3 4 (c32 (a + 3 + 1))) 12 (192 + 1) (c32 w)).2.1 12 192 = c32 t := by rw [sA_at, if_pos rfl, if_neg (by decide)]; exact hv30
          generalize sA (sI s3 4 (c32 (a + 3 + 1))) 12 (192 + 1) (c32 w) = s4 at *
          by_cases hm3 : isM (ch C (a + 4))
          · have hin4 := ch_in (C := C) (i := a + 4) (by unfold isM at hm3; omega)
            have hcell : (ps C (nw (ps C σ3 (a + 3 + 1) 0 0) (.inr (25, [.int 0, .int 0, .int 0, .int 0, .null])) 5) (a + 4 + 1) 0 0).2.2 σ3.1 = some (.inr (25, [.int 0, .int 0, .int 0, .int 0, .null])) := by
              rw [mv_ne _ _ hne.1]
              exact nw_at _ _ _
            rw [ox (A_matrix_t ok hA4 (by omega) hm3), ob (b_matrix_t ok hP4 (by omega) hm3), ob (b_setArg (k := 3) (by omega))]
            generalize hmm3 : ch C (a + 4) - 80 = m3
            have hm33 : m3 < 3 := by unfold isM at hm3; omega
            have e9 : af_X26_init n C.S (ps C (nw (ps C σ3 (a + 3 + 1) 0 0) (.inr (25, [.int 0, .int 0, .int 0, .int 0, .null])) 5) (a + 4 + 1) 0 0) (ps C σ3 (a + 3 + 1) 0 0).1 (c32 t) (c32 c) (c32 m2) (c32 m3) none = some (mv (ps C (nw (ps C σ3 (a + 3 + 1) 0 0) (.inr (25, [.int 0, .int 0, .int 0, .int 0, .null])) 5) (a + 4 + 1) 0 0) σ3.1 (.inr (25, [.int (c32 t), .int (c32 c), .int (c32 m2), .int (c32 m3), .null])), ()) := i_X26 hcell (cz_of (by have := ch_lt ok (a + 3); omega))
            rw [oc e9]
            have hA5 : PA C (ps C (nw (ps C σ3 (a + 3 + 1) 0 0) (.inr (25, [.int 0, .int 0, .int 0, .int 0, .null])) 5) (a + 4 + 1) 0 0) (a + 5) 0 0 := hA4.ps
            refine Or.inl ⟨a + 5, _, σ3.1, _, cs, by omega, rfl, ⟨_, _, hA5.mvq hne.1 hne.2.1 hne.2.2⟩, hx3.trans (((Ext.mvP.trans Ext.nwc).trans Ext.mvP).new (Nat.le_refl _)), by show σ3.1 + 1 ≤ _; omega, by show σ3.2.1 + 5 ≤ _; omega, rfl, ⟨0, BP.set hP4.p (by decide)⟩, BM.set (st := sI s4 4 (c32 (a + 4 + 1))) hM4 (by decide), by omega, hF4.trans (BE.i4.f.trans (BF.a (by omega))), ?_⟩
            refine ⟨t, w, m2, c32 m3, .null, ?_, ht3, by omega, hm23, ?_, ?_, fun z => by omega, fun _ => ?_, fun z => by omega, fun _ => ⟨m3, hm33, rfl, ?_⟩, Or.inl ⟨by omega, rfl⟩⟩
            · rw [hmc]
              exact hi_at (mv_at _ _ _) (by omega) (by show σ3.1 < σ3.1 + 1; omega)
            · show (sA (sI s4 4 (c32 (a + 4 + 1))) 12 (192 + 3) (c32 m3)).2.1 12 192 = _
              rw [sA_at, if_pos rfl, if_neg (by decide)]
              exact hv40
            · show (sA (sI s4 4 (c32 (a + 4 + 1))) 12 (192 + 3) (c32 m3)).2.1 12 193 = _
              rw [sA_at, if_pos rfl, if_neg (by decide)]
              exact hv41
            · show (sA (sI s4 4 (c32 (a + 4 + 1))) 12 (192 + 3) (c32 m3)).2.1 12 194 = _
              rw [sA_at, if_pos rfl, if_neg (by decide)]
              exact hv42
            · show (sA (sI s4 4 (c32 (a + 4 + 1))) 12 (192 + 3) (c32 m3)).2.1 12 (192 + 3) = _
              rw [sA_at, if_pos rfl, if_pos rfl]
          · rw [oxr (A_matrix_f ok hA4 (by omega) hm3), ob (b_matrix_f ok hP4 (by omega) hm3), ob (b_setArg (k := 3) (by omega))]
            exact Or.inr ⟨a + 4, _, _, by omega, rfl, ⟨_, _, hA4.th⟩, (hx3.trans (Ext.mvP.trans Ext.nwc)).th, by show σ3.1 + 1 + 1 ≤ _; omega, by show σ3.2.1 + 5 + 6 ≤ _; omega, rfl, ⟨0, _, 1, BP.set hP4.b (by decide), Or.inl rfl, hM4.1, by omega⟩, hF4.trans (BE.i7.f.trans (BF.a (by omega)))⟩
        by_cases h43 : ch C (a + 3) = 43
        · rw [if_pos (by rw [h43]; rfl), ob (b_take_t (c := 43) ok hP3 (by omega) h43), if_neg n10, h43]
          exact hop 6 43 (by omega) (by omega) rfl h43 (by omega)
        rw [if_neg (by exact n_c (b := 43) (by omega) (by omega) h43), ob (b_take_f (c := 43) ok hP3 (by omega) (by omega) h43), if_pos rfl]
        by_cases h45 : ch C (a + 3) = 45
        · rw [if_pos (by rw [h45]; rfl), ob (b_take_t (c := 45) ok hP3 (by omega) h45), if_neg n10, h45]
          exact hop 7 45 (by omega) (by omega) rfl h45 (by omega)
        rw [if_neg (by exact n_c (b := 45) (by omega) (by omega) h45), ob (b_take_f (c := 45) ok hP3 (by omega) (by omega) h45), if_pos rfl]
        by_cases h42 : ch C (a + 3) = 42
        · rw [if_pos (by rw [h42]; rfl), ob (b_take_t (c := 42) ok hP3 (by omega) h42), if_neg n10, h42]
          exact hop 8 42 (by omega) (by omega) rfl h42 (by omega)
        rw [if_neg (by exact n_c (b := 42) (by omega) (by omega) h42), ob (b_take_f (c := 42) ok hP3 (by omega) (by omega) h42), if_pos rfl, ob (nO_eq _ _ _ _)]
        obtain ⟨σ', e1, k1, k2, k3, k4, k5⟩ := M_new (n := n) (t := t) (w := 5) (m := m2) (b := -1) (r := none) hA3
        have e1 : (cb (af_X26_init n C.S (nw σ3 (.inr (25, [.int 0, .int 0, .int 0, .int 0, .null])) 5) σ3.1 (c32 t) (61 : Int32) (c32 m2) (-1 : Int32) none) fun st_5 _ => some (st_5, .inl (some σ3.1)) : Option (aS × (Option Nat ⊕ Nat))) = some (σ', .inl (some σ3.1)) := e1
        rw [e1]
        unfold bf_mat_L138
        rw [ob (b_setArg (k := 1) (by omega))]
        have eld : ldA (sA s3 12 (192 + 1) 5) 12 (193 : Int32) = some (c32 5) := by
          show ldA _ 12 (c32 193) = _
          rw [ld_A (show 193 < 200 by omega), sA_at, if_pos rfl, if_pos rfl]
          rfl
        dsimp only
        rw [ob eld, if_pos (by decide)]
        refine Or.inl ⟨a + 3, σ', σ3.1, _, cs, by omega, rfl, ⟨_, _, k1⟩, hx3.trans k2, by omega, by omega, rfl, ⟨0, hP3.set (by decide)⟩, hM3.set (by decide), by omega, hF3.trans (BF.a (by omega)), ?_⟩
        refine ⟨t, 5, m2, -1, .null, hi_at k5 (by omega) (by omega), ht3, by omega, hm23, ?_, ?_, fun z => by omega, fun _ => ?_, fun _ => rfl, fun z => by omega, Or.inl ⟨by omega, rfl⟩⟩
        · show (sA s3 12 (192 + 1) 5).2.1 12 192 = _
          rw [sA_at, if_pos rfl, if_neg (by decide)]
          exact hv30
        · show (sA s3 12 (192 + 1) 5).2.1 12 (192 + 1) = _
          rw [sA_at, if_pos rfl, if_pos rfl]
          rfl
        · show (sA s3 12 (192 + 1) 5).2.1 12 194 = _
          rw [sA_at, if_pos rfl, if_neg (by decide)]
          exact hv32
      · rw [hB40 h40 hm2, oxr (A_matrix_f ok hA2 (by omega) hm2)]
        have hz : ∀ k, k < 4 → mt C (wb (20 + k)) (a + 2) = 0 := by
          intro k hk
          have hcs : k = 0 ∨ k = 1 ∨ k = 2 ∨ k = 3 := by omega
          rcases hcs with rfl | rfl | rfl | rfl
          · rw [wb_20.2.2.2.1]; exact mt_0 hZ
          · rw [wb_20.2.2.2.2.1]; exact mt_0 hCc
          · rw [wb_20.2.2.2.2.2.1]; exact mt_0 hI
          · rw [wb_20.2.2.2.2.2.2.1]; exact mt_0 hT
        have hmx : mx C (a + 2) 20 4 = 0 := by
          rw [mx_20]
          have h0 := hz 0 (by omega)
          have h1 := hz 1 (by omega)
          have h2 := hz 2 (by omega)
          have h3 := hz 3 (by omega)
          have h0 : mt C (wb 20) (a + 2) = 0 := h0
          have h1 : mt C (wb 21) (a + 2) = 0 := h1
          have h2 : mt C (wb 22) (a + 2) = 0 := h2
          have h3 : mt C (wb 23) (a + 2) = 0 := h3
          omega
        have eB := b_takeWord_f (n := n) (lo := 20) (c := 4) (x := 20) (y := 23) ok hP2 (by omega) (by omega) (by omega) (fun k hk => by
          rw [hz k hk]
          have : 2 ≤ (wb (20 + k)).length := (wb_ok ⟨20 + k, by omega⟩).2.1
          omega) hn
        rw [hmx] at eB
        rw [ob eB]
        dsimp only
        rw [ob (b_setArg (k := 1) (by omega))]
        have eld : ldA (sA (sI (sI s2 4 (c32 (a + 2 + 0))) 7 1) 12 (192 + 1) (-1 - 20)) 12 (193 : Int32) = some (-1 - 20) := by
          show ldA _ 12 (c32 193) = _
          rw [ld_A (show 193 < 200 by omega), sA_at, if_pos rfl, if_pos rfl]
        dsimp only
        rw [ob eld, if_neg (by decide)]
        exact Or.inr ⟨a + 2, _, _, by omega, rfl, ⟨_, _, hA2.th⟩, hx2.th, by show σ2.1 + 1 ≤ _; omega, by show σ2.2.1 + 6 ≤ _; omega, rfl, ⟨0, cs.length, 1, BP.set hP2.p.b (by decide), Or.inl rfl, hM2.1, by omega⟩, hF2.trans ((BE.i4.trans BE.i7).f.trans (BF.a (by omega)))⟩
    · rw [oxr (A_take_f (c := 61) ok hA1 (by omega) (by omega) h61), ob (b_need_f (c := 61) ok hP1 (by omega) (by omega) h61)]
      dsimp only
      rw [ob (b_look (p := a + 1) ok hP1.b (by omega))]
      dsimp only
      rw [if_neg (by exact n10)]
      exact Or.inr ⟨a + 1, _, _, by omega, rfl, ⟨_, _, hA1.th⟩, Ext.mvP.th, by show σ.1 + 1 ≤ _; omega, by show σ.2.1 + 6 ≤ _; omega, rfl, ⟨0, cs.length, 1, hP1.b, Or.inl rfl, hM1.1, by omega⟩, hF1.trans BE.i7.f⟩
  · rw [oxr (A_matrix_f ok hA (by omega) hm), ob (b_matrix_f ok hP (by omega) hm), ob (b_setArg (k := 0) (by omega))]
    have hD : DB C (sA (sI st 7 1) 12 (192 + 0) 0) a 130 := ⟨0, cs.length, BP.set hP.b (by decide), (by exact hM.1), by omega⟩
    have hD2 := (D_needB (n := n) (c := 61) hD).2
    obtain ⟨o2, m2, k1, k2, k3⟩ := hD2
    dsimp only
    rw [ob (D_needB hD).1]
    dsimp only
    rw [ob (b_look ok k1 (by omega))]
    dsimp only
    rw [if_neg (by exact n10)]
    exact Or.inr ⟨a, _, _, hp, rfl, ⟨_, _, hA.th⟩, Ext.rfl_.th, by show σ.1 + 1 ≤ _; omega, by show σ.2.1 + 6 ≤ _; omega, rfl, ⟨o2, m2, 1, k1, Or.inl rfl, k2, by omega⟩, (BE.i7.f.trans (BF.a (by omega))).trans BE.i7.f⟩
end KINDS7
