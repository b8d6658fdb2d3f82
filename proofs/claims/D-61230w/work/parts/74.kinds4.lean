/-! THE PURE LAW: FOR, DEF -/
section KINDS4
variable {C : pC} {σ : aS} {st : bS} {n a : Nat} {cs : List Nat}
/-- a kind's own result is a statement's -/
theorem xb_id {z : Option (aS × (Option Nat ⊕ Nat))} : (xb z fun st_22 r_23 => some (st_22, .inl r_23)) = z := by
  cases z with
  | none => rfl
  | some q => obtain ⟨q1, q2⟩ := q; cases q2 <;> rfl
theorem K_7 (ok : pOk C) (hS : sInj C.S) (hn : 1000 ≤ n) (J : JS C σ st a 0 0 cs) : KO C σ (af_X3_statement_L379 n C.S σ C.P 7) st (bf_loop n st) 7 := by
  have hN := ok.1
  obtain ⟨hA, hP, hM, hp, hb⟩ := J
  have hPlt := hA.2.2.2.1
  unfold af_X3_statement_L379
  rw [if_neg (by decide), if_neg (by decide), if_neg (by decide), if_neg (by decide), if_neg (by decide), if_neg (by decide), if_neg (by decide), if_pos rfl, ob (A_cls hA), xb_id]
  unfold af_X3_loop bf_loop
  -- tails, once bad
  have T9 : ∀ (s : bS) (at_ M : Nat), DB C s at_ M → ∃ s', (if s.1 7 = 0 then (bf_look n s).bind fun q_11 => if q_11.2 = (83 : Int32) then (bf_takeWord n q_11.1 (19 : Int32) (19 : Int32)).bind fun q_13 => (bf_setArg n q_13.1 (1 : Int32) (1 : Int32)).bind fun q_14 => (bf_expression n q_14.1 (0 : Int32)).bind fun q_15 => (bf_setExpr n q_15.1 (2 : Int32) q_15.2).bind fun q_16 => some (q_16.1, ()) else some (q_11.1, ()) else some (s, ())) = some (s', ()) ∧ DB C s' at_ M ∧ BF s s' := fun s at_ M hD => ⟨s, by rw [if_neg (D_bad hD)], hD, BF.rfl_⟩
  have T7 : ∀ (s : bS) (at_ M : Nat), DB C s at_ M → M < 150 → ∃ s', ((bf_expression n s (0 : Int32)).bind fun q_7 => (bf_setExpr n q_7.1 (1 : Int32) q_7.2).bind fun q_8 => (bf_setArg n q_8.1 (1 : Int32) (0 : Int32)).bind fun q_9 => if q_9.1.1 7 = 0 then (bf_look n q_9.1).bind fun q_11 => if q_11.2 = (83 : Int32) then (bf_takeWord n q_11.1 (19 : Int32) (19 : Int32)).bind fun q_13 => (bf_setArg n q_13.1 (1 : Int32) (1 : Int32)).bind fun q_14 => (bf_expression n q_14.1 (0 : Int32)).bind fun q_15 => (bf_setExpr n q_15.1 (2 : Int32) q_15.2).bind fun q_16 => some (q_16.1, ()) else some (q_11.1, ()) else some (q_9.1, ())) = some (s', ()) ∧ DB C s' at_ (M + 1) ∧ BF s s' := by
    intro s at_ M hD hM
    obtain ⟨s2, v2, e2, g3, g4⟩ := D_expr (n := n) (x1 := 0) hD hn (by omega)
    obtain ⟨s', e, h1, h2⟩ := T9 (sA (sA s2 13 (96 + 1) v2) 12 (192 + 1) 0) at_ (M + 1) ((g3.set (by decide)).set (by decide))
    exact ⟨s', by rw [ob e2, ob (b_setExpr (k := 1) (by omega)), ob (b_setArg (k := 1) (by omega))]; exact e, h1, g4.trans ((BF.e (by omega)).trans ((BF.a (by omega)).trans h2))⟩
  have T6 : ∀ (s : bS) (at_ M : Nat), DM C s at_ M → at_ ≤ C.N → M < 150 → ∃ s', ((bf_takeWord n s (18 : Int32) (18 : Int32)).bind fun q_6 => (bf_expression n q_6.1 (0 : Int32)).bind fun q_7 => (bf_setExpr n q_7.1 (1 : Int32) q_7.2).bind fun q_8 => (bf_setArg n q_8.1 (1 : Int32) (0 : Int32)).bind fun q_9 => if q_9.1.1 7 = 0 then (bf_look n q_9.1).bind fun q_11 => if q_11.2 = (83 : Int32) then (bf_takeWord n q_11.1 (19 : Int32) (19 : Int32)).bind fun q_13 => (bf_setArg n q_13.1 (1 : Int32) (1 : Int32)).bind fun q_14 => (bf_expression n q_14.1 (0 : Int32)).bind fun q_15 => (bf_setExpr n q_15.1 (2 : Int32) q_15.2).bind fun q_16 => some (q_16.1, ()) else some (q_11.1, ()) else some (q_9.1, ())) = some (s', ()) ∧ DB C s' at_ (M + 1) ∧ BF s s' := by
    intro s at_ M hD ha hM
    obtain ⟨s1, e1, g1, g2⟩ := D_word (n := n) (lo := 18) (c := 1) (x := 18) (y := 18) ok hD ha (by omega) (by omega) hn
    obtain ⟨s', e, h1, h2⟩ := T7 s1 at_ M g1 hM
    exact ⟨s', by rw [ob e1]; exact e, h1, g2.trans h2⟩
  have T4 : ∀ (s : bS) (at_ M : Nat), DB C s at_ M → at_ ≤ C.N → M < 140 → ∃ s', ((bf_expression n s (0 : Int32)).bind fun q_4 => (bf_setExpr n q_4.1 (0 : Int32) q_4.2).bind fun q_5 => (bf_takeWord n q_5.1 (18 : Int32) (18 : Int32)).bind fun q_6 => (bf_expression n q_6.1 (0 : Int32)).bind fun q_7 => (bf_setExpr n q_7.1 (1 : Int32) q_7.2).bind fun q_8 => (bf_setArg n q_8.1 (1 : Int32) (0 : Int32)).bind fun q_9 => if q_9.1.1 7 = 0 then (bf_look n q_9.1).bind fun q_11 => if q_11.2 = (83 : Int32) then (bf_takeWord n q_11.1 (19 : Int32) (19 : Int32)).bind fun q_13 => (bf_setArg n q_13.1 (1 : Int32) (1 : Int32)).bind fun q_14 => (bf_expression n q_14.1 (0 : Int32)).bind fun q_15 => (bf_setExpr n q_15.1 (2 : Int32) q_15.2).bind fun q_16 => some (q_16.1, ()) else some (q_11.1, ()) else some (q_9.1, ())) = some (s', ()) ∧ DB C s' at_ (M + 2) ∧ BF s s' := by
    intro s at_ M hD ha hM
    obtain ⟨s2, v2, e2, g3, g4⟩ := D_expr (n := n) (x1 := 0) hD hn (by omega)
    obtain ⟨s', e, h1, h2⟩ := T6 (sA s2 13 (96 + 0) v2) at_ (M + 1) (g3.m.set (by decide)) ha (by omega)
    exact ⟨s', by rw [ob e2, ob (b_setExpr (k := 0) (by omega))]; exact e, h1, g4.trans ((BF.e (by omega)).trans h2)⟩
  rw [ob (A_cls hA)]
  by_cases hv : isV (ch C a)
  · have hin := ch_in (C := C) (i := a) (by have := hv.1; omega)
    have hA1 : PA C (ps C σ (a + 1) 0 0) (a + 1) 0 0 := hA.ps
    rw [ox (A_variable_t ok hA (by omega) hv), ob (A_cls hA1), ob (b_variable_t ok hP (by omega) hv), ob (b_setArg (k := 0) (by omega))]
    generalize hvv : ch C a - 65 = vv
    have hv26 : vv < 26 := by have := hv.2.1; omega
    have hP1 : BP C (sA (sI st 4 (c32 (a + 1))) 12 (192 + 0) (c32 vv)) (a + 1) 0 0 := BP.set hP.p (by decide)
    have hM1 : BM (sA (sI st 4 (c32 (a + 1))) 12 (192 + 0) (c32 vv)) cs := BM.set (st := sI st 4 (c32 (a + 1))) hM (by decide)
    have hF1 : BF st (sA (sI st 4 (c32 (a + 1))) 12 (192 + 0) (c32 vv)) := BE.i4.f.trans (BF.a (by omega))
    have hv1 : (sA (sI st 4 (c32 (a + 1))) 12 (192 + 0) (c32 vv)).2.1 12 192 = c32 vv := by rw [sA_at, if_pos rfl, if_pos rfl]
    dsimp only
    generalize sA (sI st 4 (c32 (a + 1))) 12 (192 + 0) (c32 vv) = s1 at *
    by_cases h61 : ch C (a + 1) = 61
    · have hin1 := ch_in (C := C) (i := a + 1) (by omega)
      rw [ox (A_take_t (c := 61) ok hA1 (by omega) h61), ps_ps, ob (b_need_t (c := 61) ok hP1 (by omega) h61)]
      have hA2 : PA C (ps C σ (a + 1 + 1) 0 0) (a + 2) 0 0 := hA.ps
      have hx2 : Ext C.P σ (ps C σ (a + 1 + 1) 0 0) := Ext.mvP
      have hP2 : BP C (sI s1 4 (c32 (a + 1 + 1))) (a + 2) 0 0 := hP1.p
      have hM2 : BM (sI s1 4 (c32 (a + 1 + 1))) cs := hM1
      have hF2 : BF st (sI s1 4 (c32 (a + 1 + 1))) := hF1.trans BE.i4.f
      have hv2 : (sI s1 4 (c32 (a + 1 + 1))).2.1 12 192 = c32 vv := hv1
      dsimp only
      generalize sI s1 4 (c32 (a + 1 + 1)) = s2 at *
      rw [ob (A_cls hA2)]
      rcases E_top (n := n) (x1 := 0) ok hS hn hA2 hP2 hM2 (by omega) (by omega) (by omega) (Or.inl rfl) with ⟨at1, l1, q1, q2, ⟨σ1, r1, e1, hA3, hx3, t1, t2, hex1⟩, hnop1, s3, e2, hP3, hM3, hE3, hb3⟩ | ⟨at1, q1, q2, ⟨σ1, op1, go1, e1, hA3, hx3, t1, t2⟩, s3, e2, hD3, hF3⟩
      · have t1 : σ1.1 ≤ σ.1 + (at1 - (a + 2)) := t1
        have t2 : σ1.2.1 ≤ σ.2.1 + 3 * (at1 - (a + 2)) := t2
        have hs1 : σ.1 ≤ σ1.1 := hx3.1
        rw [ox e1, ob (A_cls hA3), ob e2, ob (b_setExpr (k := 0) (by omega))]
        have hl1 : (cs ++ (l1 ++ [14])).length = cs.length + (l1.length + 1) := by simp
        have hP4 : BP C (sA s3 13 (96 + 0) (c32 cs.length)) at1 0 0 := hP3.set (by decide)
        have hM4 : BM (sA s3 13 (96 + 0) (c32 cs.length)) (cs ++ (l1 ++ [14])) := hM3.set (by decide)
        have hF4 : BF st (sA s3 13 (96 + 0) (c32 cs.length)) := hF2.trans (hE3.f.trans (BF.e (by omega)))
        have hw4 : (sA s3 13 (96 + 0) (c32 cs.length)).2.1 13 (96 + 0) = c32 cs.length := by rw [sA_at, if_pos rfl, if_pos rfl]
        have hv4 : (sA s3 13 (96 + 0) (c32 cs.length)).2.1 12 192 = c32 vv := by rw [sA_ne _ (by decide), hE3.2.1 12 (by decide) (by decide)]; exact hv2
        dsimp only
        generalize sA s3 13 (96 + 0) (c32 cs.length) = s4 at *
        rcases W_one (n := n) (i := 22) (w := 18) ok hS hn (by omega) (by omega) wb_17.2.1 hA3 hP4 q2 (x := 18) with ⟨y1, y2, y3⟩ | ⟨at3, y0, y1, y2, y3⟩
        · rw [wb_17l.2.1] at y1 y2 y3
          have hA5 : PA C (ps C σ1 (at1 + 2) 0 0) (at1 + 2) 0 0 := hA3.ps
          have hP5 : BP C (sI s4 4 (c32 (at1 + 2))) (at1 + 2) 0 0 := hP4.p
          have hM5 : BM (sI s4 4 (c32 (at1 + 2))) (cs ++ (l1 ++ [14])) := hM4
          rw [ox y2, ob (A_cls hA5), ob y3]
          dsimp only
          rcases E_top (n := n) (x1 := 0) ok hS hn hA5 hP5 hM5 (by omega) y1 (by omega) (Or.inl rfl) with ⟨at2, l2, p1, p2, ⟨σ2, r2, e3, hA6, hx6, u1, u2, hex2⟩, hnop2, s6, e4, hP6, hM6, hE6, hb6⟩ | ⟨at2, p1, p2, ⟨σ2, op2, go2, e3, hA6, hx6, u1, u2⟩, s6, e4, hD6, hF6⟩
          · have u1 : σ2.1 ≤ σ1.1 + (at2 - (at1 + 2)) := u1
            have u2 : σ2.2.1 ≤ σ1.2.1 + 3 * (at2 - (at1 + 2)) := u2
            have hs2 : σ1.1 ≤ σ2.1 := hx6.1
            have hl2 : (cs ++ (l1 ++ [14]) ++ (l2 ++ [14])).length = cs.length + (l1.length + 1) + (l2.length + 1) := by simp; omega
            rw [ox e3, ob (A_at hA6), ob (A_len hA6), ob e4, ob (b_setExpr (k := 1) (by omega)), ob (b_setArg (k := 1) (by omega))]
            have hP7 : BP C (sA (sA s6 13 (96 + 1) (c32 (cs ++ (l1 ++ [14])).length)) 12 (192 + 1) 0) at2 0 0 := (hP6.set (by decide)).set (by decide)
            have hM7 : BM (sA (sA s6 13 (96 + 1) (c32 (cs ++ (l1 ++ [14])).length)) 12 (192 + 1) 0) (cs ++ (l1 ++ [14]) ++ (l2 ++ [14])) := (hM6.set (by decide)).set (by decide)
            have hF7 : BF st (sA (sA s6 13 (96 + 1) (c32 (cs ++ (l1 ++ [14])).length)) 12 (192 + 1) 0) := (hF4.trans (BE.i4.f.trans hE6.f)).trans ((BF.e (by omega)).trans (BF.a (by omega)))
            have hw7 : (sA (sA s6 13 (96 + 1) (c32 (cs ++ (l1 ++ [14])).length)) 12 (192 + 1) 0).2.1 13 (96 + 0) = c32 cs.length := by rw [sA_ne _ (by decide), sA_at, if_pos rfl, if_neg (by decide), hE6.2.1 13 (by decide) (by decide)]; exact hw4
            have hw71 : (sA (sA s6 13 (96 + 1) (c32 (cs ++ (l1 ++ [14])).length)) 12 (192 + 1) 0).2.1 13 (96 + 1) = c32 (cs ++ (l1 ++ [14])).length := by rw [sA_ne _ (by decide), sA_at, if_pos rfl, if_pos rfl]
            have hv70 : (sA (sA s6 13 (96 + 1) (c32 (cs ++ (l1 ++ [14])).length)) 12 (192 + 1) 0).2.1 12 192 = c32 vv := by rw [sA_at, if_pos rfl, if_neg (by decide), sA_ne _ (by decide), hE6.2.1 12 (by decide) (by decide)]; exact hv4
            have hv71 : (sA (sA s6 13 (96 + 1) (c32 (cs ++ (l1 ++ [14])).length)) 12 (192 + 1) 0).2.1 12 193 = 0 := by rw [sA_at, if_pos rfl, if_pos rfl]
            dsimp only
            generalize sA (sA s6 13 (96 + 1) (c32 (cs ++ (l1 ++ [14])).length)) 12 (192 + 1) 0 = s7 at *
            rw [if_pos hP7.2.2.2.2, ob (b_look ok hP7 (by omega))]
            dsimp only
            have hcl2 := ch_lt ok at2
            have hx02 : Ext C.P σ σ2 := (hx2.trans hx3).trans (Ext.mvP.trans hx6)
            by_cases hend : at2 < C.N
            · rw [if_pos (by exact (c_lt (by omega) (by omega)).mpr hend), ob (A_cls hA6)]
              rcases W_one (n := n) (i := 23) (w := 19) ok hS hn (by omega) (by omega) wb_17.2.2.1 hA6 hP7 p2 (x := 19) with ⟨y4, y5, y6⟩ | ⟨at4, y4, y4', y5, y6⟩
              · rw [wb_17l.2.2.1] at y4 y5 y6
                have hS83 : ch C at2 = 83 := by
                  apply Classical.byContradiction
                  intro z
                  have hbad : mt C (wb 19) at2 = 0 := by
                    have : wb 19 = [83, 84, 69, 80] := rfl
                    rw [this]
                    unfold mt
                    rw [if_neg z]
                  have y5' := A_take2_f (n := n) ok hS (i := 23) (by omega) hA6 p2 (by omega) (by rw [wb_17.2.2.1, hbad, wb_17l.2.2.1]; omega)
                  rw [y5] at y5'
                  have y9 := congrArg Prod.snd (Option.some.inj y5')
                  cases y9
                rw [if_pos (by rw [hS83]; rfl), ox y5, ob (nO_eq _ _ _ _), ob y6, ob (b_setArg (k := 1) (by omega))]
                have hA8 : PA C (nw (ps C σ2 (at2 + 4) 0 0) (.inr (18, [.int 0, .null, .null, .null])) 4) (at2 + 4) 0 0 := hA6.ps.nwc
                have hx8 : Ext C.P σ2 (nw (ps C σ2 (at2 + 4) 0 0) (.inr (18, [.int 0, .null, .null, .null])) 4) := Ext.mvP.trans Ext.nwc
                have hP8 : BP C (sA (sI s7 4 (c32 (at2 + 4))) 12 (192 + 1) 1) (at2 + 4) 0 0 := BP.set hP7.p (by decide)
                have hM8 : BM (sA (sI s7 4 (c32 (at2 + 4))) 12 (192 + 1) 1) (cs ++ (l1 ++ [14]) ++ (l2 ++ [14])) := BM.set (st := sI s7 4 (c32 (at2 + 4))) hM7 (by decide)
                have hF8 : BF st (sA (sI s7 4 (c32 (at2 + 4))) 12 (192 + 1) 1) := hF7.trans (BE.i4.f.trans (BF.a (by omega)))
                have hw8 : (sA (sI s7 4 (c32 (at2 + 4))) 12 (192 + 1) 1).2.1 13 = s7.2.1 13 := sA_ne _ (by decide)
                have hv80 : (sA (sI s7 4 (c32 (at2 + 4))) 12 (192 + 1) 1).2.1 12 192 = c32 vv := by rw [sA_at, if_pos rfl, if_neg (by decide)]; exact hv70
                have hv81 : (sA (sI s7 4 (c32 (at2 + 4))) 12 (192 + 1) 1).2.1 12 193 = 1 := by rw [sA_at, if_pos rfl, if_pos rfl]
                dsimp only
                generalize sA (sI s7 4 (c32 (at2 + 4))) 12 (192 + 1) 1 = s8 at *
                rw [ob (A_cls hA8)]
                have hne0 := hA.ne (q := σ2.1) (by omega)
                rcases E_top (n := n) (x1 := 0) ok hS hn hA8 hP8 hM8 (by omega) y4 (by omega) (Or.inl rfl) with ⟨at5, l3, p3, p4, ⟨σ3, r3, e5, hA9, hx9, w1, w2, hex3⟩, hnop3, s9, e6, hP9, hM9, hE9, hb9⟩ | ⟨at5, p3, p4, ⟨σ3, op3, go3, e5, hA9, hx9, w1, w2⟩, s9, e6, hD9, hF9⟩
                · have w1 : σ3.1 ≤ σ2.1 + 1 + (at5 - (at2 + 4)) := w1
                  have w2 : σ3.2.1 ≤ σ2.2.1 + 4 + 3 * (at5 - (at2 + 4)) := w2
                  have hs3 : σ2.1 + 1 ≤ σ3.1 := hx9.1
                  have hcell : σ3.2.2 σ2.1 = some (.inr (18, [.int 0, .null, .null, .null])) := by
                    rw [hx9.2 σ2.1 (by show σ2.1 < σ2.1 + 1; omega) hne0.1]
                    exact nw_at _ _ _
                  rw [ox e5]
                  have e9 : af_X19_init n C.S σ3 (ps C σ2 (at2 + 4) 0 0).1 (c32 vv) (some r1) (some r2) (some r3) = some (mv σ3 σ2.1 (.inr (18, [.int (c32 vv), .ref r1, .ref r2, .ref r3])), ()) := i_X19 hcell
                  rw [oc e9, ob e6, ob (b_setExpr (k := 2) (by omega))]
                  have hl3 : (cs ++ (l1 ++ [14]) ++ (l2 ++ [14]) ++ (l3 ++ [14])).length = cs.length + (l1.length + 1) + (l2.length + 1) + (l3.length + 1) := by simp; omega
                  have hMx : BM (sA s9 13 (96 + 2) (c32 (cs ++ (l1 ++ [14]) ++ (l2 ++ [14])).length)) (cs ++ (l1 ++ [14]) ++ (l2 ++ [14]) ++ (l3 ++ [14])) := hM9.set (by decide)
                  have hxx : Ext C.P σ2 (mv σ3 σ2.1 (.inr (18, [.int (c32 vv), .ref r1, .ref r2, .ref r3]))) := (hx8.trans hx9).new (Nat.le_refl _)
                  refine Or.inl ⟨at5, _, σ2.1, _, _, p4, rfl, ⟨_, _, hA9.mvq hne0.1 hne0.2.1 hne0.2.2⟩, hx02.trans hxx, by show σ3.1 ≤ _; omega, by show σ3.2.1 ≤ _; omega, rfl, ⟨_, hP9.set (by decide)⟩, hMx, by omega, hF8.trans (hE9.f.trans (BF.e (by omega))), ?_⟩
                  have heq1 : cs ++ ((l1 ++ [14]) ++ ((l2 ++ [14]) ++ (l3 ++ [14]))) = cs ++ (l1 ++ [14]) ++ (l2 ++ [14]) ++ (l3 ++ [14]) := by simp
                  have heq2 : cs ++ (l1 ++ [14]) ++ ((l2 ++ [14]) ++ (l3 ++ [14])) = cs ++ (l1 ++ [14]) ++ (l2 ++ [14]) ++ (l3 ++ [14]) := by simp
                  have hvx : (sA s9 13 (96 + 2) (c32 (cs ++ (l1 ++ [14]) ++ (l2 ++ [14])).length)).2.1 12 = s8.2.1 12 := by rw [sA_ne _ (by decide), hE9.2.1 12 (by decide) (by decide)]
                  refine ⟨vv, r1, r2, _, hi_at (mv_at _ _ _) (by omega) (by show σ2.1 < σ3.1; omega), hv26, by show _ = _; dsimp only; rw [hvx]; exact hv80, ⟨l1, ?_, by omega, ?_⟩, ⟨l2, ?_, by omega, ?_⟩, Or.inr ⟨r3, rfl, by show _ = _; dsimp only; rw [hvx]; exact hv81, l3, ?_, by omega, ?_⟩⟩
                  · exact (ex.map (hi_le ((Ext.mvP.trans hx6).trans hxx) hPlt (Nat.le_refl _)) _ _ _ hex1).up (by omega)
                  · have h7 := R24_of (cs := cs) (l := l1 ++ [14]) (x := (l2 ++ [14]) ++ (l3 ++ [14])) (i := 0) (st := sA s9 13 (96 + 2) (c32 (cs ++ (l1 ++ [14]) ++ (l2 ++ [14])).length)) (by rw [heq1]; exact hMx) (by rw [sA_at, if_pos rfl, if_neg (by decide), hE9.2.1 13 (by decide) (by decide), hw8]; exact hw7)
                    rw [heq1] at h7
                    exact h7
                  · exact (ex.map (hi_le hxx (by show C.P < σ1.1; omega) (by show σ.1 ≤ σ1.1; omega)) _ _ _ hex2).up (by omega)
                  · have h7 := R24_of (cs := cs ++ (l1 ++ [14])) (l := l2 ++ [14]) (x := l3 ++ [14]) (i := 1) (st := sA s9 13 (96 + 2) (c32 (cs ++ (l1 ++ [14]) ++ (l2 ++ [14])).length)) (by rw [heq2]; exact hMx) (by rw [sA_at, if_pos rfl, if_neg (by decide), hE9.2.1 13 (by decide) (by decide), hw8]; exact hw71)
                    rw [heq2] at h7
                    exact h7
                  · exact (ex.map (hi_mv (by show σ2.1 < σ2.1 + 1; omega) (by show σ.1 ≤ σ2.1 + 1; omega)) _ _ _ hex3).up (by omega)
                  · have h7 := R24_of (cs := cs ++ (l1 ++ [14]) ++ (l2 ++ [14])) (l := l3 ++ [14]) (x := []) (i := 2) (st := sA s9 13 (96 + 2) (c32 (cs ++ (l1 ++ [14]) ++ (l2 ++ [14])).length)) (by rw [List.append_nil]; exact hMx) (by rw [sA_at, if_pos rfl, if_pos rfl])
                    rw [List.append_nil] at h7
                    exact h7
                · have w1 : σ3.1 ≤ σ2.1 + 1 + (at5 - (at2 + 4)) + 2 := w1
                  have w2 : σ3.2.1 ≤ σ2.2.1 + 4 + 3 * (at5 - (at2 + 4)) + 9 := w2
                  rw [oxr e5, ob e6, ob (b_setExpr (k := 2) (by omega))]
                  exact Or.inr ⟨at5, _, _, p4, rfl, ⟨_, _, hA9⟩, hx02.trans (hx8.trans hx9), by omega, by omega, rfl, DM.e ((hD9.set (by decide)).up (by omega)), hF8.trans (hF9.trans (BF.e (by omega)))⟩
              · by_cases hS83 : ch C at2 = 83
                · have hD : DB C (sA (sI (sI s7 4 (c32 at4)) 7 1) 12 (192 + 1) 1) at4 130 := ⟨0, (cs ++ (l1 ++ [14]) ++ (l2 ++ [14])).length, BP.set hP7.p.b (by decide), (by exact hM7.1), by omega⟩
                  obtain ⟨s9, v9, e9, hD9, hF9⟩ := D_expr (n := n) (x1 := 0) hD hn (by omega)
                  rw [if_pos (by rw [hS83]; rfl), oxr y5, ob y6, ob (b_setArg (k := 1) (by omega))]
                  dsimp only
                  rw [ob e9, ob (b_setExpr (k := 2) (by omega))]
                  exact Or.inr ⟨at4, _, _, y4', rfl, ⟨_, _, hA6.ps.th⟩, (hx02.trans Ext.mvP).th, by show σ2.1 + 1 ≤ _; omega, by show σ2.2.1 + 6 ≤ _; omega, rfl, DM.e ((hD9.m.set (by decide)).up (by omega)), (hF7.trans ((BE.i4.trans BE.i7).f.trans (BF.a (by omega)))).trans (hF9.trans (BF.e (by omega)))⟩
                · have hbad : mt C (wb 19) at2 = 0 := by
                    have : wb 19 = [83, 84, 69, 80] := rfl
                    rw [this]
                    unfold mt
                    rw [if_neg hS83]
                  have y7 := A_take2_f (n := n) ok hS (i := 23) (by omega) hA6 p2 (by omega) (by rw [wb_17.2.2.1, hbad, wb_17l.2.2.1]; omega)
                  rw [wb_17.2.2.1, hbad, Nat.add_zero] at y7
                  rw [if_neg (by exact n_c (b := 83) (by omega) (by omega) hS83), oxr y7]
                  exact Or.inr ⟨at2, _, s7, p2, rfl, ⟨_, _, hA6.ps.th⟩, (hx02.trans Ext.mvP).th, by show σ2.1 + 1 ≤ _; omega, by show σ2.2.1 + 6 ≤ _; omega, rfl, ⟨0, _, 0, hP7, Or.inr ⟨rfl, hend⟩, hM7.1, by omega⟩, hF7⟩
            · have h0 : ch C at2 = 0 := ch_end (by omega)
              have hne0 := hA.ne (q := σ2.1) (by omega)
              rw [if_neg (fun z => hend (by exact (c_lt (by omega) (by omega)).mp z)), ob (nO_eq _ _ _ _), if_neg (by rw [h0]; decide)]
              have hcell : (nw σ2 (.inr (18, [.int 0, .null, .null, .null])) 4).2.2 σ2.1 = some (.inr (18, [.int 0, .null, .null, .null])) := nw_at _ _ _
              have e9 : af_X19_init n C.S (nw σ2 (.inr (18, [.int 0, .null, .null, .null])) 4) σ2.1 (c32 vv) (some r1) (some r2) none = some (mv (nw σ2 (.inr (18, [.int 0, .null, .null, .null])) 4) σ2.1 (.inr (18, [.int (c32 vv), .ref r1, .ref r2, .null])), ()) := i_X19 hcell
              rw [oc e9]
              have hxx : Ext C.P σ2 (mv (nw σ2 (.inr (18, [.int 0, .null, .null, .null])) 4) σ2.1 (.inr (18, [.int (c32 vv), .ref r1, .ref r2, .null]))) := Ext.nwc.new (Nat.le_refl _)
              refine Or.inl ⟨at2, _, σ2.1, s7, _, p2, rfl, ⟨0, 0, PA.mvq hA6.nwc hne0.1 hne0.2.1 hne0.2.2⟩, hx02.trans hxx, by show σ2.1 + 1 ≤ _; omega, by show σ2.2.1 + 4 ≤ _; omega, rfl, ⟨_, hP7⟩, hM7, by omega, hF7, ?_⟩
              refine ⟨vv, r1, r2, .null, hi_at (mv_at _ _ _) (by omega) (by show σ2.1 < σ2.1 + 1; omega), hv26, hv70, ⟨l1, ?_, by omega, ?_⟩, ⟨l2, ?_, by omega, ?_⟩, Or.inl ⟨rfl, hv71⟩⟩
              · exact (ex.map (hi_le ((Ext.mvP.trans hx6).trans hxx) hPlt (Nat.le_refl _)) _ _ _ hex1).up (by omega)
              · have h7 := R24_of (cs := cs) (l := l1 ++ [14]) (x := l2 ++ [14]) (i := 0) (by rw [← List.append_assoc]; exact hM7) hw7
                rw [← List.append_assoc] at h7
                exact h7
              · exact (ex.map (hi_le hxx (by show C.P < σ1.1; omega) (by show σ.1 ≤ σ1.1; omega)) _ _ _ hex2).up (by omega)
              · have h7 := R24_of (cs := cs ++ (l1 ++ [14])) (l := l2 ++ [14]) (x := []) (i := 1) (by rw [List.append_nil]; exact hM7) hw71
                rw [List.append_nil] at h7
                exact h7
          · have u1 : σ2.1 ≤ σ1.1 + (at2 - (at1 + 2)) + 2 := u1
            have u2 : σ2.2.1 ≤ σ1.2.1 + 3 * (at2 - (at1 + 2)) + 9 := u2
            rw [oxr e3, ob e4, ob (b_setExpr (k := 1) (by omega)), ob (b_setArg (k := 1) (by omega))]
            have hD7 : DM C (sA (sA s6 13 (96 + 1) (c32 (cs ++ (l1 ++ [14])).length)) 12 (192 + 1) 0) at2 (2 * at2 + 10) := (hD6.set (by decide)).set (by decide)
            have hF7 : BF st (sA (sA s6 13 (96 + 1) (c32 (cs ++ (l1 ++ [14])).length)) 12 (192 + 1) 0) := (hF4.trans (BE.i4.f.trans hF6)).trans ((BF.e (by omega)).trans (BF.a (by omega)))
            dsimp only
            generalize sA (sA s6 13 (96 + 1) (c32 (cs ++ (l1 ++ [14])).length)) 12 (192 + 1) 0 = s7 at *
            have hx02 : Ext C.P σ σ2 := (hx2.trans hx3).trans (Ext.mvP.trans hx6)
            obtain ⟨o7, m7, b7, k1, k4, k2, k3⟩ := hD7
            rcases k4 with rfl | ⟨rfl, hd⟩
            · rw [if_neg (by rw [k1.2.2.2.2]; exact n10)]
              exact Or.inr ⟨at2, _, s7, p2, rfl, ⟨_, _, hA6⟩, hx02, by omega, by omega, rfl, ⟨o7, m7, 1, k1, Or.inl rfl, k2, by omega⟩, hF7⟩
            · rw [if_pos k1.2.2.2.2, ob (b_look ok k1 (by omega))]
              dsimp only
              rw [if_neg (by exact n_c (b := 83) (by have := ch_lt ok at2; omega) (by omega) (by unfold dig at hd; omega))]
              exact Or.inr ⟨at2, _, s7, p2, rfl, ⟨_, _, hA6⟩, hx02, by omega, by omega, rfl, DM.e ⟨o7, m7, 0, k1, Or.inr ⟨rfl, hd⟩, k2, by omega⟩, hF7⟩
        · have hD : DB C (sI (sI s4 4 (c32 at3)) 7 1) at3 130 := ⟨0, (cs ++ (l1 ++ [14])).length, hP4.p.b, (by exact hM4.1), by omega⟩
          obtain ⟨s', e, g1, g2⟩ := T7 _ _ _ hD (by omega)
          rw [oxr y2, ob y3]
          dsimp only
          exact KN_of rfl y1 ⟨_, _, hA3.ps.th⟩ ((hx2.trans hx3).trans Ext.mvP).th (by show σ1.1 + 1 ≤ _; omega) (by show σ1.2.1 + 6 ≤ _; omega) e g1 (by omega) hF4 ((BE.i4.trans BE.i7).f.trans g2)
      · have t1 : σ1.1 ≤ σ.1 + (at1 - (a + 2)) + 2 := t1
        have t2 : σ1.2.1 ≤ σ.2.1 + 3 * (at1 - (a + 2)) + 9 := t2
        obtain ⟨s', e, g1, g2⟩ := T6 (sA s3 13 (96 + 0) (c32 cs.length)) at1 _ (hD3.set (by decide)) q2 (by omega)
        rw [oxr e1, ob e2, ob (b_setExpr (k := 0) (by omega))]
        dsimp only
        exact KN_of rfl q2 ⟨_, _, hA3⟩ (hx2.trans hx3) (by omega) (by omega) e g1 (by omega) hF2 (hF3.trans ((BF.e (by omega)).trans g2))
    · have hD : DB C (sI s1 7 1) (a + 1) 130 := ⟨0, cs.length, hP1.b, (by exact hM1.1), by omega⟩
      obtain ⟨s', e, g1, g2⟩ := T4 _ _ _ hD (by omega) (by omega)
      rw [oxr (A_take_f (c := 61) ok hA1 (by omega) (by omega) h61), ob (b_need_f (c := 61) ok hP1 (by omega) (by omega) h61)]
      dsimp only
      exact KN_of rfl (by omega) ⟨_, _, hA1.th⟩ Ext.mvP.th (by show σ.1 + 1 ≤ _; omega) (by show σ.2.1 + 6 ≤ _; omega) e g1 (by omega) hF1 (BE.i7.f.trans g2)
  · have hD : DB C (sA (sI st 7 1) 12 (192 + 0) 0) a 130 := ⟨0, cs.length, BP.set hP.b (by decide), (by exact hM.1), by omega⟩
    obtain ⟨s', e, g1, g2⟩ := T4 (sI (sA (sI st 7 1) 12 (192 + 0) 0) 7 1) a 130 (D_needB (n := n) (c := 61) hD).2 hp (by omega)
    rw [oxr (A_variable_f ok hA (by omega) hv), ob (b_variable_f ok hP (by omega) hv), ob (b_setArg (k := 0) (by omega))]
    dsimp only
    rw [ob (D_needB hD).1]
    dsimp only
    exact KN_of rfl hp ⟨_, _, hA.th⟩ Ext.rfl_.th (by show σ.1 + 1 ≤ _; omega) (by show σ.2.1 + 6 ≤ _; omega) e g1 (by omega) ((BE.i7.f.trans (BF.a (by omega))).trans BE.i7.f) g2
theorem K_13 (ok : pOk C) (hS : sInj C.S) (hn : 1000 ≤ n) (J : JS C σ st a 0 0 cs) : KO C σ (af_X3_statement_L379 n C.S σ C.P 13) st (bf_def n st) 13 := by
  have hN := ok.1
  obtain ⟨hA, hP, hM, hp, hb⟩ := J
  have hPlt := hA.2.2.2.1
  unfold af_X3_statement_L379
  rw [if_neg (by decide), if_neg (by decide), if_neg (by decide), if_neg (by decide), if_neg (by decide), if_neg (by decide), if_neg (by decide), if_neg (by decide), if_neg (by decide), if_neg (by decide), if_neg (by decide), if_neg (by decide), if_neg (by decide), if_pos rfl, ob (A_cls hA), xb_id]
  unfold af_X3_define bf_def
  rw [ob (A_cls hA)]
  -- tails, once bad
  have T7 : ∀ (s : bS) (at_ M : Nat), DB C s at_ M → M < 140 → ∃ s', ((bf_expression n s (0 : Int32)).bind fun q_7 => (bf_setExpr n q_7.1 (0 : Int32) q_7.2).bind fun q_8 => some (q_8.1, ())) = some (s', ()) ∧ DB C s' at_ (M + 1) ∧ BF s s' := by
    intro s at_ M hD hM
    obtain ⟨s2, v2, e2, g3, g4⟩ := D_expr (n := n) (x1 := 0) hD hn (by omega)
    exact ⟨_, by rw [ob e2, ob (b_setExpr (k := 0) (by omega))], g3.set (by decide), g4.trans (BF.e (by omega))⟩
  have T6 : ∀ (s : bS) (at_ M : Nat), DB C s at_ M → M < 140 → ∃ s', ((bf_need n s (61 : Int32)).bind fun q_6 => (bf_expression n q_6.1 (0 : Int32)).bind fun q_7 => (bf_setExpr n q_7.1 (0 : Int32) q_7.2).bind fun q_8 => some (q_8.1, ())) = some (s', ()) ∧ DB C s' at_ (M + 1) ∧ BF s s' := by
    intro s at_ M hD hM
    obtain ⟨s', e, h1, h2⟩ := T7 (sI s 7 1) at_ M (D_needB (n := n) (c := 61) hD).2 hM
    exact ⟨s', by rw [ob (D_needB hD).1]; exact e, h1, BE.i7.f.trans h2⟩
  have T5 : ∀ (s : bS) (at_ M : Nat), DB C s at_ M → M < 140 → ∃ s', ((bf_need n s (41 : Int32)).bind fun q_5 => (bf_need n q_5.1 (61 : Int32)).bind fun q_6 => (bf_expression n q_6.1 (0 : Int32)).bind fun q_7 => (bf_setExpr n q_7.1 (0 : Int32) q_7.2).bind fun q_8 => some (q_8.1, ())) = some (s', ()) ∧ DB C s' at_ (M + 1) ∧ BF s s' := by
    intro s at_ M hD hM
    obtain ⟨s', e, h1, h2⟩ := T6 (sI s 7 1) at_ M (D_needB (n := n) (c := 41) hD).2 hM
    exact ⟨s', by rw [ob (D_needB hD).1]; exact e, h1, BE.i7.f.trans h2⟩
  have T3 : ∀ (s : bS) (at_ M : Nat), DB C s at_ M → at_ ≤ 60 → M < 140 → ∃ s', ((bf_variable n s).bind fun q_3 => (bf_setArg n q_3.1 (1 : Int32) q_3.2).bind fun q_4 => (bf_need n q_4.1 (41 : Int32)).bind fun q_5 => (bf_need n q_5.1 (61 : Int32)).bind fun q_6 => (bf_expression n q_6.1 (0 : Int32)).bind fun q_7 => (bf_setExpr n q_7.1 (0 : Int32) q_7.2).bind fun q_8 => some (q_8.1, ())) = some (s', ()) ∧ DB C s' at_ (M + 1) ∧ BF s s' := by
    intro s at_ M hD ha hM
    obtain ⟨s', e, h1, h2⟩ := T5 (sA (sI s 7 1) 12 (192 + 1) 0) at_ M ((D_variable (n := n) ok hD ha).2.set (by decide)) hM
    exact ⟨s', by rw [ob (D_variable (n := n) ok hD ha).1, ob (b_setArg (k := 1) (by omega))]; exact e, h1, (BE.i7.f.trans (BF.a (by omega))).trans h2⟩
  have T51 : ∀ (s : bS) (at_ M : Nat) (x : Int32), DB C s at_ M → at_ ≤ 60 → M < 140 → ∃ s', bf_def_L51 n s x = some (s', ()) ∧ DB C s' at_ (M + 1) ∧ BF s s' := by
    intro s at_ M x hD ha hM
    have hD1 : DB C (sA s 12 (192 + 0) (x - 65)) at_ M := hD.set (by decide)
    obtain ⟨s', e, h1, h2⟩ := T3 (sI (sA s 12 (192 + 0) (x - 65)) 7 1) at_ M (D_needB (n := n) (c := 40) hD1).2 ha hM
    refine ⟨s', ?_, h1, ((BF.a (by omega)).trans BE.i7.f).trans h2⟩
    unfold bf_def_L51
    rw [ob (b_setArg (k := 0) (by omega))]
    dsimp only
    rw [ob (D_needB hD1).1]
    exact e
  rcases W_one (n := n) (i := 20) (w := 27) ok hS hn (by omega) (by omega) wb_17.2.2.2.1 hA hP hp (x := 27) with ⟨y1, y2, y3⟩ | ⟨at3, y0, y1, y2, y3⟩
  · rw [wb_17l.2.2.2.1] at y1 y2 y3
    have hA1 : PA C (ps C σ (a + 2) 0 0) (a + 2) 0 0 := hA.ps
    have hP1 : BP C (sI st 4 (c32 (a + 2))) (a + 2) 0 0 := hP.p
    have hcl := ch_lt ok (a + 2)
    rw [ox y2, ob (A_cls hA1), ob y3]
    dsimp only
    rw [ob (b_look ok hP1 (by omega))]
    dsimp only
    by_cases hf : 65 ≤ ch C (a + 2) ∧ ch C (a + 2) ≤ 67
    · have hin := ch_in (C := C) (i := a + 2) (by omega)
      rw [ox (A_fname_t ok hA1 (by omega) hf), ps_ps, if_neg (fun z => by have := (c_lt (a := ch C (a + 2)) (b := 65) (by omega) (by omega)).mp z; omega), if_pos (by exact (c_le (a := ch C (a + 2)) (b := 67) (by omega) (by omega)).mpr hf.2), if_pos (by exact hP1.2.2.2.2)]
      have hA2 : PA C (ps C σ (a + 2 + 1) 0 0) (a + 3) 0 0 := hA.ps
      rw [ob (A_cls hA2)]
      show KO C σ _ st (bf_def_L51 n (sI (sI st 4 (c32 (a + 2))) 4 (c32 (a + 2) + c32 1)) (c32 (ch C (a + 2)))) 13
      rw [sI_sI, c_add]
      unfold bf_def_L51
      rw [ob (b_setArg (k := 0) (by omega))]
      have e65 : c32 (ch C (a + 2)) - 65 = c32 (ch C (a + 2) - 65) := c_sub (b := 65) hf.1
      rw [e65]
      generalize hff : ch C (a + 2) - 65 = ff
      have hff3 : ff < 3 := by omega
      have hP2 : BP C (sA (sI st 4 (c32 (a + 2 + 1))) 12 (192 + 0) (c32 ff)) (a + 3) 0 0 := BP.set hP.p (by decide)
      have hM2 : BM (sA (sI st 4 (c32 (a + 2 + 1))) 12 (192 + 0) (c32 ff)) cs := BM.set (st := sI st 4 (c32 (a + 2 + 1))) hM (by decide)
      have hF2 : BF st (sA (sI st 4 (c32 (a + 2 + 1))) 12 (192 + 0) (c32 ff)) := BE.i4.f.trans (BF.a (by omega))
      have hv2 : (sA (sI st 4 (c32 (a + 2 + 1))) 12 (192 + 0) (c32 ff)).2.1 12 192 = c32 ff := by rw [sA_at, if_pos rfl, if_pos rfl]
      dsimp only
      generalize sA (sI st 4 (c32 (a + 2 + 1))) 12 (192 + 0) (c32 ff) = s2 at *
      by_cases h40 : ch C (a + 3) = 40
      · have hin3 := ch_in (C := C) (i := a + 3) (by omega)
        have hA3 : PA C (ps C σ (a + 3 + 1) 0 0) (a + 4) 0 0 := hA.ps
        have hP3 : BP C (sI s2 4 (c32 (a + 3 + 1))) (a + 4) 0 0 := hP2.p
        rw [ox (A_take_t (c := 40) ok hA2 (by omega) h40), ps_ps, ob (A_cls hA3), ob (b_need_t (c := 40) ok hP2 (by omega) h40)]
        dsimp only
        by_cases hv : isV (ch C (a + 4))
        · have hin4 := ch_in (C := C) (i := a + 4) (by have := hv.1; omega)
          have hA4 : PA C (ps C σ (a + 4 + 1) 0 0) (a + 5) 0 0 := hA.ps
          rw [ox (A_variable_t ok hA3 (by omega) hv), ps_ps, ob (A_cls hA4), ob (b_variable_t ok hP3 (by omega) hv), sI_sI, ob (b_setArg (k := 1) (by omega))]
          generalize hvv : ch C (a + 4) - 65 = vv
          have hv26 : vv < 26 := by have := hv.2.1; omega
          have hP4 : BP C (sA (sI s2 4 (c32 (a + 4 + 1))) 12 (192 + 1) (c32 vv)) (a + 5) 0 0 := BP.set hP2.p (by decide)
          have hM4 : BM (sA (sI s2 4 (c32 (a + 4 + 1))) 12 (192 + 1) (c32 vv)) cs := BM.set (st := sI s2 4 (c32 (a + 4 + 1))) hM2 (by decide)
          have hF4 : BF st (sA (sI s2 4 (c32 (a + 4 + 1))) 12 (192 + 1) (c32 vv)) := hF2.trans (BE.i4.f.trans (BF.a (by omega)))
          have hv41 : (sA (sI s2 4 (c32 (a + 4 + 1))) 12 (192 + 1) (c32 vv)).2.1 12 193 = c32 vv := by rw [sA_at, if_pos rfl, if_pos rfl]
          have hv40 : (sA (sI s2 4 (c32 (a + 4 + 1))) 12 (192 + 1) (c32 vv)).2.1 12 192 = c32 ff := by rw [sA_at, if_pos rfl, if_neg (by decide)]; exact hv2
          dsimp only
          generalize sA (sI s2 4 (c32 (a + 4 + 1))) 12 (192 + 1) (c32 vv) = s4 at *
          by_cases h41 : ch C (a + 5) = 41
          · have hin5 := ch_in (C := C) (i := a + 5) (by omega)
            have hA5 : PA C (ps C σ (a + 5 + 1) 0 0) (a + 6) 0 0 := hA.ps
            have hP5 : BP C (sI s4 4 (c32 (a + 5 + 1))) (a + 6) 0 0 := hP4.p
            rw [ox (A_take_t (c := 41) ok hA4 (by omega) h41), ps_ps, ob (A_cls hA5), ob (b_need_t (c := 41) ok hP4 (by omega) h41)]
            dsimp only
            by_cases h61 : ch C (a + 6) = 61
            · have hin6 := ch_in (C := C) (i := a + 6) (by omega)
              have hA6 : PA C (nw (ps C σ (a + 6 + 1) 0 0) (.inr (24, [.int 0, .int 0, .null])) 3) (a + 7) 0 0 := hA.ps.nwc
              have hx6 : Ext C.P σ (nw (ps C σ (a + 6 + 1) 0 0) (.inr (24, [.int 0, .int 0, .null])) 3) := Ext.mvP.trans Ext.nwc
              have hP6 : BP C (sI s4 4 (c32 (a + 6 + 1))) (a + 7) 0 0 := hP4.p
              have hM6 : BM (sI s4 4 (c32 (a + 6 + 1))) cs := hM4
              have hne0 := hA.ne (q := σ.1) (by omega)
              rw [ox (A_take_t (c := 61) ok hA5 (by omega) h61), ps_ps, ob (nO_eq _ _ _ _), ob (A_cls hA6), ob (b_need_t (c := 61) ok hP5 (by omega) h61), sI_sI]
              dsimp only
              rcases E_top (n := n) (x1 := 0) ok hS hn hA6 hP6 hM6 (by omega) (by omega) (by omega) (Or.inl rfl) with ⟨at1, l1, q1, q2, ⟨σ1, r1, e1, hA7, hx7, t1, t2, hex1⟩, hnop1, s7, e2, hP7, hM7, hE7, hb7⟩ | ⟨at1, q1, q2, ⟨σ1, op1, go1, e1, hA7, hx7, t1, t2⟩, s7, e2, hD7, hF7⟩
              · have t1 : σ1.1 ≤ σ.1 + 1 + (at1 - (a + 7)) := t1
                have t2 : σ1.2.1 ≤ σ.2.1 + 3 + 3 * (at1 - (a + 7)) := t2
                have hs1 : σ.1 + 1 ≤ σ1.1 := hx7.1
                have hcell : σ1.2.2 σ.1 = some (.inr (24, [.int 0, .int 0, .null])) := by
                  rw [hx7.2 σ.1 (by show σ.1 < σ.1 + 1; omega) hne0.1]
                  exact nw_at _ _ _
                rw [ox e1]
                have e9 : af_X25_init n C.S σ1 (ps C σ (a + 6 + 1) 0 0).1 (c32 ff) (c32 vv) (some r1) = some (mv σ1 σ.1 (.inr (24, [.int (c32 ff), .int (c32 vv), .ref r1])), ()) := i_X25 hcell
                rw [oc e9, ob e2, ob (b_setExpr (k := 0) (by omega))]
                have hl1 : (cs ++ (l1 ++ [14])).length = cs.length + (l1.length + 1) := by simp
                have hM8 : BM (sA s7 13 (96 + 0) (c32 cs.length)) (cs ++ (l1 ++ [14])) := hM7.set (by decide)
                have hvx : (sA s7 13 (96 + 0) (c32 cs.length)).2.1 12 = s4.2.1 12 := by
                  rw [sA_ne _ (by decide), hE7.2.1 12 (by decide) (by decide)]
                  rfl
                refine Or.inl ⟨at1, _, σ.1, _, _, q2, rfl, ⟨_, _, hA7.mvq hne0.1 hne0.2.1 hne0.2.2⟩, (hx6.trans hx7).new (Nat.le_refl _), by show σ1.1 ≤ _; omega, by show σ1.2.1 ≤ _; omega, rfl, ⟨_, hP7.set (by decide)⟩, hM8, by omega, hF4.trans (BE.i4.f.trans (hE7.f.trans (BF.e (by omega)))), ?_⟩
                refine ⟨ff, vv, r1, hi_at (mv_at _ _ _) (Nat.le_refl _) (by show σ.1 < σ1.1; omega), hff3, hv26, by show _ = _; dsimp only; rw [hvx]; exact hv40, by show _ = _; dsimp only; rw [hvx]; exact hv41, l1, ?_, by omega, ?_⟩
                · exact (ex.map (hi_mv (by show σ.1 < σ.1 + 1; omega) (by show σ.1 ≤ σ.1 + 1; omega)) _ _ _ hex1).up (by omega)
                · have h7 := R24_of (cs := cs) (l := l1 ++ [14]) (x := []) (i := 0) (st := sA s7 13 (96 + 0) (c32 cs.length)) (by rw [List.append_nil]; exact hM8) (by rw [sA_at, if_pos rfl, if_pos rfl])
                  rw [List.append_nil] at h7
                  exact h7
              · have t1 : σ1.1 ≤ σ.1 + 1 + (at1 - (a + 7)) + 2 := t1
                have t2 : σ1.2.1 ≤ σ.2.1 + 3 + 3 * (at1 - (a + 7)) + 9 := t2
                rw [oxr e1, ob e2, ob (b_setExpr (k := 0) (by omega))]
                exact Or.inr ⟨at1, _, _, q2, rfl, ⟨_, _, hA7⟩, hx6.trans hx7, by omega, by omega, rfl, DM.e ((hD7.set (by decide)).up (by omega)), hF4.trans (BE.i4.f.trans (hF7.trans (BF.e (by omega))))⟩
            · have hD : DB C (sI (sI s4 4 (c32 (a + 5 + 1))) 7 1) (a + 6) 130 := ⟨0, cs.length, hP5.b, (by exact hM4.1), by omega⟩
              obtain ⟨s', e, g1, g2⟩ := T7 _ _ _ hD (by omega)
              rw [oxr (A_take_f (c := 61) ok hA5 (by omega) (by omega) h61), ob (b_need_f (c := 61) ok hP5 (by omega) (by omega) h61)]
              dsimp only
              exact KN_of rfl (by omega) ⟨_, _, hA5.th⟩ Ext.mvP.th (by show σ.1 + 1 ≤ _; omega) (by show σ.2.1 + 6 ≤ _; omega) e g1 (by omega) hF4 ((BE.i4.trans BE.i7).f.trans g2)
          · have hD : DB C (sI s4 7 1) (a + 5) 130 := ⟨0, cs.length, hP4.b, (by exact hM4.1), by omega⟩
            obtain ⟨s', e, g1, g2⟩ := T6 _ _ _ hD (by omega)
            rw [oxr (A_take_f (c := 41) ok hA4 (by omega) (by omega) h41), ob (b_need_f (c := 41) ok hP4 (by omega) (by omega) h41)]
            dsimp only
            exact KN_of rfl (by omega) ⟨_, _, hA4.th⟩ Ext.mvP.th (by show σ.1 + 1 ≤ _; omega) (by show σ.2.1 + 6 ≤ _; omega) e g1 (by omega) hF4 (BE.i7.f.trans g2)
        · have hD : DB C (sA (sI (sI s2 4 (c32 (a + 3 + 1))) 7 1) 12 (192 + 1) 0) (a + 4) 130 := ⟨0, cs.length, BP.set hP3.b (by decide), (by exact hM2.1), by omega⟩
          obtain ⟨s', e, g1, g2⟩ := T5 _ _ _ hD (by omega)
          rw [oxr (A_variable_f ok hA3 (by omega) hv), ob (b_variable_f ok hP3 (by omega) hv), ob (b_setArg (k := 1) (by omega))]
          dsimp only
          exact KN_of rfl (by omega) ⟨_, _, hA3.th⟩ Ext.mvP.th (by show σ.1 + 1 ≤ _; omega) (by show σ.2.1 + 6 ≤ _; omega) e g1 (by omega) hF2 ((BE.i4.trans BE.i7).f.trans ((BF.a (by omega)).trans g2))
      · have hD : DB C (sI s2 7 1) (a + 3) 130 := ⟨0, cs.length, hP2.b, (by exact hM2.1), by omega⟩
        obtain ⟨s', e, g1, g2⟩ := T3 _ _ _ hD (by omega) (by omega)
        rw [oxr (A_take_f (c := 40) ok hA2 (by omega) (by omega) h40), ob (b_need_f (c := 40) ok hP2 (by omega) (by omega) h40)]
        dsimp only
        exact KN_of rfl (by omega) ⟨_, _, hA2.th⟩ Ext.mvP.th (by show σ.1 + 1 ≤ _; omega) (by show σ.2.1 + 6 ≤ _; omega) e g1 (by omega) hF2 (BE.i7.f.trans g2)
    · have hD : DB C (sI (sI st 4 (c32 (a + 2))) 7 1) (a + 2) 130 := ⟨0, cs.length, hP1.b, (by exact hM.1), by omega⟩
      obtain ⟨s', e, g1, g2⟩ := T51 _ _ _ (c32 (ch C (a + 2))) hD (by omega) (by omega)
      have e26 : bf_def_L26 n (sI st 4 (c32 (a + 2))) (c32 (ch C (a + 2))) = some (s', ()) := e
      rw [oxr (A_fname_f ok hA1 (by omega) hf)]
      have hKN : ∀ zB, zB = some (s', ()) → KO C σ (some (aTh (ps C σ (a + 2) 0 0), .inr 0)) st zB 13 := fun zB hz => KN_of rfl y1 ⟨_, _, hA1.th⟩ Ext.mvP.th (by show σ.1 + 1 ≤ _; omega) (by show σ.2.1 + 6 ≤ _; omega) hz g1 (by omega) (BE.i4.trans BE.i7).f g2
      by_cases g : ch C (a + 2) < 65
      · rw [if_pos (by exact (c_lt (a := ch C (a + 2)) (b := 65) (by omega) (by omega)).mpr g)]
        exact hKN _ e26
      · rw [if_neg (fun z => by have := (c_lt (a := ch C (a + 2)) (b := 65) (by omega) (by omega)).mp z; omega), if_neg (fun z => by have := (c_le (a := ch C (a + 2)) (b := 67) (by omega) (by omega)).mp z; omega)]
        exact hKN _ e26
  · have hD : DB C (sI (sI st 4 (c32 at3)) 7 1) at3 130 := ⟨0, cs.length, hP.p.b, (by exact hM.1), by omega⟩
    obtain ⟨o9, m9, k1, k2, k3⟩ := hD
    have hD : DB C (sI (sI st 4 (c32 at3)) 7 1) at3 130 := ⟨o9, m9, k1, k2, k3⟩
    have hcl := ch_lt ok at3
    rw [oxr y2, ob y3]
    dsimp only
    rw [ob (b_look ok k1 (by omega))]
    dsimp only
    obtain ⟨s', e, g1, g2⟩ := T51 _ _ _ (c32 (ch C at3)) hD (by omega) (by omega)
    obtain ⟨s2, e2, g3, g4⟩ := T51 (sI (sI (sI st 4 (c32 at3)) 7 1) 7 1) at3 130 (c32 (ch C at3)) ⟨o9, m9, k1.b, k2, k3⟩ (by omega) (by omega)
    have e26 : bf_def_L26 n (sI (sI st 4 (c32 at3)) 7 1) (c32 (ch C at3)) = some (s2, ()) := e2
    have hKN : ∀ zB s9, zB = some (s9, ()) → DB C s9 at3 131 → BF (sI (sI st 4 (c32 at3)) 7 1) s9 → KO C σ (some (aTh (ps C σ at3 0 0), .inr 0)) st zB 13 := fun zB s9 hz h1 h2 => KN_of rfl y1 ⟨_, _, hA.ps.th⟩ Ext.mvP.th (by show σ.1 + 1 ≤ _; omega) (by show σ.2.1 + 6 ≤ _; omega) hz h1 (by omega) (BE.i4.trans BE.i7).f h2
    by_cases g : ch C at3 < 65
    · rw [if_pos (by exact (c_lt (a := ch C at3) (b := 65) (by omega) (by omega)).mpr g)]
      exact hKN _ _ e26 g3 (BE.i7.f.trans g4)
    · rw [if_neg (fun z => by have := (c_lt (a := ch C at3) (b := 65) (by omega) (by omega)).mp z; omega)]
      by_cases g9 : ch C at3 ≤ 67
      · rw [if_pos (by exact (c_le (a := ch C at3) (b := 67) (by omega) (by omega)).mpr g9), if_neg (by exact n10)]
        exact hKN _ _ e g1 g2
      · rw [if_neg (fun z => by have := (c_le (a := ch C at3) (b := 67) (by omega) (by omega)).mp z; omega)]
        exact hKN _ _ e26 g3 (BE.i7.f.trans g4)
end KINDS4
