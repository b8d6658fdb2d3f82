/-! THE PURE LAW: kinds of statements, the simple ones; places -/
section KINDS
variable {C : pC} {σ : aS} {st : bS} {n a go op : Nat} {cs : List Nat}
theorem hi_new {b : Nat} {σ : aS} {e : aE} {k q : Nat} {e2 : aE} (hb : b ≤ σ.1) (h : (nw σ e k).2.2 q = some e2) (h1 : b ≤ q) (h2 : q < σ.1 + 1) : hi b (nw σ e k) q = some e2 := hi_at h h1 h2
/-- what both know of new cells: not the parser's own -/
theorem PA.ne {C : pC} {σ : aS} {a op go q : Nat} (h : PA C σ a op go) (hq : σ.1 ≤ q) : q ≠ C.P ∧ q ≠ C.X ∧ q ≠ C.W := by
  have h1 := h.2.2.2.1
  have h2 := h.2.2.2.2.1
  have h3 := h.2.2.2.2.2
  omega
theorem K_place (ok : pOk C) (hS : sInj C.S) (hn : 1000 ≤ n) (J : JS C σ st a 0 0 cs) :
    (∃ at_ σ' p st' cs', a < at_ ∧ at_ ≤ C.N ∧ af_X3_place n C.S σ C.P = some (σ', .inl (some p)) ∧ PA C σ' at_ 0 0 ∧ Ext C.P σ σ' ∧ σ'.1 ≤ σ.1 + 2 + (at_ - a) ∧ σ'.2.1 ≤ σ.2.1 + 3 + 3 * (at_ - a) ∧ bf_target n st = some (st', ()) ∧ BP C st' at_ 0 0 ∧ BM st' cs' ∧ cs'.length ≤ 2 * at_ ∧ BF st st' ∧ PLC (hi σ.1 σ') p (fun i => st'.2.1 12 (192 + i)) (R24 st' cs'.length)) ∨
    (∃ at_ σ' st', a ≤ at_ ∧ at_ ≤ C.N ∧ af_X3_place n C.S σ C.P = some (σ', .inr 0) ∧ (∃ op go, PA C σ' at_ op go) ∧ Ext C.P σ σ' ∧ σ'.1 ≤ σ.1 + 4 + (at_ - a) ∧ σ'.2.1 ≤ σ.2.1 + 12 + 3 * (at_ - a) ∧ bf_target n st = some (st', ()) ∧ DM C st' at_ (2 * at_ + 12) ∧ BF st st') := by
  have hN := ok.1
  obtain ⟨hA, hP, hM, hp, hb⟩ := J
  have hcl := ch_lt ok a
  unfold af_X3_place bf_target
  rw [ob (A_cls hA), oc (A_here ok hA (by omega)), ob (b_look ok hP (by omega))]
  by_cases hm : isM (ch C a)
  · have hin := ch_in (C := C) (i := a) (by unfold isM at hm; omega)
    rw [oc (A_isMatrix_t hm), if_neg n10, ob (b_isMatrix_t hm), if_neg n10, ob (nO_eq _ _ _ _)]
    have hA1 : PA C (nw σ (.inr (4, [.null, .null])) 2) a 0 0 := hA.nwc
    have hx1 : Ext C.P σ (nw σ (.inr (4, [.null, .null])) 2) := Ext.nwc
    rw [ob (A_cls hA1), ob (b_matrix_t ok hP (by omega) hm)]
    unfold af_X3_element
    rw [ob (A_op hA1), if_neg (by decide)]
    unfold af_X3_element_L15
    have hA2 : PA C (ps C (nw σ (.inr (4, [.null, .null])) 2) (a + 1) 0 0) (a + 1) 0 0 := hA1.ps
    rw [ob (A_cls hA1), ox A_need_t, ob (A_cls hA1), ox (A_matrix_t ok hA1 (by omega) hm), ob (A_cls hA2)]
    generalize hmm : ch C a - 80 = mm
    have hmm3 : mm < 3 := by unfold isM at hm; omega
    have e26 : (26 : Int32) + c32 mm = c32 (26 + mm) := c_add 26 mm
    dsimp only
    rw [e26, ob (b_setArg (k := 0) (by omega))]
    have hP1 : BP C (sA (sI st 4 (c32 (a + 1))) 12 (192 + 0) (c32 (26 + mm))) (a + 1) 0 0 := hP.p.set (by decide)
    have hM1 : BM (sA (sI st 4 (c32 (a + 1))) 12 (192 + 0) (c32 (26 + mm))) cs := BM.set (st := sI st 4 (c32 (a + 1))) hM (by decide)
    have hF1 : BF st (sA (sI st 4 (c32 (a + 1))) 12 (192 + 0) (c32 (26 + mm))) := BE.i4.f.trans (BF.a (by omega))
    have hv1 : (sA (sI st 4 (c32 (a + 1))) 12 (192 + 0) (c32 (26 + mm))).2.1 12 192 = c32 (26 + mm) := by rw [sA_at, if_pos rfl, if_pos rfl]
    generalize sA (sI st 4 (c32 (a + 1))) 12 (192 + 0) (c32 (26 + mm)) = s1 at *
    dsimp only
    by_cases hc : ch C (a + 1) = 40
    · have hin1 := ch_in (C := C) (i := a + 1) (by omega)
      rw [ox (A_open_t ok hA2 (by omega) hc), ps_ps, ps_ps, ob (b_bracket_t ok hP1 (by omega) (by omega) hc)]
      have hA3 : PA C (ps C (nw σ (.inr (4, [.null, .null])) 2) (a + 1 + 1) (0 + 1) 0) (a + 2) 1 0 := hA1.ps
      have hx3 : Ext C.P σ (ps C (nw σ (.inr (4, [.null, .null])) 2) (a + 1 + 1) (0 + 1) 0) := hx1.trans Ext.mvP
      have hP2 : BP C (sI (sI s1 4 (c32 (a + 1 + 1))) 5 (c32 (0 + 1))) (a + 2) 1 0 := hP1.p.o
      have hM2 : BM (sI (sI s1 4 (c32 (a + 1 + 1))) 5 (c32 (0 + 1))) cs := hM1
      have hF2 : BF st (sI (sI s1 4 (c32 (a + 1 + 1))) 5 (c32 (0 + 1))) := hF1.trans (BE.i4.trans BE.i5).f
      have hv2 : (sI (sI s1 4 (c32 (a + 1 + 1))) 5 (c32 (0 + 1))).2.1 12 192 = c32 (26 + mm) := hv1
      generalize sI (sI s1 4 (c32 (a + 1 + 1))) 5 (c32 (0 + 1)) = s2 at *
      have hsz : (ps C (nw σ (.inr (4, [.null, .null])) 2) (a + 1 + 1) (0 + 1) 0).1 = σ.1 + 1 := rfl
      have hsl : (ps C (nw σ (.inr (4, [.null, .null])) 2) (a + 1 + 1) (0 + 1) 0).2.1 = σ.2.1 + 2 := rfl
      have hc4 : (ps C (nw σ (.inr (4, [.null, .null])) 2) (a + 1 + 1) (0 + 1) 0).2.2 σ.1 = some (.inr (4, [.null, .null])) := by
        rw [mv_ne _ _ (by have := hA.2.2.2.1; omega)]
        exact nw_at _ _ _
      generalize ps C (nw σ (.inr (4, [.null, .null])) 2) (a + 1 + 1) (0 + 1) 0 = σ1 at *
      rw [ob (A_cls hA3)]
      rcases E_top (n := n) (x1 := 0) ok hS hn hA3 hP2 hM2 (by omega) (by omega) (by omega) (Or.inl rfl) with ⟨at1, l1, q1, q2, ⟨σ2, r1, e1, hA4, hx4, t1, t2, hex1⟩, hnop1, s3, e2, hP3, hM3, hE3, hb3⟩ | ⟨at1, q1, q2, ⟨σ2, op2, go2, e1, hA4, hx4, t1, t2⟩, s3, e2, hD3, hF3⟩
      · rw [ox e1, ob (A_cls hA4), ob e2, ob (b_setExpr (k := 0) (by omega))]
        have hcl1 : (cs ++ (l1 ++ [14])).length = cs.length + (l1.length + 1) := by simp
        have hP4 : BP C (sA s3 13 (96 + 0) (c32 cs.length)) at1 1 0 := hP3.set (by decide)
        have hM4 : BM (sA s3 13 (96 + 0) (c32 cs.length)) (cs ++ (l1 ++ [14])) := hM3.set (by decide)
        have hF4 : BF st (sA s3 13 (96 + 0) (c32 cs.length)) := (hF2.trans hE3.f).trans (BF.e (by omega))
        have hv4 : (sA s3 13 (96 + 0) (c32 cs.length)).2.1 12 192 = c32 (26 + mm) := by rw [sA_ne _ (by decide), hE3.2.1 12 (by decide) (by decide)]; exact hv2
        have hw4 : (sA s3 13 (96 + 0) (c32 cs.length)).2.1 13 (96 + 0) = c32 cs.length := by rw [sA_at, if_pos rfl, if_pos rfl]
        generalize sA s3 13 (96 + 0) (c32 cs.length) = s4 at *
        dsimp only
        by_cases hc2 : ch C at1 = 44
        · have hin2 := ch_in (C := C) (i := at1) (by omega)
          have hA5 : PA C (ps C σ2 (at1 + 1) 1 0) (at1 + 1) 1 0 := hA4.ps
          rw [ox (A_take_t (c := 44) ok hA4 (by omega) hc2), ob (A_cls hA5), ob (b_need_t (c := 44) ok hP4 (by omega) hc2)]
          have hP5 : BP C (sI s4 4 (c32 (at1 + 1))) (at1 + 1) 1 0 := hP4.p
          have hM5 : BM (sI s4 4 (c32 (at1 + 1))) (cs ++ (l1 ++ [14])) := hM4
          dsimp only
          rcases E_top (n := n) (x1 := 0) ok hS hn hA5 hP5 hM5 (by omega) (by omega) (by omega) (Or.inl rfl) with ⟨at2, l2, p1, p2, ⟨σ3, r2, e3, hA6, hx6, u1, u2, hex2⟩, hnop2, s6, e4, hP6, hM6, hE6, hb6⟩ | ⟨at2, p1, p2, ⟨σ3, op3, go3, e3, hA6, hx6, u1, u2⟩, s6, e4, hD6, hF6⟩
          · have u1 : σ3.1 ≤ σ2.1 + (at2 - (at1 + 1)) := u1
            have u2 : σ3.2.1 ≤ σ2.2.1 + 3 * (at2 - (at1 + 1)) := u2
            have hs12 : σ1.1 ≤ σ2.1 := hx4.1
            have hs23 : σ2.1 ≤ σ3.1 := hx6.1
            rw [ox e3, ob (A_cls hA6), ob e4, ob (b_setExpr (k := 1) (by omega))]
            have hP7 : BP C (sA s6 13 (96 + 1) (c32 (cs ++ (l1 ++ [14])).length)) at2 1 0 := hP6.set (by decide)
            have hM7 : BM (sA s6 13 (96 + 1) (c32 (cs ++ (l1 ++ [14])).length)) (cs ++ (l1 ++ [14]) ++ (l2 ++ [14])) := hM6.set (by decide)
            have hF7 : BF st (sA s6 13 (96 + 1) (c32 (cs ++ (l1 ++ [14])).length)) := (hF4.trans ((BE.i4.trans hE6).f)).trans (BF.e (by omega))
            have hv7 : (sA s6 13 (96 + 1) (c32 (cs ++ (l1 ++ [14])).length)).2.1 12 192 = c32 (26 + mm) := by rw [sA_ne _ (by decide), hE6.2.1 12 (by decide) (by decide)]; exact hv4
            have hw7 : (sA s6 13 (96 + 1) (c32 (cs ++ (l1 ++ [14])).length)).2.1 13 (96 + 1) = c32 (cs ++ (l1 ++ [14])).length := by rw [sA_at, if_pos rfl, if_pos rfl]
            have hw70 : (sA s6 13 (96 + 1) (c32 (cs ++ (l1 ++ [14])).length)).2.1 13 (96 + 0) = s4.2.1 13 (96 + 0) := by
              rw [sA_at, if_pos rfl, if_neg (by decide), hE6.2.1 13 (by decide) (by decide)]
              rfl
            generalize sA s6 13 (96 + 1) (c32 (cs ++ (l1 ++ [14])).length) = s7 at *
            dsimp only
            have hcl2 : (cs ++ (l1 ++ [14]) ++ (l2 ++ [14])).length = cs.length + (l1.length + 1) + (l2.length + 1) := by simp; omega
            by_cases hc3 : ch C at2 = 41
            · have hin3 := ch_in (C := C) (i := at2) (by omega)
              rw [ox (A_close_t ok hA6 (by omega) (by omega) hc3), ps_ps, ob (b_shut_t ok hP7 (by omega) (by omega) hc3), ob (nO_eq _ _ _ _)]
              have hxx : Ext C.P σ1 (ps C σ3 (at2 + 1) (1 - 1) 0) := (hx4.trans Ext.mvP).trans (hx6.trans Ext.mvP)
              have hcell : (nw (ps C σ3 (at2 + 1) (1 - 1) 0) (.inr (10, [.int 0, .null, .null])) 3).2.2 σ3.1 = some (.inr (10, [.int 0, .null, .null])) := nw_at _ _ _
              have hA7 : PA C (nw (ps C σ3 (at2 + 1) (1 - 1) 0) (.inr (10, [.int 0, .null, .null])) 3) (at2 + 1) 0 0 := hA6.ps.nwc
              have hne := hA.ne (q := σ3.1) (by omega)
              have hne0 := hA.ne (q := σ.1) (by omega)
              have hA8 : PA C (mv (nw (ps C σ3 (at2 + 1) (1 - 1) 0) (.inr (10, [.int 0, .null, .null])) 3) σ3.1 (.inr (10, [.int (c32 mm), va_rf (some r1), va_rf (some r2)]))) (at2 + 1) 0 0 := PA.mvq hA7 hne.1 hne.2.1 hne.2.2
              have hx8 : Ext C.P σ3 (mv (nw (ps C σ3 (at2 + 1) (1 - 1) 0) (.inr (10, [.int 0, .null, .null])) 3) σ3.1 (.inr (10, [.int (c32 mm), va_rf (some r1), va_rf (some r2)]))) := (Ext.mvP.trans Ext.nwc).new (Nat.le_refl _)
              have hc48 : (mv (nw (ps C σ3 (at2 + 1) (1 - 1) 0) (.inr (10, [.int 0, .null, .null])) 3) σ3.1 (.inr (10, [.int (c32 mm), va_rf (some r1), va_rf (some r2)]))).2.2 σ.1 = some (.inr (4, [.null, .null])) := by
                rw [hx8.2 σ.1 (by omega) hne0.1, hx6.2 σ.1 (by show σ.1 < σ2.1; omega) hne0.1, mv_ne _ _ hne0.1, hx4.2 σ.1 (by omega) hne0.1]
                exact hc4
              have eel : (cb (af_X11_init n C.S (nw (ps C σ3 (at2 + 1) (1 - 1) 0) (.inr (10, [.int 0, .null, .null])) 3) (ps C σ3 (at2 + 1) (1 - 1) 0).1 (c32 mm) (some r1) (some r2)) fun st_23 _ => some (st_23, .inl (some (ps C σ3 (at2 + 1) (1 - 1) 0).1)) : Option (aS × (Option Nat ⊕ Nat))) = some (mv (nw (ps C σ3 (at2 + 1) (1 - 1) 0) (.inr (10, [.int 0, .null, .null])) 3) σ3.1 (.inr (10, [.int (c32 mm), va_rf (some r1), va_rf (some r2)])), .inl (some σ3.1)) := by
                show (cb (af_X11_init n C.S _ σ3.1 (c32 mm) (some r1) (some r2)) fun st_23 _ => some (st_23, .inl (some σ3.1)) : Option (aS × (Option Nat ⊕ Nat))) = _
                rw [oc (i_X11 hcell)]
              rw [ox eel, oc (i_X5 hc48)]
              have hs8 : (mv (nw (ps C σ3 (at2 + 1) (1 - 1) 0) (.inr (10, [.int 0, .null, .null])) 3) σ3.1 (.inr (10, [.int (c32 mm), va_rf (some r1), va_rf (some r2)]))).1 = σ3.1 + 1 := rfl
              have hs82 : (mv (nw (ps C σ3 (at2 + 1) (1 - 1) 0) (.inr (10, [.int 0, .null, .null])) 3) σ3.1 (.inr (10, [.int (c32 mm), va_rf (some r1), va_rf (some r2)]))).2.1 = σ3.2.1 + 3 := rfl
              have hq8 : (mv (nw (ps C σ3 (at2 + 1) (1 - 1) 0) (.inr (10, [.int 0, .null, .null])) 3) σ3.1 (.inr (10, [.int (c32 mm), va_rf (some r1), va_rf (some r2)]))).2.2 σ3.1 = some (.inr (10, [.int (c32 mm), .ref r1, .ref r2])) := mv_at _ _ _
              generalize mv (nw (ps C σ3 (at2 + 1) (1 - 1) 0) (.inr (10, [.int 0, .null, .null])) 3) σ3.1 (.inr (10, [.int (c32 mm), va_rf (some r1), va_rf (some r2)])) = σ8 at *
              have hPlt := hA.2.2.2.1
              have hxa : Ext C.P σ1 σ8 := ((hx4.trans Ext.mvP).trans hx6).trans hx8
              refine Or.inl ⟨at2 + 1, _, σ.1, _, _, by omega, by omega, rfl, hA8.mvq hne0.1 hne0.2.1 hne0.2.2, (hx3.trans hxa).new (Nat.le_refl _), by show σ8.1 ≤ _; omega, by show σ8.2.1 ≤ _; omega, rfl, hP7.p.o, hM7, by omega, hF7.trans (BE.i4.trans BE.i5).f, ?_⟩
              refine Or.inr ⟨σ3.1, mm, r1, r2, hi_at (mv_at _ _ _) (Nat.le_refl _) (by show σ.1 < σ8.1; omega), hi_at (by rw [mv_ne _ _ (by omega)]; exact hq8) (by omega) (by show σ3.1 < σ8.1; omega), hmm3, hv7, ?_, ?_⟩
              · refine ⟨l1, ?_, by omega, ?_⟩
                · refine (ex.map ?_ _ _ _ hex1).up (by omega)
                  have h1 : hle (hi σ1.1 σ2) (hi σ1.1 σ8) := hi_le ((Ext.mvP.trans hx6).trans hx8) (by omega) (Nat.le_refl _)
                  have h2 : hle (hi σ1.1 σ8) (hi σ.1 (mv σ8 σ.1 (.inr (4, [va_rf none, va_rf (some σ3.1)])))) := hi_mv (by omega) (by omega)
                  exact fun q e hq => h2 q e (h1 q e hq)
                · have hr : R24 s4 (cs ++ (l1 ++ [14])).length 0 (l1 ++ [14]) := by
                    have := R24_of (x := []) (i := 0) (by rw [List.append_nil]; exact hM4) hw4
                    rw [List.append_nil] at this
                    exact this
                  exact hr.up hM4 hM7 hw70
              · refine ⟨l2, ?_, by omega, ?_⟩
                · refine (ex.map ?_ _ _ _ hex2).up (by omega)
                  have h1 : hle (hi (ps C σ2 (at1 + 1) 1 0).1 σ3) (hi σ2.1 σ8) := hi_le hx8 (by show C.P < σ2.1; omega) (Nat.le_refl _)
                  have h2 : hle (hi σ2.1 σ8) (hi σ.1 (mv σ8 σ.1 (.inr (4, [va_rf none, va_rf (some σ3.1)])))) := hi_mv (by omega) (by omega)
                  exact fun q e hq => h2 q e (h1 q e hq)
                · have := R24_of (x := []) (i := 1) (by rw [List.append_nil]; exact hM7) hw7
                  rw [List.append_nil] at this
                  exact this
            · rw [oxr (A_close_f ok hA6 (by omega) hc3), ob (b_shut_f ok hP7 (by omega) hc3)]
              exact Or.inr ⟨at2, _, _, by omega, p2, rfl, ⟨_, _, hA6.th⟩, (((hx3.trans hx4).trans Ext.mvP).trans hx6).th, by show σ3.1 + 1 ≤ _; omega, by show σ3.2.1 + 6 ≤ _; omega, rfl, ⟨_, _, 1, hP7.b, Or.inl rfl, hM7.1, by omega⟩, hF7.trans BE.i7.f⟩
          · have u1 : σ3.1 ≤ σ2.1 + (at2 - (at1 + 1)) + 2 := u1
            have u2 : σ3.2.1 ≤ σ2.2.1 + 3 * (at2 - (at1 + 1)) + 9 := u2
            rw [oxr e3, ob e4, ob (b_setExpr (k := 1) (by omega))]
            obtain ⟨s8, e5, hD8, hF8⟩ := D_shut (n := n) ok (hD6.set (k := 13) (i := 96 + 1) (v := c32 (cs ++ (l1 ++ [14])).length) (by decide)) (by omega)
            dsimp only
            rw [ob e5]
            exact Or.inr ⟨at2, _, _, by omega, p2, rfl, ⟨_, _, hA6⟩, ((hx3.trans hx4).trans Ext.mvP).trans hx6, by omega, by omega, rfl, hD8.m.up (by omega), ((hF4.trans BE.i4.f).trans hF6).trans ((BF.e (by omega)).trans hF8)⟩
        · rw [oxr (A_take_f (c := 44) ok hA4 (by omega) (by omega) hc2), ob (b_need_f (c := 44) ok hP4 (by omega) (by omega) hc2)]
          have hD5 : DB C (sI s4 7 1) at1 (2 * at1 + 2) := ⟨1, (cs ++ (l1 ++ [14])).length, hP4.b, (by exact hM4.1), by omega⟩
          obtain ⟨s6, v6, e4, hD6, hF6⟩ := D_expr (n := n) (x1 := 0) hD5 hn (by omega)
          dsimp only
          rw [ob e4, ob (b_setExpr (k := 1) (by omega))]
          obtain ⟨s8, e5, hD8, hF8⟩ := D_shut (n := n) ok (hD6.m.set (k := 13) (i := 96 + 1) (v := v6) (by decide)) (by omega)
          dsimp only
          rw [ob e5]
          exact Or.inr ⟨at1, _, _, by omega, q2, rfl, ⟨_, _, hA4.th⟩, (hx3.trans hx4).th, by show σ2.1 + 1 ≤ _; omega, by show σ2.2.1 + 6 ≤ _; omega, rfl, hD8.m.up (by omega), (hF4.trans BE.i7.f).trans (hF6.trans ((BF.e (by omega)).trans hF8))⟩
      · rw [oxr e1, ob e2, ob (b_setExpr (k := 0) (by omega))]
        obtain ⟨s5, e5, hD5, hF5⟩ := D_need (n := n) (c := 44) (v := 44) ok (hD3.set (k := 13) (i := 96 + 0) (v := c32 cs.length) (by decide)) (by omega) (by omega) (by unfold dig; omega)
        dsimp only
        rw [ob e5]
        obtain ⟨s6, v6, e4, hD6, hF6⟩ := D_expr (n := n) (x1 := 0) hD5 hn (by omega)
        dsimp only
        rw [ob e4, ob (b_setExpr (k := 1) (by omega))]
        obtain ⟨s8, e8, hD8, hF8⟩ := D_shut (n := n) ok (hD6.m.set (k := 13) (i := 96 + 1) (v := v6) (by decide)) (by omega)
        dsimp only
        rw [ob e8]
        exact Or.inr ⟨at1, _, _, by omega, q2, rfl, ⟨_, _, hA4⟩, hx3.trans hx4, by omega, by omega, rfl, hD8.m.up (by omega), hF2.trans (hF3.trans ((BF.e (by omega)).trans (hF5.trans (hF6.trans ((BF.e (by omega)).trans hF8)))))⟩
    · rw [oxr (A_open_f ok hA2 (by omega) hc), ob (b_bracket_f ok hP1 (by omega) (by omega) hc)]
      have hD1 : DB C (sI s1 7 1) (a + 1) (2 * a) := ⟨0, cs.length, hP1.b, hM1.1, hb⟩
      obtain ⟨s3, v3, e3, hD3, hF3⟩ := D_expr (n := n) (x1 := 0) hD1 hn (by omega)
      dsimp only
      rw [ob e3, ob (b_setExpr (k := 0) (by omega))]
      obtain ⟨s5, e5, hD5, hF5⟩ := D_need (n := n) (c := 44) (v := 44) ok (hD3.m.set (k := 13) (i := 96 + 0) (v := v3) (by decide)) (by omega) (by omega) (by unfold dig; omega)
      dsimp only
      rw [ob e5]
      obtain ⟨s6, v6, e4, hD6, hF6⟩ := D_expr (n := n) (x1 := 0) hD5 hn (by omega)
      dsimp only
      rw [ob e4, ob (b_setExpr (k := 1) (by omega))]
      obtain ⟨s8, e8, hD8, hF8⟩ := D_shut (n := n) ok (hD6.m.set (k := 13) (i := 96 + 1) (v := v6) (by decide)) (by omega)
      dsimp only
      rw [ob e8]
      exact Or.inr ⟨a + 1, _, _, by omega, by omega, rfl, ⟨_, _, hA2.th⟩, (hx1.trans Ext.mvP).th, by show σ.1 + 1 + 1 ≤ _; omega, by show σ.2.1 + 2 + 6 ≤ _; omega, rfl, hD8.m.up (by omega), (hF1.trans BE.i7.f).trans (hF3.trans ((BF.e (by omega)).trans (hF5.trans (hF6.trans ((BF.e (by omega)).trans hF8)))))⟩
  · rw [oc (A_isMatrix_f (by omega) hm), if_pos rfl, ob (b_isMatrix_f (by omega) hm), if_pos rfl, ob (nO_eq _ _ _ _), ob (nO_eq _ _ _ _)]
    have hA1 : PA C (nw (nw σ (.inr (4, [.null, .null])) 2) (.inr (8, [.int 0])) 1) a 0 0 := PA.nwc hA.nwc
    have hx1 : Ext C.P σ (nw (nw σ (.inr (4, [.null, .null])) 2) (.inr (8, [.int 0])) 1) := Ext.nwc.trans Ext.nwc
    have hPlt := hA.2.2.2.1
    rw [ob (A_cls hA1)]
    by_cases hv : isV (ch C a)
    · have hin := ch_in (C := C) (i := a) (by have := hv.1; omega)
      rw [ox (A_variable_t ok hA1 (by omega) hv), ob (b_variable_t ok hP (by omega) hv), ob (b_setArg (k := 0) (by omega))]
      have hne0 := hA.ne (q := σ.1) (by omega)
      have hne1 := hA.ne (q := σ.1 + 1) (by omega)
      have hc8 : (ps C (nw (nw σ (.inr (4, [.null, .null])) 2) (.inr (8, [.int 0])) 1) (a + 1) 0 0).2.2 (σ.1 + 1) = some (.inr (8, [.int 0])) := by
        rw [mv_ne _ _ hne1.1]
        exact nw_at _ _ _
      have e1 : af_X9_init n C.S (ps C (nw (nw σ (.inr (4, [.null, .null])) 2) (.inr (8, [.int 0])) 1) (a + 1) 0 0) (nw σ (.inr (4, [.null, .null])) 2).1 (c32 (ch C a - 65)) = some (mv (ps C (nw (nw σ (.inr (4, [.null, .null])) 2) (.inr (8, [.int 0])) 1) (a + 1) 0 0) (σ.1 + 1) (.inr (8, [.int (c32 (ch C a - 65))])), ()) := i_X9 hc8
      rw [oc e1]
      have hc4 : (mv (ps C (nw (nw σ (.inr (4, [.null, .null])) 2) (.inr (8, [.int 0])) 1) (a + 1) 0 0) (σ.1 + 1) (.inr (8, [.int (c32 (ch C a - 65))]))).2.2 σ.1 = some (.inr (4, [.null, .null])) := by
        rw [mv_ne _ _ (by omega), mv_ne _ _ hne0.1, nw_ne _ _ _ (by show σ.1 ≠ σ.1 + 1; omega)]
        exact nw_at _ _ _
      rw [oc (i_X5 hc4)]
      have hA2 : PA C (ps C (nw (nw σ (.inr (4, [.null, .null])) 2) (.inr (8, [.int 0])) 1) (a + 1) 0 0) (a + 1) 0 0 := hA1.ps
      refine Or.inl ⟨a + 1, _, σ.1, _, cs, by omega, by omega, rfl, (hA2.mvq hne1.1 hne1.2.1 hne1.2.2).mvq hne0.1 hne0.2.1 hne0.2.2, ((hx1.trans Ext.mvP).new (by omega)).new (Nat.le_refl _), by show σ.1 + 1 + 1 ≤ _; omega, by show σ.2.1 + 2 + 1 ≤ _; omega, rfl, BP.set hP.p (by decide), BM.set (st := sI st 4 (c32 (a + 1))) hM (by decide), by omega, BE.i4.f.trans (BF.a (by omega)), ?_⟩
      refine Or.inl ⟨σ.1 + 1, ch C a - 65, hi_at (mv_at _ _ _) (Nat.le_refl _) (by show σ.1 < σ.1 + 1 + 1; omega), hi_at (by rw [mv_ne _ _ (by omega)]; exact mv_at _ _ _) (by omega) (by show σ.1 + 1 < σ.1 + 1 + 1; omega), by have := hv.2.1; omega, ?_⟩
      show (sA (sI st 4 (c32 (a + 1))) 12 (192 + 0) (c32 (ch C a - 65))).2.1 12 (192 + 0) = _
      rw [sA_at, if_pos rfl, if_pos rfl]
    · rw [oxr (A_variable_f ok hA1 (by omega) hv), ob (b_variable_f ok hP (by omega) hv), ob (b_setArg (k := 0) (by omega))]
      exact Or.inr ⟨a, _, _, Nat.le_refl _, hp, rfl, ⟨_, _, hA1.th⟩, hx1.th, by show σ.1 + 1 + 1 + 1 ≤ _; omega, by show σ.2.1 + 2 + 1 + 6 ≤ _; omega, rfl, ⟨0, cs.length, 1, BP.set hP.b (by decide), Or.inl rfl, hM.1, by omega⟩, BE.i7.f.trans (BF.a (by omega))⟩
end KINDS
