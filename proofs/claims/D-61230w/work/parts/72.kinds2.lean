/-! THE PURE LAW: LET, PRINT, GOTO, GOSUB, RETURN, NEXT, READ, RESTORE, DIM, REM, END -/
section KINDS2
variable {C : pC} {σ : aS} {st : bS} {n a : Nat} {cs : List Nat}
def kB0 (n : Nat) (st : bS) : Option (bS × Unit) := (bf_target n st).bind fun q_5 => (bf_need n q_5.1 61).bind fun q_6 => (bf_expression n q_6.1 0).bind fun q_7 => (bf_setExpr n q_7.1 2 q_7.2).bind fun q_8 => some (q_8.1, ())
def kB1 (n : Nat) (st : bS) : Option (bS × Unit) := (bf_expression n st 0).bind fun q_7 => (bf_setExpr n q_7.1 0 q_7.2).bind fun q_8 => some (q_8.1, ())
def kB3 (n : Nat) (st : bS) : Option (bS × Unit) := (bf_lineNumber n st).bind fun q_7 => (bf_setArg n q_7.1 0 q_7.2).bind fun q_8 => some (q_8.1, ())
def kB8 (n : Nat) (st : bS) : Option (bS × Unit) := (bf_variable n st).bind fun q_7 => (bf_setArg n q_7.1 0 q_7.2).bind fun q_8 => some (q_8.1, ())
theorem K_1 (ok : pOk C) (hS : sInj C.S) (hn : 1000 ≤ n) (J : JS C σ st a 0 0 cs) : KO C σ (af_X3_statement_L379 n C.S σ C.P 1) st (kB1 n st) 1 := by
  have hN := ok.1
  obtain ⟨hA, hP, hM, hp, hb⟩ := J
  unfold af_X3_statement_L379 kB1
  rw [if_neg (by decide), if_pos rfl, ob (nO_eq _ _ _ _)]
  have hA1 : PA C (nw σ (.inr (12, [.null])) 1) a 0 0 := hA.nwc
  have hx1 : Ext C.P σ (nw σ (.inr (12, [.null])) 1) := Ext.nwc
  have hne0 := hA.ne (q := σ.1) (by omega)
  have hPlt := hA.2.2.2.1
  rw [ob (A_cls hA1)]
  rcases E_top (n := n) (x1 := 0) ok hS hn hA1 hP hM hb hp (by omega) (Or.inl rfl) with ⟨at1, l1, q1, q2, ⟨σ2, r1, e1, hA4, hx4, t1, t2, hex1⟩, hnop1, s3, e2, hP3, hM3, hE3, hb3⟩ | ⟨at1, q1, q2, ⟨σ2, op2, go2, e1, hA4, hx4, t1, t2⟩, s3, e2, hD3, hF3⟩
  · have t1 : σ2.1 ≤ σ.1 + 1 + (at1 - a) := t1
    have t2 : σ2.2.1 ≤ σ.2.1 + 1 + 3 * (at1 - a) := t2
    have hs : σ.1 + 1 ≤ σ2.1 := hx4.1
    have hcell : σ2.2.2 σ.1 = some (.inr (12, [.null])) := by
      rw [hx4.2 σ.1 (by show σ.1 < σ.1 + 1; omega) hne0.1]
      exact nw_at _ _ _
    rw [ox e1, oc (i_X13 hcell), ob e2, ob (b_setExpr (k := 0) (by omega))]
    have hl1 : (cs ++ (l1 ++ [14])).length = cs.length + (l1.length + 1) := by simp
    refine Or.inl ⟨at1, _, σ.1, _, cs ++ (l1 ++ [14]), q2, rfl, ⟨_, _, hA4.mvq hne0.1 hne0.2.1 hne0.2.2⟩, (hx1.trans hx4).new (Nat.le_refl _), by show σ2.1 ≤ _; omega, by show σ2.2.1 ≤ _; omega, rfl, ⟨_, hP3.set (by decide)⟩, hM3.set (by decide), by omega, hE3.f.trans (BF.e (by omega)), ?_⟩
    refine ⟨r1, hi_at (mv_at _ _ _) (Nat.le_refl _) (by show σ.1 < σ2.1; omega), l1, ?_, by omega, ?_⟩
    · exact (ex.map (hi_mv (by show σ.1 < σ.1 + 1; omega) (by show σ.1 ≤ σ.1 + 1; omega)) _ _ _ hex1).up (by omega)
    · have := R24_of (x := []) (i := 0) (st := sA s3 13 (96 + 0) (c32 cs.length)) (by rw [List.append_nil]; exact hM3.set (by decide)) (by rw [sA_at, if_pos rfl, if_pos rfl])
      rw [List.append_nil] at this
      exact this
  · have t1 : σ2.1 ≤ σ.1 + 1 + (at1 - a) + 2 := t1
    have t2 : σ2.2.1 ≤ σ.2.1 + 1 + 3 * (at1 - a) + 9 := t2
    rw [oxr e1, ob e2, ob (b_setExpr (k := 0) (by omega))]
    exact Or.inr ⟨at1, _, _, q2, rfl, ⟨_, _, hA4⟩, hx1.trans hx4, by omega, by omega, rfl, DM.e ((hD3.set (by decide)).up (by omega)), hF3.trans (BF.e (by omega))⟩
theorem K_0 (ok : pOk C) (hS : sInj C.S) (hn : 1000 ≤ n) (J : JS C σ st a 0 0 cs) : KO C σ (af_X3_statement_L379 n C.S σ C.P 0) st (kB0 n st) 0 := by
  have hN := ok.1
  have J' := J
  obtain ⟨hA, hP, hM, hp, hb⟩ := J'
  unfold af_X3_statement_L379 kB0
  rw [if_pos rfl, ob (A_cls hA)]
  rcases K_place ok hS hn J with ⟨at0, σ0, p, s0, cs0, w1, w2, w3, w4, w5, w6, w7, w8, w9, w10, w11, w12, w13⟩ | ⟨at0, σ0, s0, w1, w2, w3, ⟨wo, wg, w4⟩, w5, w6, w7, w8, w9, w10⟩
  · rw [ox w3, ob (A_cls w4), ob w8]
    dsimp only
    by_cases hc : ch C at0 = 61
    · have hin := ch_in (C := C) (i := at0) (by omega)
      have hA1 : PA C (nw (ps C σ0 (at0 + 1) 0 0) (.inr (11, [.null, .null])) 2) (at0 + 1) 0 0 := w4.ps.nwc
      have hx1 : Ext C.P σ0 (nw (ps C σ0 (at0 + 1) 0 0) (.inr (11, [.null, .null])) 2) := Ext.mvP.trans Ext.nwc
      have hs0 : σ.1 ≤ σ0.1 := w5.1
      have hne0 := hA.ne (q := σ0.1) (by omega)
      have hPlt := hA.2.2.2.1
      rw [ox (A_take_t (c := 61) ok w4 (by omega) hc), ob (nO_eq _ _ _ _), ob (A_cls hA1), ob (b_need_t (c := 61) ok w9 (by omega) hc)]
      dsimp only
      rcases E_top (n := n) (x1 := 0) (st := sI s0 4 (c32 (at0 + 1))) ok hS hn hA1 w9.p w10 (by omega) (by omega) (by omega) (Or.inl rfl) with ⟨at1, l1, q1, q2, ⟨σ2, r1, e1, hA4, hx4, t1, t2, hex1⟩, hnop1, s3, e2, hP3, hM3, hE3, hb3⟩ | ⟨at1, q1, q2, ⟨σ2, op2, go2, e1, hA4, hx4, t1, t2⟩, s3, e2, hD3, hF3⟩
      · have t1 : σ2.1 ≤ σ0.1 + 1 + (at1 - (at0 + 1)) := t1
        have t2 : σ2.2.1 ≤ σ0.2.1 + 2 + 3 * (at1 - (at0 + 1)) := t2
        have hs : σ0.1 + 1 ≤ σ2.1 := hx4.1
        have hcell : σ2.2.2 σ0.1 = some (.inr (11, [.null, .null])) := by
          rw [hx4.2 σ0.1 (by show σ0.1 < σ0.1 + 1; omega) hne0.1]
          exact nw_at _ _ _
        rw [ox e1]
        have e5 : af_X12_init n C.S σ2 (ps C σ0 (at0 + 1) 0 0).1 (some p) (some r1) = some (mv σ2 σ0.1 (.inr (11, [.ref p, .ref r1])), ()) := i_X12 hcell
        rw [oc e5, ob e2, ob (b_setExpr (k := 2) (by omega))]
        have hl1 : (cs0 ++ (l1 ++ [14])).length = cs0.length + (l1.length + 1) := by simp
        have hM4 : BM (sA s3 13 (96 + 2) (c32 cs0.length)) (cs0 ++ (l1 ++ [14])) := hM3.set (by decide)
        refine Or.inl ⟨at1, _, σ0.1, _, cs0 ++ (l1 ++ [14]), q2, rfl, ⟨_, _, hA4.mvq hne0.1 hne0.2.1 hne0.2.2⟩, ((w5.trans hx1).trans hx4).new (by omega), by show σ2.1 ≤ _; omega, by show σ2.2.1 ≤ _; omega, rfl, ⟨_, hP3.set (by decide)⟩, hM4, by omega, w12.trans ((BE.i4.f.trans hE3.f).trans (BF.e (by omega))), ?_⟩
        have hxx : Ext C.P σ0 (mv σ2 σ0.1 (.inr (11, [.ref p, .ref r1]))) := (hx1.trans hx4).new (Nat.le_refl _)
        refine ⟨p, r1, hi_at (mv_at _ _ _) (by omega) (by show σ0.1 < σ2.1; omega), ?_, l1, ?_, by omega, ?_⟩
        · refine PLC.map w13 (hi_le hxx hPlt (Nat.le_refl _)) ?_ ?_
          · show (sA s3 13 (96 + 2) (c32 cs0.length)).2.1 12 192 = _
            rw [sA_ne _ (by decide), hE3.2.1 12 (by decide) (by decide)]
            rfl
          · intro i l hi2 hr
            refine R24.up hr w10 hM4 ?_
            rw [sA_at, if_pos rfl, if_neg (by omega), hE3.2.1 13 (by decide) (by decide)]
            rfl
        · exact (ex.map (hi_mv (by show σ0.1 < σ0.1 + 1; omega) (by show σ.1 ≤ σ0.1 + 1; omega)) _ _ _ hex1).up (by omega)
        · have := R24_of (x := []) (i := 2) (st := sA s3 13 (96 + 2) (c32 cs0.length)) (by rw [List.append_nil]; exact hM4) (by rw [sA_at, if_pos rfl, if_pos rfl])
          rw [List.append_nil] at this
          exact this
      · have t1 : σ2.1 ≤ σ0.1 + 1 + (at1 - (at0 + 1)) + 2 := t1
        have t2 : σ2.2.1 ≤ σ0.2.1 + 2 + 3 * (at1 - (at0 + 1)) + 9 := t2
        rw [oxr e1, ob e2, ob (b_setExpr (k := 2) (by omega))]
        exact Or.inr ⟨at1, _, _, q2, rfl, ⟨_, _, hA4⟩, (w5.trans hx1).trans hx4, by omega, by omega, rfl, DM.e ((hD3.set (by decide)).up (by omega)), w12.trans ((BE.i4.f.trans hF3).trans (BF.e (by omega)))⟩
    · rw [oxr (A_take_f (c := 61) ok w4 (by omega) (by omega) hc), ob (b_need_f (c := 61) ok w9 (by omega) (by omega) hc)]
      have hD : DB C (sI s0 7 1) at0 (2 * at0) := ⟨0, cs0.length, w9.b, (by exact w10.1), by omega⟩
      obtain ⟨s6, v6, e4, hD6, hF6⟩ := D_expr (n := n) (x1 := 0) hD hn (by omega)
      dsimp only
      rw [ob e4, ob (b_setExpr (k := 2) (by omega))]
      exact Or.inr ⟨at0, _, _, w2, rfl, ⟨_, _, w4.th⟩, w5.th, by show σ0.1 + 1 ≤ _; omega, by show σ0.2.1 + 6 ≤ _; omega, rfl, DM.e ((hD6.m.set (by decide)).up (by omega)), w12.trans ((BE.i7.f.trans hF6).trans (BF.e (by omega)))⟩
  · rw [oxr w3, ob w8]
    obtain ⟨s5, e5, hD5, hF5⟩ := D_need (n := n) (c := 61) (v := 61) ok w9 (by omega) (by omega) (by unfold dig; omega)
    dsimp only
    rw [ob e5]
    obtain ⟨s6, v6, e4, hD6, hF6⟩ := D_expr (n := n) (x1 := 0) hD5 hn (by omega)
    dsimp only
    rw [ob e4, ob (b_setExpr (k := 2) (by omega))]
    exact Or.inr ⟨at0, _, _, w2, rfl, ⟨_, _, w4⟩, w5, by omega, by omega, rfl, DM.e ((hD6.m.set (by decide)).up (by omega)), w10.trans (hF5.trans (hF6.trans (BF.e (by omega))))⟩
/-- a statement that is one number -/
theorem K_num (ok : pOk C) (hn : 1000 ≤ n) (J : JS C σ st a 0 0 cs) {ci so : Nat} (hso : (so = 3 ∧ ci = 14) ∨ (so = 5 ∧ ci = 16)) {ini : aS → Nat → Int32 → Option (aS × Unit)}
    (hini : ∀ σ q x v, σ.2.2 q = some (.inr (ci, [x])) → ini σ q v = some (mv σ q (.inr (ci, [.int v])), ())) :
    KO C σ (xb (af_X3_number n C.S (nw σ (.inr (ci, [.int 0])) 1) C.P) fun st_27 v_28 => cb (ini st_27 σ.1 v_28) fun st_30 _ => some (st_30, .inl (some σ.1))) st (kB3 n st) so := by
  have hN := ok.1
  obtain ⟨hA, hP, hM, hp, hb⟩ := J
  unfold kB3
  have hA1 : PA C (nw σ (.inr (ci, [.int 0])) 1) a 0 0 := hA.nwc
  have hx1 : Ext C.P σ (nw σ (.inr (ci, [.int 0])) 1) := Ext.nwc
  have hne0 := hA.ne (q := σ.1) (by omega)
  obtain ⟨u1, u2, u3, u4, u5⟩ := sNum_le C a
  by_cases hv : (sNum C a).1 = 0
  · rw [oxr (A_number_f ok hA1 hp (by omega) hv), ob (B_number_f ok hP hp (by omega) hv), ob (b_setArg (k := 0) (by omega))]
    exact Or.inr ⟨(sNum C a).2, _, _, u3 hp, rfl, ⟨_, _, hA1.ps.th⟩, (hx1.trans Ext.mvP).th, by show σ.1 + 1 + 1 ≤ _; omega, by show σ.2.1 + 1 + 6 ≤ _; omega, rfl, ⟨0, cs.length, 1, BP.set (hP.p.b) (by decide), Or.inl rfl, hM.1, by omega⟩, (BE.i4.trans BE.i7).f.trans (BF.a (by omega))⟩
  · have hcell : (ps C (nw σ (.inr (ci, [.int 0])) 1) (sNum C a).2 0 0).2.2 σ.1 = some (.inr (ci, [.int 0])) := by
      rw [mv_ne _ _ hne0.1]
      exact nw_at _ _ _
    rw [ox (A_number_t ok hA1 hp (by omega) hv), oc (hini _ _ _ _ hcell), ob (B_number_t ok hP hp (by omega) hv), ob (b_setArg (k := 0) (by omega))]
    refine Or.inl ⟨(sNum C a).2, _, σ.1, _, cs, u3 hp, rfl, ⟨_, _, (hA1.ps (a' := (sNum C a).2) (o' := 0) (g' := 0)).mvq hne0.1 hne0.2.1 hne0.2.2⟩, (hx1.trans Ext.mvP).new (Nat.le_refl _), by show σ.1 + 1 ≤ _; omega, by show σ.2.1 + 1 ≤ _; omega, rfl, ⟨0, BP.set hP.p (by decide)⟩, BM.set (st := sI st 4 (c32 (sNum C a).2)) hM (by decide), by omega, BE.i4.f.trans (BF.a (by omega)), ?_⟩
    have hcl : hi σ.1 (mv (ps C (nw σ (.inr (ci, [.int 0])) 1) (sNum C a).2 0 0) σ.1 (.inr (ci, [.int (c32 (sNum C a).1)]))) σ.1 = some (.inr (ci, [.int (c32 (sNum C a).1)])) := hi_at (mv_at _ _ _) (Nat.le_refl _) (by show σ.1 < σ.1 + 1; omega)
    have hav : (sA (sI st 4 (c32 (sNum C a).2)) 12 (192 + 0) (c32 (sNum C a).1)).2.1 12 (192 + 0) = c32 (sNum C a).1 := by rw [sA_at, if_pos rfl, if_pos rfl]
    rcases hso with ⟨rfl, rfl⟩ | ⟨rfl, rfl⟩
    · exact ⟨_, hcl, u4, hv, hav⟩
    · exact ⟨_, hcl, u4, hv, hav⟩
theorem K_3 (ok : pOk C) (hn : 1000 ≤ n) (J : JS C σ st a 0 0 cs) : KO C σ (af_X3_statement_L379 n C.S σ C.P 3) st (kB3 n st) 3 := by
  have h := K_num (ini := fun σ q v => af_X15_init n C.S σ q v) ok hn J (Or.inl ⟨rfl, rfl⟩) (fun σ q x v hc => i_X15 hc)
  unfold af_X3_statement_L379
  rw [if_neg (by decide), if_neg (by decide), if_neg (by decide), if_pos rfl, ob (nO_eq _ _ _ _), ob (A_cls (J.1.nwc))]
  exact h
theorem K_5 (ok : pOk C) (hn : 1000 ≤ n) (J : JS C σ st a 0 0 cs) : KO C σ (af_X3_statement_L379 n C.S σ C.P 5) st (kB3 n st) 5 := by
  have h := K_num (ini := fun σ q v => af_X17_init n C.S σ q v) ok hn J (Or.inr ⟨rfl, rfl⟩) (fun σ q x v hc => i_X17 hc)
  unfold af_X3_statement_L379
  rw [if_neg (by decide), if_neg (by decide), if_neg (by decide), if_neg (by decide), if_neg (by decide), if_pos rfl, ob (nO_eq _ _ _ _), ob (A_cls (J.1.nwc))]
  exact h
theorem K_6 (J : JS C σ st a 0 0 cs) (ok : pOk C) : KO C σ (af_X3_statement_L379 n C.S σ C.P 6) st (some (st, ())) 6 := by
  have hN := ok.1
  obtain ⟨hA, hP, hM, hp, hb⟩ := J
  unfold af_X3_statement_L379
  rw [if_neg (by decide), if_neg (by decide), if_neg (by decide), if_neg (by decide), if_neg (by decide), if_neg (by decide), if_pos rfl]
  exact Or.inl ⟨a, nw σ (.inr (17, [])) 0, σ.1, st, cs, hp, rfl, ⟨_, _, hA.nwc⟩, Ext.nwc, by show σ.1 + 1 ≤ _; omega, by show σ.2.1 + 0 ≤ _; omega, rfl, ⟨_, hP⟩, hM, by omega, BF.rfl_, hi_at (nw_at _ _ _) (Nat.le_refl _) (by show σ.1 < σ.1 + 1; omega)⟩
theorem K_11 (J : JS C σ st a 0 0 cs) (ok : pOk C) : KO C σ (af_X3_statement_L379 n C.S σ C.P 11) st (some (st, ())) 11 := by
  have hN := ok.1
  obtain ⟨hA, hP, hM, hp, hb⟩ := J
  unfold af_X3_statement_L379
  rw [if_neg (by decide), if_neg (by decide), if_neg (by decide), if_neg (by decide), if_neg (by decide), if_neg (by decide), if_neg (by decide), if_neg (by decide), if_neg (by decide), if_neg (by decide), if_neg (by decide), if_pos rfl]
  exact Or.inl ⟨a, nw σ (.inr (22, [])) 0, σ.1, st, cs, hp, rfl, ⟨_, _, hA.nwc⟩, Ext.nwc, by show σ.1 + 1 ≤ _; omega, by show σ.2.1 + 0 ≤ _; omega, rfl, ⟨_, hP⟩, hM, by omega, BF.rfl_, hi_at (nw_at _ _ _) (Nat.le_refl _) (by show σ.1 < σ.1 + 1; omega)⟩
theorem K_16 (J : JS C σ st a 0 0 cs) (ok : pOk C) : KO C σ (af_X3_statement_L379 n C.S σ C.P (-1)) st (some (st, ())) 16 := by
  have hN := ok.1
  obtain ⟨hA, hP, hM, hp, hb⟩ := J
  have hne0 := hA.ne (q := σ.1) (by omega)
  unfold af_X3_statement_L379
  rw [if_neg (by decide), if_neg (by decide), if_neg (by decide), if_neg (by decide), if_neg (by decide), if_neg (by decide), if_neg (by decide), if_neg (by decide), if_neg (by decide), if_neg (by decide), if_neg (by decide), if_neg (by decide), if_neg (by decide), if_neg (by decide), if_neg (by decide), if_neg (by decide), ob (nO_eq _ _ _ _), oc (i_X27 (nw_at _ _ _) rfl)]
  exact Or.inl ⟨a, _, σ.1, st, cs, hp, rfl, ⟨0, 0, PA.mvq hA.nwc hne0.1 hne0.2.1 hne0.2.2⟩, Ext.nwc.new (Nat.le_refl _), by show σ.1 + 1 ≤ _; omega, by show σ.2.1 + 1 ≤ _; omega, rfl, ⟨_, hP⟩, hM, by omega, BF.rfl_, hi_at (mv_at _ _ _) (Nat.le_refl _) (by show σ.1 < σ.1 + 1; omega)⟩
theorem K_15 (J : JS C σ st a 0 0 cs) (ok : pOk C) : KO C σ (af_X3_statement_L379 n C.S σ C.P 15) st (some (sI st 4 (st.1 2), ())) 15 := by
  have hN := ok.1
  obtain ⟨hA, hP, hM, hp, hb⟩ := J
  have hne0 := hA.ne (q := σ.1) (by omega)
  unfold af_X3_statement_L379
  rw [if_neg (by decide), if_neg (by decide), if_neg (by decide), if_neg (by decide), if_neg (by decide), if_neg (by decide), if_neg (by decide), if_neg (by decide), if_neg (by decide), if_neg (by decide), if_neg (by decide), if_neg (by decide), if_neg (by decide), if_neg (by decide), if_neg (by decide), if_pos rfl, ob (A_len hA), ob (A_setAt hA), ob (nO_eq _ _ _ _), oc (i_X27 (nw_at _ _ _) rfl), hP.1]
  exact Or.inl ⟨C.N, _, σ.1, _, cs, Nat.le_refl _, rfl, ⟨0, 0, PA.mvq hA.ps.nwc hne0.1 hne0.2.1 hne0.2.2⟩, (Ext.mvP.trans Ext.nwc).new (Nat.le_refl _), by show σ.1 + 1 ≤ _; omega, by show σ.2.1 + 1 ≤ _; omega, rfl, ⟨0, hP.p⟩, hM, by omega, BE.i4.f, hi_at (mv_at _ _ _) (Nat.le_refl _) (by show σ.1 < σ.1 + 1; omega)⟩
theorem K_8 (ok : pOk C) (J : JS C σ st a 0 0 cs) : KO C σ (af_X3_statement_L379 n C.S σ C.P 8) st (kB8 n st) 8 := by
  have hN := ok.1
  obtain ⟨hA, hP, hM, hp, hb⟩ := J
  unfold kB8 af_X3_statement_L379
  have hA1 : PA C (nw σ (.inr (19, [.int 0])) 1) a 0 0 := hA.nwc
  have hx1 : Ext C.P σ (nw σ (.inr (19, [.int 0])) 1) := Ext.nwc
  have hne0 := hA.ne (q := σ.1) (by omega)
  rw [if_neg (by decide), if_neg (by decide), if_neg (by decide), if_neg (by decide), if_neg (by decide), if_neg (by decide), if_neg (by decide), if_neg (by decide), if_pos rfl, ob (nO_eq _ _ _ _), ob (A_cls hA1)]
  by_cases hv : isV (ch C a)
  · have hin := ch_in (C := C) (i := a) (by have := hv.1; omega)
    have hcell : (ps C (nw σ (.inr (19, [.int 0])) 1) (a + 1) 0 0).2.2 σ.1 = some (.inr (19, [.int 0])) := by
      rw [mv_ne _ _ hne0.1]
      exact nw_at _ _ _
    rw [ox (A_variable_t ok hA1 (by omega) hv), oc (i_X20 hcell), ob (b_variable_t ok hP (by omega) hv), ob (b_setArg (k := 0) (by omega))]
    refine Or.inl ⟨a + 1, _, σ.1, _, cs, by omega, rfl, ⟨_, _, (hA1.ps (a' := a + 1) (o' := 0) (g' := 0)).mvq hne0.1 hne0.2.1 hne0.2.2⟩, (hx1.trans Ext.mvP).new (Nat.le_refl _), by show σ.1 + 1 ≤ _; omega, by show σ.2.1 + 1 ≤ _; omega, rfl, ⟨0, BP.set hP.p (by decide)⟩, BM.set (st := sI st 4 (c32 (a + 1))) hM (by decide), by omega, BE.i4.f.trans (BF.a (by omega)), ?_⟩
    exact ⟨ch C a - 65, hi_at (mv_at _ _ _) (Nat.le_refl _) (by show σ.1 < σ.1 + 1; omega), by have := hv.2.1; omega, by
      show (sA (sI st 4 (c32 (a + 1))) 12 (192 + 0) (c32 (ch C a - 65))).2.1 12 (192 + 0) = _
      rw [sA_at, if_pos rfl, if_pos rfl]⟩
  · rw [oxr (A_variable_f ok hA1 (by omega) hv), ob (b_variable_f ok hP (by omega) hv), ob (b_setArg (k := 0) (by omega))]
    exact Or.inr ⟨a, _, _, hp, rfl, ⟨_, _, hA1.th⟩, hx1.th, by show σ.1 + 1 + 1 ≤ _; omega, by show σ.2.1 + 1 + 6 ≤ _; omega, rfl, ⟨0, cs.length, 1, BP.set hP.b (by decide), Or.inl rfl, hM.1, by omega⟩, BE.i7.f.trans (BF.a (by omega))⟩
theorem K_9 (ok : pOk C) (hS : sInj C.S) (hn : 1000 ≤ n) (J : JS C σ st a 0 0 cs) : KO C σ (af_X3_statement_L379 n C.S σ C.P 9) st (bf_target n st) 9 := by
  have hN := ok.1
  have J' := J
  obtain ⟨hA, hP, hM, hp, hb⟩ := J'
  unfold af_X3_statement_L379
  have hA1 : PA C (nw σ (.inr (20, [.null])) 1) a 0 0 := hA.nwc
  have hx1 : Ext C.P σ (nw σ (.inr (20, [.null])) 1) := Ext.nwc
  have hne0 := hA.ne (q := σ.1) (by omega)
  have hPlt := hA.2.2.2.1
  rw [if_neg (by decide), if_neg (by decide), if_neg (by decide), if_neg (by decide), if_neg (by decide), if_neg (by decide), if_neg (by decide), if_neg (by decide), if_neg (by decide), if_pos rfl, ob (nO_eq _ _ _ _), ob (A_cls hA1)]
  rcases K_place ok hS hn (σ := nw σ (.inr (20, [.null])) 1) ⟨hA1, hP, hM, hp, hb⟩ with ⟨at0, σ0, p, s0, cs0, w1, w2, w3, w4, w5, w6, w7, w8, w9, w10, w11, w12, w13⟩ | ⟨at0, σ0, s0, w1, w2, w3, ⟨wo, wg, w4⟩, w5, w6, w7, w8, w9, w10⟩
  · have w6 : σ0.1 ≤ σ.1 + 1 + 2 + (at0 - a) := w6
    have w7 : σ0.2.1 ≤ σ.2.1 + 1 + 3 + 3 * (at0 - a) := w7
    have hs : σ.1 + 1 ≤ σ0.1 := w5.1
    have hcell : σ0.2.2 σ.1 = some (.inr (20, [.null])) := by
      rw [w5.2 σ.1 (by show σ.1 < σ.1 + 1; omega) hne0.1]
      exact nw_at _ _ _
    rw [ox w3, oc (i_X21 hcell)]
    refine Or.inl ⟨at0, _, σ.1, s0, cs0, w2, rfl, ⟨_, _, w4.mvq hne0.1 hne0.2.1 hne0.2.2⟩, (hx1.trans w5).new (Nat.le_refl _), by show σ0.1 ≤ _; omega, by show σ0.2.1 ≤ _; omega, w8, ⟨_, w9⟩, w10, by omega, w12, ?_⟩
    exact ⟨p, hi_at (mv_at _ _ _) (Nat.le_refl _) (by show σ.1 < σ0.1; omega), w13.map (hi_mv (by show σ.1 < σ.1 + 1; omega) (by show σ.1 ≤ σ.1 + 1; omega)) rfl (fun _ _ _ h => h)⟩
  · have w6 : σ0.1 ≤ σ.1 + 1 + 4 + (at0 - a) := w6
    have w7 : σ0.2.1 ≤ σ.2.1 + 1 + 12 + 3 * (at0 - a) := w7
    rw [oxr w3]
    exact Or.inr ⟨at0, _, s0, w2, rfl, ⟨_, _, w4⟩, hx1.trans w5, by omega, by omega, w8, DM.e (w9.up (by omega)), w10⟩
theorem K_12 (ok : pOk C) (J : JS C σ st a 0 0 cs) : KO C σ (af_X3_statement_L379 n C.S σ C.P 12) st (bf_dim n st) 12 := by
  have hN := ok.1
  obtain ⟨hA, hP, hM, hp, hb⟩ := J
  unfold af_X3_statement_L379
  rw [if_neg (by decide), if_neg (by decide), if_neg (by decide), if_neg (by decide), if_neg (by decide), if_neg (by decide), if_neg (by decide), if_neg (by decide), if_neg (by decide), if_neg (by decide), if_neg (by decide), if_neg (by decide), if_pos rfl, ob (A_cls hA)]
  unfold af_X3_dim bf_dim
  rw [ob (A_cls hA)]
  -- what is left of the model's once it is bad
  have T9 : ∀ (s : bS) (at_ : Nat), DB C s at_ 130 → at_ ≤ 60 → ∃ s', ((bf_need n s 41).bind fun q_9 => some (q_9.1, ())) = some (s', ()) ∧ DB C s' at_ 130 ∧ BF s s' := fun s at_ hD ha => ⟨sI s 7 1, by rw [ob (D_needB hD).1], (D_needB (c := 41) (n := n) hD).2, BE.i7.f⟩
  have T7 : ∀ (s : bS) (at_ : Nat), DB C s at_ 130 → at_ ≤ 60 → ∃ s', ((bf_oneToSix n s).bind fun q_7 => (bf_setArg n q_7.1 2 q_7.2).bind fun q_8 => (bf_need n q_8.1 41).bind fun q_9 => some (q_9.1, ())) = some (s', ()) ∧ DB C s' at_ 130 ∧ BF s s' := by
    intro s at_ hD ha
    obtain ⟨s', e, h1, h2⟩ := T9 (sA (sI s 7 1) 12 (192 + 2) 0) at_ ((D_one6 (n := n) ok hD ha).2.set (by decide)) ha
    exact ⟨s', by rw [ob (D_one6 (n := n) ok hD ha).1, ob (b_setArg (k := 2) (by omega))]; exact e, h1, (BE.i7.f.trans (BF.a (by omega))).trans h2⟩
  have T6 : ∀ (s : bS) (at_ : Nat), DB C s at_ 130 → at_ ≤ 60 → ∃ s', ((bf_need n s 44).bind fun q_6 => (bf_oneToSix n q_6.1).bind fun q_7 => (bf_setArg n q_7.1 2 q_7.2).bind fun q_8 => (bf_need n q_8.1 41).bind fun q_9 => some (q_9.1, ())) = some (s', ()) ∧ DB C s' at_ 130 ∧ BF s s' := by
    intro s at_ hD ha
    obtain ⟨s', e, h1, h2⟩ := T7 (sI s 7 1) at_ (D_needB (c := 44) (n := n) hD).2 ha
    exact ⟨s', by rw [ob (D_needB hD).1]; exact e, h1, BE.i7.f.trans h2⟩
  have T4 : ∀ (s : bS) (at_ : Nat), DB C s at_ 130 → at_ ≤ 60 → ∃ s', ((bf_oneToSix n s).bind fun q_4 => (bf_setArg n q_4.1 1 q_4.2).bind fun q_5 => (bf_need n q_5.1 44).bind fun q_6 => (bf_oneToSix n q_6.1).bind fun q_7 => (bf_setArg n q_7.1 2 q_7.2).bind fun q_8 => (bf_need n q_8.1 41).bind fun q_9 => some (q_9.1, ())) = some (s', ()) ∧ DB C s' at_ 130 ∧ BF s s' := by
    intro s at_ hD ha
    obtain ⟨s', e, h1, h2⟩ := T6 (sA (sI s 7 1) 12 (192 + 1) 0) at_ ((D_one6 (n := n) ok hD ha).2.set (by decide)) ha
    exact ⟨s', by rw [ob (D_one6 (n := n) ok hD ha).1, ob (b_setArg (k := 1) (by omega))]; exact e, h1, (BE.i7.f.trans (BF.a (by omega))).trans h2⟩
  have fin : ∀ (σ' : aS) (at_ : Nat) (s s' : bS) (zB : Option (bS × Unit)), at_ ≤ C.N → (∃ op go, PA C σ' at_ op go) → Ext C.P σ σ' → σ'.1 ≤ σ.1 + 200 → σ'.2.1 ≤ σ.2.1 + 1000 → zB = some (s', ()) → DB C s' at_ 130 → BF st s → BF s s' → KO C σ (xb (some (σ', .inr 0)) fun st_74 r_75 => some (st_74, .inl r_75)) st zB 12 := by
    intro σ' at_ s s' zB h1 h2 h3 h4 h5 h6 h7 h8 h9
    exact Or.inr ⟨at_, σ', s', h1, rfl, h2, h3, h4, h5, h6, DM.e (h7.m.up (by omega)), h8.trans h9⟩
  by_cases hm : isM (ch C a)
  · have hin := ch_in (C := C) (i := a) (by unfold isM at hm; omega)
    have hA1 : PA C (ps C σ (a + 1) 0 0) (a + 1) 0 0 := hA.ps
    rw [ox (A_matrix_t ok hA (by omega) hm), ob (A_cls hA1), ob (b_matrix_t ok hP (by omega) hm), ob (b_setArg (k := 0) (by omega))]
    generalize hmm : ch C a - 80 = mm
    have hmm3 : mm < 3 := by unfold isM at hm; omega
    have hP1 : BP C (sA (sI st 4 (c32 (a + 1))) 12 (192 + 0) (c32 mm)) (a + 1) 0 0 := BP.set hP.p (by decide)
    have hM1 : BM (sA (sI st 4 (c32 (a + 1))) 12 (192 + 0) (c32 mm)) cs := BM.set (st := sI st 4 (c32 (a + 1))) hM (by decide)
    have hF1 : BF st (sA (sI st 4 (c32 (a + 1))) 12 (192 + 0) (c32 mm)) := BE.i4.f.trans (BF.a (by omega))
    have hv1 : (sA (sI st 4 (c32 (a + 1))) 12 (192 + 0) (c32 mm)).2.1 12 192 = c32 mm := by rw [sA_at, if_pos rfl, if_pos rfl]
    dsimp only
    generalize sA (sI st 4 (c32 (a + 1))) 12 (192 + 0) (c32 mm) = s1 at *
    by_cases h40 : ch C (a + 1) = 40
    · have hin1 := ch_in (C := C) (i := a + 1) (by omega)
      rw [ox (A_take_t (c := 40) ok hA1 (by omega) h40), ps_ps, ob (b_need_t (c := 40) ok hP1 (by omega) h40)]
      have hA2 : PA C (ps C σ (a + 1 + 1) 0 0) (a + 2) 0 0 := hA.ps
      have hP2 : BP C (sI s1 4 (c32 (a + 1 + 1))) (a + 2) 0 0 := hP1.p
      rw [ob (A_cls hA2)]
      dsimp only
      by_cases hr : 49 ≤ ch C (a + 2) ∧ ch C (a + 2) ≤ 54
      · have hin2 := ch_in (C := C) (i := a + 2) (by omega)
        rw [ox (A_size_t ok hA2 (by omega) hr), ps_ps, ob (b_one6_t ok hP2 (by omega) hr), sI_sI, ob (b_setArg (k := 1) (by omega))]
        generalize hrr : ch C (a + 2) - 48 = rr
        have hA3 : PA C (ps C σ (a + 2 + 1) 0 0) (a + 3) 0 0 := hA.ps
        have hP3 : BP C (sA (sI s1 4 (c32 (a + 2 + 1))) 12 (192 + 1) (c32 rr)) (a + 3) 0 0 := BP.set hP1.p (by decide)
        have hM3 : BM (sA (sI s1 4 (c32 (a + 2 + 1))) 12 (192 + 1) (c32 rr)) cs := BM.set (st := sI s1 4 (c32 (a + 2 + 1))) hM1 (by decide)
        have hF3 : BF st (sA (sI s1 4 (c32 (a + 2 + 1))) 12 (192 + 1) (c32 rr)) := hF1.trans (BE.i4.f.trans (BF.a (by omega)))
        have hv3 : (sA (sI s1 4 (c32 (a + 2 + 1))) 12 (192 + 1) (c32 rr)).2.1 12 193 = c32 rr := by rw [sA_at, if_pos rfl, if_pos rfl]
        have hv30 : (sA (sI s1 4 (c32 (a + 2 + 1))) 12 (192 + 1) (c32 rr)).2.1 12 192 = c32 mm := by rw [sA_at, if_pos rfl, if_neg (by decide)]; exact hv1
        rw [ob (A_cls hA3)]
        dsimp only
        generalize sA (sI s1 4 (c32 (a + 2 + 1))) 12 (192 + 1) (c32 rr) = s3 at *
        by_cases h44 : ch C (a + 3) = 44
        · have hin3 := ch_in (C := C) (i := a + 3) (by omega)
          rw [ox (A_take_t (c := 44) ok hA3 (by omega) h44), ps_ps, ob (b_need_t (c := 44) ok hP3 (by omega) h44)]
          have hA4 : PA C (ps C σ (a + 3 + 1) 0 0) (a + 4) 0 0 := hA.ps
          have hP4 : BP C (sI s3 4 (c32 (a + 3 + 1))) (a + 4) 0 0 := hP3.p
          rw [ob (A_cls hA4)]
          dsimp only
          by_cases hc : 49 ≤ ch C (a + 4) ∧ ch C (a + 4) ≤ 54
          · have hin4 := ch_in (C := C) (i := a + 4) (by omega)
            rw [ox (A_size_t ok hA4 (by omega) hc), ps_ps, ob (b_one6_t ok hP4 (by omega) hc), sI_sI, ob (b_setArg (k := 2) (by omega))]
            generalize hcc : ch C (a + 4) - 48 = cc
            have hA5 : PA C (ps C σ (a + 4 + 1) 0 0) (a + 5) 0 0 := hA.ps
            have hP5 : BP C (sA (sI s3 4 (c32 (a + 4 + 1))) 12 (192 + 2) (c32 cc)) (a + 5) 0 0 := BP.set hP3.p (by decide)
            have hM5 : BM (sA (sI s3 4 (c32 (a + 4 + 1))) 12 (192 + 2) (c32 cc)) cs := BM.set (st := sI s3 4 (c32 (a + 4 + 1))) hM3 (by decide)
            have hF5 : BF st (sA (sI s3 4 (c32 (a + 4 + 1))) 12 (192 + 2) (c32 cc)) := hF3.trans (BE.i4.f.trans (BF.a (by omega)))
            have hv5 : (sA (sI s3 4 (c32 (a + 4 + 1))) 12 (192 + 2) (c32 cc)).2.1 12 194 = c32 cc := by rw [sA_at, if_pos rfl, if_pos rfl]
            have hv51 : (sA (sI s3 4 (c32 (a + 4 + 1))) 12 (192 + 2) (c32 cc)).2.1 12 193 = c32 rr := by rw [sA_at, if_pos rfl, if_neg (by decide)]; exact hv3
            have hv50 : (sA (sI s3 4 (c32 (a + 4 + 1))) 12 (192 + 2) (c32 cc)).2.1 12 192 = c32 mm := by rw [sA_at, if_pos rfl, if_neg (by decide)]; exact hv30
            rw [ob (A_cls hA5)]
            dsimp only
            generalize sA (sI s3 4 (c32 (a + 4 + 1))) 12 (192 + 2) (c32 cc) = s5 at *
            by_cases h41 : ch C (a + 5) = 41
            · have hin5 := ch_in (C := C) (i := a + 5) (by omega)
              have hne0 := hA.ne (q := σ.1) (by omega)
              rw [ox (A_take_t (c := 41) ok hA5 (by omega) h41), ps_ps, ob (b_need_t (c := 41) ok hP5 (by omega) h41), ob (nO_eq _ _ _ _)]
              have e9 : af_X24_init n C.S (nw (ps C σ (a + 5 + 1) 0 0) (.inr (23, [.int 0, .int 0, .int 0])) 3) (ps C σ (a + 5 + 1) 0 0).1 (c32 mm) (c32 rr) (c32 cc) = some (mv (nw (ps C σ (a + 5 + 1) 0 0) (.inr (23, [.int 0, .int 0, .int 0])) 3) σ.1 (.inr (23, [.int (c32 mm), .int (c32 rr), .int (c32 cc)])), ()) := i_X24 (nw_at _ _ _)
              rw [oc e9]
              have hA6 : PA C (nw (ps C σ (a + 5 + 1) 0 0) (.inr (23, [.int 0, .int 0, .int 0])) 3) (a + 6) 0 0 := hA.ps.nwc
              refine Or.inl ⟨a + 6, _, σ.1, _, cs, by omega, rfl, ⟨_, _, hA6.mvq hne0.1 hne0.2.1 hne0.2.2⟩, (Ext.mvP.trans Ext.nwc).new (Nat.le_refl _), by show σ.1 + 1 ≤ _; omega, by show σ.2.1 + 3 ≤ _; omega, rfl, ⟨0, hP5.p⟩, hM5, by omega, hF5.trans BE.i4.f, ?_⟩
              exact ⟨mm, rr, cc, hi_at (mv_at _ _ _) (Nat.le_refl _) (by show σ.1 < σ.1 + 1; omega), hmm3, by omega, by omega, by omega, by omega, hv50, hv51, hv5⟩
            · rw [oxr (A_take_f (c := 41) ok hA5 (by omega) (by omega) h41), ob (b_need_f (c := 41) ok hP5 (by omega) (by omega) h41)]
              exact fin _ (a + 5) s5 _ _ (by omega) ⟨_, _, hA5.th⟩ Ext.mvP.th (by show σ.1 + 1 ≤ _; omega) (by show σ.2.1 + 6 ≤ _; omega) rfl ⟨0, cs.length, hP5.b, (by exact hM5.1), by omega⟩ hF5 BE.i7.f
          · have hD : DB C (sA (sI (sI s3 4 (c32 (a + 3 + 1))) 7 1) 12 (192 + 2) 0) (a + 4) 130 := ⟨0, cs.length, BP.set hP4.b (by decide), (by exact hM3.1), by omega⟩
            obtain ⟨s', e, g1, g2⟩ := T9 _ _ hD (by omega)
            rw [oxr (A_size_f ok hA4 (by omega) hc), ob (b_one6_f ok hP4 (by omega) hc), ob (b_setArg (k := 2) (by omega))]
            dsimp only
            rw [e]
            exact fin _ (a + 4) _ s' _ (by omega) ⟨_, _, hA4.th⟩ Ext.mvP.th (by show σ.1 + 1 ≤ _; omega) (by show σ.2.1 + 6 ≤ _; omega) rfl g1 (hF3.trans ((BE.i4.trans BE.i7).f.trans (BF.a (by omega)))) g2
        · have hD : DB C (sI s3 7 1) (a + 3) 130 := ⟨0, cs.length, hP3.b, (by exact hM3.1), by omega⟩
          obtain ⟨s', e, g1, g2⟩ := T7 _ _ hD (by omega)
          rw [oxr (A_take_f (c := 44) ok hA3 (by omega) (by omega) h44), ob (b_need_f (c := 44) ok hP3 (by omega) (by omega) h44)]
          dsimp only
          rw [e]
          exact fin _ (a + 3) _ s' _ (by omega) ⟨_, _, hA3.th⟩ Ext.mvP.th (by show σ.1 + 1 ≤ _; omega) (by show σ.2.1 + 6 ≤ _; omega) rfl g1 (hF3.trans BE.i7.f) g2
      · have hD : DB C (sA (sI (sI s1 4 (c32 (a + 1 + 1))) 7 1) 12 (192 + 1) 0) (a + 2) 130 := ⟨0, cs.length, BP.set hP2.b (by decide), (by exact hM1.1), by omega⟩
        obtain ⟨s', e, g1, g2⟩ := T6 _ _ hD (by omega)
        rw [oxr (A_size_f ok hA2 (by omega) hr), ob (b_one6_f ok hP2 (by omega) hr), ob (b_setArg (k := 1) (by omega))]
        dsimp only
        rw [e]
        exact fin _ (a + 2) _ s' _ (by omega) ⟨_, _, hA2.th⟩ Ext.mvP.th (by show σ.1 + 1 ≤ _; omega) (by show σ.2.1 + 6 ≤ _; omega) rfl g1 (hF1.trans ((BE.i4.trans BE.i7).f.trans (BF.a (by omega)))) g2
    · have hD : DB C (sI s1 7 1) (a + 1) 130 := ⟨0, cs.length, hP1.b, (by exact hM1.1), by omega⟩
      obtain ⟨s', e, g1, g2⟩ := T4 _ _ hD (by omega)
      rw [oxr (A_take_f (c := 40) ok hA1 (by omega) (by omega) h40), ob (b_need_f (c := 40) ok hP1 (by omega) (by omega) h40)]
      dsimp only
      rw [e]
      exact fin _ (a + 1) _ s' _ (by omega) ⟨_, _, hA1.th⟩ Ext.mvP.th (by show σ.1 + 1 ≤ _; omega) (by show σ.2.1 + 6 ≤ _; omega) rfl g1 (hF1.trans BE.i7.f) g2
  · have hD : DB C (sA (sI st 7 1) 12 (192 + 0) 0) a 130 := ⟨0, cs.length, BP.set hP.b (by decide), (by exact hM.1), by omega⟩
    obtain ⟨s', e, g1, g2⟩ := T4 (sI (sA (sI st 7 1) 12 (192 + 0) 0) 7 1) a (D_needB (n := n) (c := 40) hD).2 (by omega)
    rw [oxr (A_matrix_f ok hA (by omega) hm), ob (b_matrix_f ok hP (by omega) hm), ob (b_setArg (k := 0) (by omega))]
    dsimp only
    rw [ob (D_needB hD).1]
    dsimp only
    rw [e]
    exact fin _ a _ s' _ hp ⟨_, _, hA.th⟩ Ext.rfl_.th (by show σ.1 + 1 ≤ _; omega) (by show σ.2.1 + 6 ≤ _; omega) rfl g1 ((BE.i7.f.trans (BF.a (by omega))).trans BE.i7.f) g2
end KINDS2
