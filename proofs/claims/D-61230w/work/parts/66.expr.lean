/-! THE PURE LAW: an expression is read alike -/
section EXPR
variable {C : pC} {n op : Nat} {rx : aS → Nat → Option (aS × (Option Nat ⊕ Nat))}
def LV (C : pC) (n r op : Nat) (z : aS → Option (aS × (Option Nat ⊕ Nat))) : Prop :=
  ∀ (x1 x2 : Int32) (ins : Nat) (st0 : bS) (ws : List Nat) (σ : aS) (a0 go : Nat) (st : bS) (cs : List Nat) (f : Int32), Ent C x1 ins st0 ws σ a0 op go st cs → stops r ws → (f = 0 ∨ f = 1 ∧ ch C a0 ≠ 45) → Out r C n x1 x2 ins st0 ws σ (z σ) a0 op go st cs (fun k => LSx n k st x1 x2 ws.length ins 1 f)
theorem wb_24 : wd 17 = wb 24 ∧ wd 18 = wb 25 ∧ wd 19 = wb 26 := by decide +kernel
theorem wb_3 : (wb 24).length = 3 ∧ (wb 25).length = 3 ∧ (wb 26).length = 3 := by decide +kernel
theorem LV4 (ok : pOk C) (hS : sInj C.S) (hn : 1000 ≤ n) (IH : op < 6 → EXs C n rx (op + 1)) : LV C n 4 op (fun σ => af_X3_part n C.S rx σ C.P) := by
  intro x1 x2 ins st0 ws σ a0 go st cs f E _ hf
  have hN := ok.1
  have E' := E
  obtain ⟨hA, hB, hp, ho6, hx, hgo, hi', hmk, hb, hb2⟩ := E'
  have hP := hB.1
  by_cases hd : dig (ch C a0)
  · exact P_num ok hn E hf hd
  by_cases hm : isM (ch C a0)
  · exact P_mat ok hn IH E hf hm
  by_cases h40 : ch C a0 = 40
  · by_cases ho : op < 6
    · exact P_par ok hn (IH ho) E hf h40 ho
    · obtain ⟨hP, hM, hW, hE, hw⟩ := hB
      have hA1 : PA C (nw σ (.inr (8, [.int 0])) 1) a0 op go := hA.nwc
      show Out 4 C n x1 x2 ins st0 ws σ (af_X3_part n C.S rx σ C.P) a0 op go st cs (fun k => LSx n k st x1 x2 ws.length ins 1 f)
      rw [pa_var ok hA (by omega) (by omega) ho6 (fun z => absurd z ho) hm hd (fun z => ho z.1), pa_72 hA, oxr (A_variable_f ok hA1 (by omega) (by unfold isV; omega))]
      obtain ⟨st2, m', e2, k1, k2, k3, k4⟩ := L_bad (x1 := x1) (x2 := x2) (ins := ins) (opd := 0) (fst := 0) (m := cs.length) (st := sI st 7 1) hn hP.b (BW.of (st := st) rfl hW) hw (by exact hM.1) (by omega) (by omega) (hE.trans BE.i7)
      refine Or.inr ⟨a0, Nat.le_refl _, hp, ⟨_, op, go, rfl, hA1.th, Ext.nwc.th, by show σ.1 + 1 + 1 ≤ _; omega, by show σ.2.1 + 1 + 6 ≤ _; omega⟩, 4, st2, op, m', 1, fun k => ?_, by omega, k1, Or.inl rfl, k2, k3, by omega⟩
      show LSx n (k + 1 + 3) st x1 x2 ws.length ins 1 f = _
      rw [L_part (x1 := x1) (x2 := x2) (nw := ws.length) ok hP (by omega) hf (by omega) (k + 1), ob (pm_par_f ok hP (by omega) (by omega) (Or.inl h40)), if_pos rfl]
      exact e2 k
  by_cases hF : op < 6 ∧ isF C a0 op go
  · obtain ⟨ho, hF⟩ := hF
    rcases hF with ⟨h1, h2⟩ | ⟨h1, h2⟩ | ⟨h1, h2, h3⟩ | ⟨h1, h2⟩
    · refine P_one (c := 65) (i := 17) (w := 24) (o := 9) ok hS hn (IH ho) E hf ho (by omega) (by omega) wb_24.1 wb_3.1 (by omega) (by omega) (by omega) (by omega) rfl ?_ ?_
      · rw [pa_fun ok hA (by omega) ho h40 hm hd, h1, h2]
        show xb (af_X3_function n C.S rx σ C.P 65 66) _ = _
        rw [fn_abs hA]
        rfl
      · rw [pm_abs ok hP (by omega) ho h1 h2]
        rfl
    · refine P_one (c := 73) (i := 18) (w := 25) (o := 10) ok hS hn (IH ho) E hf ho (by omega) (by omega) wb_24.2.1 wb_3.2.1 (by omega) (by omega) (by omega) (by omega) rfl ?_ ?_
      · rw [pa_fun ok hA (by omega) ho h40 hm hd, h1, h2]
        show xb (af_X3_function n C.S rx σ C.P 73 78) _ = _
        rw [fn_int hA]
        rfl
      · rw [pm_int ok hP (by omega) ho h1 h2]
        rfl
    · refine P_one (c := 83) (i := 19) (w := 26) (o := 11) ok hS hn (IH ho) E hf ho (by omega) (by omega) wb_24.2.2 wb_3.2.2 (by omega) (by omega) (by omega) (by omega) rfl ?_ ?_
      · rw [pa_fun ok hA (by omega) ho h40 hm hd, h1, h2]
        show xb (af_X3_function n C.S rx σ C.P 83 71) _ = _
        rw [fn_sgn ok hA (by omega) (by omega) (by omega) h3]
        rfl
      · rw [pm_sgn ok hP (by omega) ho h1 h2 hx hgo h3]
        rfl
    · exact P_fn ok hS hn (IH ho) E hf ho h1 h2
  · exact P_var ok hn E hf h40 hm hd hF
theorem nop_4 (c : Nat) : nop 4 c := ⟨fun z => by omega, fun z => by omega, fun z => by omega⟩
/-- the loop over operators of one rank -/
theorem LOOP (ok : pOk C) (hn : 1000 ≤ n) {r : Nat} (hr1 : 1 ≤ r) (hr3 : r ≤ 3) {zsub : aS → Option (aS × (Option Nat ⊕ Nat))} (hsub : LV C n (r + 1) op zsub) {Z : Nat → aS → Nat → Option (aS × (Option Nat ⊕ Nat))} {cf : Nat} (hcf : cf ≤ 2)
    (hstop : ∀ (f : Nat) (σ : aS) (e p go : Nat), PA C σ p op go → p ≤ C.N → nop r (ch C p) → Z (f + 2) σ e = some (σ, .inl (some e)))
    (hstep : ∀ (f : Nat) (σ : aS) (e p go w : Nat), PA C σ p op go → p ≤ C.N → 3 ≤ w → w ≤ 7 → rk w = r → ch C p = osg w → Z (f + cf) σ e = xb (zsub (nw (ps C σ (p + 1) op go) (.inr (9, [.int 0, .null, .null])) 3)) fun σ3 r2 => cb (af_X10_init n C.S σ3 σ.1 (c32 (osg w)) (some e) r2) fun σ4 _ => Z f σ4 σ.1)
    {x1 x2 : Int32} {ins go a0 : Nat} {st0 : bS} {ws cs : List Nat} {σ0 : aS} (hP0 : C.P < σ0.1) (hX0 : C.X < σ0.1) (hW0 : C.W < σ0.1) (ho6 : op ≤ 6) (hx : x1 = c32 go) (hgo : go = 0 ∨ go = 1 ∧ op = ins) (hi' : ins ≤ op) (hmk : marks ws = ins) (hst : stops r ws) :
    ∀ (m : Nat) (σ : aS) (e p : Nat) (l : List Nat) (st : bS) (c o : List Nat) (f : Nat), C.N - p ≤ m → PA C σ p op go → Ext C.P σ0 σ → a0 < p → p ≤ C.N → σ.1 ≤ σ0.1 + (p - a0) → σ.2.1 ≤ σ0.2.1 + 3 * (p - a0) → ex (p - a0) (hi σ0.1 σ) e l → nop (r + 1) (ch C p) → c ++ o = l → (∀ w ∈ o, w < 100 ∧ r ≤ rk w) → BL C st0 st p op (cs ++ c) (o ++ ws) → (cs ++ c).length + (o ++ ws).length ≤ 2 * p + 1 → (o ++ ws).length ≤ p → 2 * m + 4 ≤ f →
    (∃ at_ l', p ≤ at_ ∧ at_ ≤ C.N ∧ okE C σ0 (Z f σ e) a0 at_ op go l' ∧ nop r (ch C at_) ∧ ∃ j st' c' o', c' ++ o' = l' ∧ (∀ w ∈ o', w < 100 ∧ r ≤ rk w) ∧ (∀ k, LSx n (k + j) st x1 x2 (o ++ ws).length ins 0 0 = LSx n k st' x1 x2 (o' ++ ws).length ins 0 0) ∧ BL C st0 st' at_ op (cs ++ c') (o' ++ ws) ∧ (cs ++ c').length + (o' ++ ws).length ≤ 2 * at_ + 1 ∧ (o' ++ ws).length ≤ at_ ∧ j ≤ 6 * (at_ - p)) ∨
    (∃ at_, p ≤ at_ ∧ at_ ≤ C.N ∧ noE C σ0 (Z f σ e) a0 at_ ∧ FIN C st0 (fun k => LSx n k st x1 x2 (o ++ ws).length ins 0 0) x2 20 p at_) := by
  have hN := ok.1
  intro m
  induction m with
  | zero =>
    intro σ e p l st c o f hm hA hx0 hap hp s1 s2 hex hnop hl ho hBL hb hb2 hf
    have hp0 : ch C p = 0 := ch_end (by omega)
    obtain ⟨f, rfl⟩ : ∃ f', f = f' + 2 := ⟨f - 2, by omega⟩
    have hnr : nop r (ch C p) := by rw [hp0]; exact ⟨fun _ => by omega, fun _ => by omega, fun _ => by omega⟩
    exact Or.inl ⟨p, l, Nat.le_refl _, hp, ⟨σ, e, hstop f σ e p go hA hp hnr, hA, hx0, s1, s2, hex⟩, hnr, 0, st, c, o, hl, ho, fun k => rfl, hBL, hb, hb2, by omega⟩
  | succ m ih =>
    intro σ e p l st c o f hm hA hx0 hap hp s1 s2 hex hnop hl ho hBL hb hb2 hf
    by_cases hnr : nop r (ch C p)
    · obtain ⟨f, rfl⟩ : ∃ f', f = f' + 2 := ⟨f - 2, by omega⟩
      exact Or.inl ⟨p, l, Nat.le_refl _, hp, ⟨σ, e, hstop f σ e p go hA hp hnr, hA, hx0, s1, s2, hex⟩, hnr, 0, st, c, o, hl, ho, fun k => rfl, hBL, hb, hb2, by omega⟩
    · have hw : ∃ w, 3 ≤ w ∧ w ≤ 7 ∧ rk w = r ∧ ch C p = osg w := by
        unfold nop at hnr hnop
        have hcases : (r = 3 ∧ ch C p = 94) ∨ (r = 2 ∧ (ch C p = 42 ∨ ch C p = 47)) ∨ (r = 1 ∧ (ch C p = 43 ∨ ch C p = 45)) := by omega
        rcases hcases with ⟨rfl, h⟩ | ⟨rfl, h | h⟩ | ⟨rfl, h | h⟩
        · exact ⟨7, by omega, by omega, rfl, h⟩
        · exact ⟨5, by omega, by omega, rfl, h⟩
        · exact ⟨6, by omega, by omega, rfl, h⟩
        · exact ⟨3, by omega, by omega, rfl, h⟩
        · exact ⟨4, by omega, by omega, rfl, h⟩
      obtain ⟨w, w1, w2, w3, w4⟩ := hw
      have hosg : 42 ≤ osg w ∧ osg w < 128 := by unfold osg; split <;> (try split) <;> (try split) <;> (try split) <;> omega
      have hin := ch_in (C := C) (i := p) (by omega)
      obtain ⟨f, rfl⟩ : ∃ f', f = f' + cf := ⟨f - cf, by omega⟩
      rw [hstep f σ e p go w hA hp w1 w2 w3 w4]
      obtain ⟨st1, hz1, hBL1⟩ := L_op (ins := ins) (x1 := x1) (x2 := x2) ok hn hBL ho hst w1 w2 w3 w4 hin hb hb2
      have hccl : (cs ++ c).length = cs.length + c.length := List.length_append
      have hol : (o ++ ws).length = o.length + ws.length := List.length_append
      have hcol : (cs ++ c ++ o).length = cs.length + c.length + o.length := by rw [List.length_append, List.length_append]
      have hA1 : PA C (nw (ps C σ (p + 1) op go) (.inr (9, [.int 0, .null, .null])) 3) (p + 1) op go := hA.ps.nwc
      have hw100 : ¬ 100 ≤ w := by omega
      have hmk1 : marks (w :: ws) = ins := by
        show (if 100 ≤ w then 1 else 0) + marks ws = _
        rw [if_neg hw100]
        omega
      rcases hsub x1 x2 ins st0 (w :: ws) _ (p + 1) go st1 (cs ++ c ++ o) 0 ⟨hA1, hBL1, by omega, ho6, hx, hgo, hi', hmk1, by rw [List.length_cons]; omega, by rw [List.length_cons]; omega⟩ (Or.inr (by omega)) (Or.inl rfl) with ⟨at1, l2, q1, q2, ⟨σ1, r2, e1, hA2, hx2, t1, t2, hex2⟩, hnop2, j1, st2, c2, o2, hl2, ho2, hz2, hBL2, hbb, hbb2, hj1⟩ | ⟨at1, q1, q2, ⟨σ1, op1, go1, e1, hA2, hx2, t1, t2⟩, j1, st2, op1', m1, bad1, hz2, hj1, f1, f2, f3, f4, f5⟩
      · have t1 : σ1.1 ≤ σ.1 + 1 + (at1 - (p + 1)) := t1
        have t2 : σ1.2.1 ≤ σ.2.1 + 3 + 3 * (at1 - (p + 1)) := t2
        have hs01 : σ0.1 ≤ σ.1 := hx0.1
        have hq : σ.1 < σ1.1 := by have h := hx2.1; have h : σ.1 + 1 ≤ σ1.1 := h; omega
        have hcell : σ1.2.2 σ.1 = some (.inr (9, [.int 0, .null, .null])) := by
          rw [hx2.2 σ.1 (by show σ.1 < σ.1 + 1; omega) (by omega)]
          exact nw_at _ _ _
        rw [ox e1, oc (i_X10 hcell (cz_of (by omega)))]
        have hA3 : PA C (mv σ1 σ.1 (.inr (9, [.int (c32 (osg w)), va_rf (some e), va_rf (some r2)]))) at1 op go := hA2.mvq (by omega) (by omega) (by omega)
        have hx3 : Ext C.P σ (mv σ1 σ.1 (.inr (9, [.int (c32 (osg w)), va_rf (some e), va_rf (some r2)]))) := ((Ext.mvP.trans Ext.nwc).trans hx2).new (Nat.le_refl _)
        have hex3 : ex (at1 - a0) (hi σ0.1 (mv σ1 σ.1 (.inr (9, [.int (c32 (osg w)), va_rf (some e), va_rf (some r2)])))) σ.1 (l ++ (l2 ++ [w])) := by
          refine ex.up (d := (at1 - a0 - 1) + 1) ?_ (by omega)
          refine Or.inr (Or.inr (Or.inr (Or.inl ⟨w, e, r2, l, l2, hi_at (mv_at _ _ _) hs01 hq, w1, w2, ?_, ?_, rfl⟩)))
          · exact (ex.map (hi_le hx3 hP0 (Nat.le_refl _)) _ _ _ hex).up (by omega)
          · exact (ex.map (hi_mv (by show σ.1 < σ.1 + 1; omega) (by show σ0.1 ≤ σ.1 + 1; omega)) _ _ _ hex2).up (by omega)
        have hcode : cs ++ c ++ o ++ c2 = cs ++ (c ++ o ++ c2) := by simp
        have hst2 : o2 ++ w :: ws = (o2 ++ [w]) ++ ws := by simp
        rw [hcode, hst2] at hBL2 hbb
        rw [hst2] at hbb2 hz2
        rcases ih (mv σ1 σ.1 (.inr (9, [.int (c32 (osg w)), va_rf (some e), va_rf (some r2)]))) σ.1 at1 (l ++ (l2 ++ [w])) st2 (c ++ o ++ c2) (o2 ++ [w]) f (by omega) hA3 (hx0.trans hx3) (by omega) q2 (by show σ1.1 ≤ _; omega) (by show σ1.2.1 ≤ _; omega) hex3 hnop2 (by rw [← hl, ← hl2]; simp) (fun v hv => by
            rcases List.mem_append.mp hv with hv | hv
            · exact ⟨(ho2 v hv).1, by have := (ho2 v hv).2; omega⟩
            · rcases List.mem_cons.mp hv with rfl | hv
              · exact ⟨by omega, by omega⟩
              · cases hv) hBL2 hbb hbb2 (by omega) with ⟨at2, l3, p1, p2, hok, hno, j3, st3, c3, o3, g1, g2, g3, g4, g5, g6, g7⟩ | ⟨at2, p1, p2, hno, j3, st3, op3, m3, bad3, g1, g2, g3⟩
        · refine Or.inl ⟨at2, l3, by omega, p2, hok, hno, j3 + j1 + 1, st3, c3, o3, g1, g2, fun k => ?_, g4, g5, g6, by omega⟩
          rw [show k + (j3 + j1 + 1) = (k + j3 + j1) + 1 by omega, hz1]
          exact (hz2 (k + j3)).trans (g3 k)
        · refine Or.inr ⟨at2, by omega, p2, hno, j3 + j1 + 1, st3, op3, m3, bad3, fun k => ?_, by omega, g3⟩
          show LSx n (k + (j3 + j1 + 1)) st x1 x2 (o ++ ws).length ins 0 0 = _
          rw [show k + (j3 + j1 + 1) = (k + j3 + j1) + 1 by omega, hz1]
          exact (hz2 (k + j3)).trans (g1 k)
      · have t1 : σ1.1 ≤ σ.1 + 1 + (at1 - (p + 1)) + 2 := t1
        have t2 : σ1.2.1 ≤ σ.2.1 + 3 + 3 * (at1 - (p + 1)) + 9 := t2
        rw [oxr e1]
        refine Or.inr ⟨at1, by omega, q2, ⟨_, op1, go1, rfl, hA2, hx0.trans ((Ext.mvP.trans Ext.nwc).trans hx2), by omega, by omega⟩, j1 + 1, st2, op1', m1, bad1, fun k => ?_, by omega, f1, f2, f3, f4, f5⟩
        show LSx n (k + (j1 + 1)) st x1 x2 (o ++ ws).length ins 0 0 = _
        rw [← Nat.add_assoc, hz1]
        exact hz2 k
/-- one rank lower -/
theorem LVs (ok : pOk C) (hn : 1000 ≤ n) {r : Nat} (hr1 : 1 ≤ r) (hr3 : r ≤ 3) {zsub zr : aS → Option (aS × (Option Nat ⊕ Nat))} (hsub : LV C n (r + 1) op zsub) {Z : Nat → aS → Nat → Option (aS × (Option Nat ⊕ Nat))} {cf : Nat} (hcf : cf ≤ 2)
    (hstop : ∀ (f : Nat) (σ : aS) (e p go : Nat), PA C σ p op go → p ≤ C.N → nop r (ch C p) → Z (f + 2) σ e = some (σ, .inl (some e)))
    (hstep : ∀ (f : Nat) (σ : aS) (e p go w : Nat), PA C σ p op go → p ≤ C.N → 3 ≤ w → w ≤ 7 → rk w = r → ch C p = osg w → Z (f + cf) σ e = xb (zsub (nw (ps C σ (p + 1) op go) (.inr (9, [.int 0, .null, .null])) 3)) fun σ3 r2 => cb (af_X10_init n C.S σ3 σ.1 (c32 (osg w)) (some e) r2) fun σ4 _ => Z f σ4 σ.1)
    (hzt : ∀ (σ : aS) (p go : Nat) (σ1 : aS) (e : Nat), PA C σ p op go → zsub σ = some (σ1, .inl (some e)) → zr σ = Z n σ1 e) (hzf : ∀ (σ : aS) (p go : Nat) (σ1 : aS), PA C σ p op go → zsub σ = some (σ1, .inr 0) → zr σ = some (σ1, .inr 0)) : LV C n r op zr := by
  intro x1 x2 ins st0 ws σ a0 go st cs f E hst hf
  have hN := ok.1
  have E' := E
  obtain ⟨hA, hB, hp, ho6, hx, hgo, hi', hmk, hb, hb2⟩ := E'
  have hst' : stops (r + 1) ws := by
    cases ws with
    | nil => trivial
    | cons w ws => exact hst.imp id (fun z => by omega)
  rcases hsub x1 x2 ins st0 ws σ a0 go st cs f E hst' hf with ⟨at1, l, q1, q2, ⟨σ1, e, e1, hA2, hx2, t1, t2, hex⟩, hnop, j1, st1, c, o, hl, ho, hz, hBL, hbb, hbb2, hj1⟩ | ⟨at1, q1, q2, ⟨σ1, op1, go1, e1, hA2, hx2, t1, t2⟩, hFIN⟩
  · show Out r C n x1 x2 ins st0 ws σ (zr σ) a0 op go st cs _
    rw [hzt σ a0 go σ1 e hA e1]
    rcases LOOP (zsub := zsub) (Z := Z) (x2 := x2) (cs := cs) ok hn hr1 hr3 hsub hcf hstop hstep hA.2.2.2.1 hA.2.2.2.2.1 hA.2.2.2.2.2 ho6 hx hgo hi' hmk hst (C.N - at1) σ1 e at1 l st1 c o n (Nat.le_refl _) hA2 hx2 q1 q2 t1 t2 hex hnop hl (fun w hw => ⟨(ho w hw).1, by have := (ho w hw).2; omega⟩) hBL hbb hbb2 (by omega) with ⟨at2, l3, p1, p2, hok, hno, j3, st3, c3, o3, g1, g2, g3, g4, g5, g6, g7⟩ | ⟨at2, p1, p2, hno, j3, st3, op3, m3, bad3, g1, g2, g3⟩
    · refine Or.inl ⟨at2, l3, by omega, p2, hok, hno, j3 + j1, st3, c3, o3, g1, g2, fun k => ?_, g4, g5, g6, by omega⟩
      have := hz (k + j3)
      rw [Nat.add_assoc] at this
      exact this.trans (g3 k)
    · refine Or.inr ⟨at2, by omega, p2, hno, j3 + j1, st3, op3, m3, bad3, fun k => ?_, by omega, g3⟩
      have := hz (k + j3)
      rw [Nat.add_assoc] at this
      exact this.trans (g1 k)
  · refine Or.inr ⟨at1, q1, q2, ?_, hFIN⟩
    show noE C σ (zr σ) a0 at1
    rw [hzf σ a0 go σ1 hA e1]
    exact ⟨σ1, op1, go1, rfl, hA2, hx2, t1, t2⟩
end EXPR
