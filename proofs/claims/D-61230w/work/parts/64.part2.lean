/-! THE PURE LAW: parts that begin by a bracket or a name -/
theorem hi_mv {b b' a : Nat} {σ : aS} {e : aE} (h : a < b) (hb : b' ≤ b) : hle (hi b σ) (hi b' (mv σ a e)) := by
  intro q e2 hq
  unfold hi at hq ⊢
  by_cases g : b ≤ q ∧ q < σ.1
  · rw [if_pos g] at hq
    rw [if_pos ⟨by omega, g.2⟩, mv_ne _ _ (by omega)]
    exact hq
  · rw [if_neg g] at hq
    cases hq
section PART2
variable {C : pC} {st st0 : bS} {n ins a0 op go : Nat} {x1 x2 : Int32} {cs ws : List Nat} {σ : aS} {rx : aS → Nat → Option (aS × (Option Nat ⊕ Nat))}
theorem T_bad {p m m6 : Nat} (hn : 1000 ≤ n) (hP : BP C st p op 1) (hW : BW st ws) (hw : ∀ w ∈ ws, w < 1000) (hm : m < 1000) (h6 : st.1 6 = c32 m6) (hb : m6 + ws.length + 2 ≤ 160) (hb2 : ws.length < 64) (hE : BE st0 st) :
    ∃ st' m', (∀ k, ((bf_bracket n st).bind fun q_3 => (stA q_3.1 15 (c32 ws.length) (c32 m)).bind fun st_4 => LSx n (k + 1) st_4 x1 x2 (ws.length + 1) (ins + 1) 1 1) = some (st', x2)) ∧ BP C st' p op 1 ∧ BE st0 st' ∧ st'.1 6 = c32 m' ∧ m' ≤ m6 + ws.length + 2 := by
  obtain ⟨s1, e1, h1, h2, h3, h4⟩ := b_bracket_b (n := n) hP
  have hW1 : BW s1 ws := BW.of (st := st) (by rw [h3]) hW
  have hwc : ∀ v ∈ m :: ws, v < 1000 := by
    intro v hv
    rcases List.mem_cons.mp hv with rfl | hv
    · exact hm
    · exact hw v hv
  obtain ⟨st2, m', e2, k1, k2, k3, k4⟩ := L_bad (x1 := x1) (x2 := x2) (ins := ins + 1) (opd := 1) (fst := 1) (m := m6) (ws := m :: ws) (st := sA s1 15 ws.length (c32 m)) (st0 := st0) (p := p) (op := op) (C := C) hn (h1.of rfl (sA_ne _ (by decide)) rfl rfl rfl) (BW.push hW1) hwc (by show s1.1 6 = _; rw [h4]; exact h6) (by rw [List.length_cons]; omega) (by rw [List.length_cons]; omega) (hE.trans (h2.trans BE.w))
  refine ⟨st2, m', fun k => ?_, k1, k2, k3, by rw [List.length_cons] at k4; omega⟩
  rw [ob e1, ob (st_A (show ws.length < 64 by omega))]
  exact e2 k
theorem clo_100 : clo 100 = [] := rfl
theorem P_par (ok : pOk C) (hn : 1000 ≤ n) (IH : EXs C n rx (op + 1)) {f : Int32} (E : Ent C x1 ins st0 ws σ a0 op go st cs) (hf : f = 0 ∨ f = 1 ∧ ch C a0 ≠ 45) (hc : ch C a0 = 40) (ho : op < 6) :
    Out 4 C n x1 x2 ins st0 ws σ (af_X3_part n C.S rx σ C.P) a0 op go st cs (fun k => LSx n k st x1 x2 ws.length ins 1 f) := by
  have hN := ok.1
  obtain ⟨hA, hB, hp, -, hx, hgo, hi, hmk, hb, hb2⟩ := E
  have hP := hB.1
  rw [pa_par ok hA (by omega) hc ho]
  have hz : ∀ k, LSx n (k + 3) st x1 x2 ws.length ins 1 f = ((bf_bracket n st).bind fun q_3 => (stA q_3.1 15 (c32 ws.length) (c32 100)).bind fun st_4 => LSx n k st_4 x1 x2 (ws.length + 1) (ins + 1) 1 1) := by
    intro k
    rw [L_part (x1 := x1) (x2 := x2) (nw := ws.length) ok hP (by omega) hf (by omega) k, ob (pm_par_t ok hP (by omega) ho hc), if_neg (show ¬ (100 : Int32) = 0 by decide)]
    rfl
  rcases P_ins (x1 := x1) (x2 := x2) (m := 100) ok hn IH hA hB hp ho hx hgo hi hmk (by omega) hb2 (by omega) (by omega) with ⟨at1, l, q1, q2, ⟨σ1, r, e1, hA2, hx2, s1, s2, hex⟩, j, st1, hz1, hBL, hbb, hj⟩ | ⟨at1, q1, q2, ⟨σ1, op1, go1, e1, hA2, hx2, s1, s2⟩, j, st1, op1', m1, bad1, hz1, hj, f1, f2, f3, f4, f5⟩
  · rw [clo_100, List.append_nil] at hBL hbb
    refine Or.inl ⟨at1, l, q1, q2, ?_, ⟨fun z => by omega, fun z => by omega, fun z => by omega⟩, j + 3, st1, l, [], List.append_nil _, (fun _ h => nomatch h), fun k => ?_, hBL, by rw [List.nil_append]; omega, by rw [List.nil_append]; omega, by omega⟩
    · rw [ox e1]
      exact ⟨σ1, r, rfl, hA2, hx2, by omega, by omega, hex.up (by omega)⟩
    · show LSx n (k + (j + 3)) st x1 x2 ws.length ins 1 f = _
      rw [← Nat.add_assoc, hz]
      exact hz1 k
  · refine Or.inr ⟨at1, q1, q2, ?_, j + 3, st1, op1', m1, bad1, fun k => ?_, by omega, f1, f2, f3, f4, f5⟩
    · rw [oxr e1]
      exact ⟨σ1, op1, go1, rfl, hA2, hx2, s1, s2⟩
    · show LSx n (k + (j + 3)) st x1 x2 ws.length ins 1 f = _
      rw [← Nat.add_assoc, hz]
      exact hz1 k
theorem mx_1 (C : pC) (p lo : Nat) : mx C p lo 1 = mt C (wb lo) p := by
  unfold mx mx
  rw [Nat.add_zero]
  omega
/-- ABS, INT, SGN -/
theorem P_one (ok : pOk C) (hS : sInj C.S) (hn : 1000 ≤ n) (IH : EXs C n rx (op + 1)) {f : Int32} (E : Ent C x1 ins st0 ws σ a0 op go st cs) (hf : f = 0 ∨ f = 1 ∧ ch C a0 ≠ 45) (ho : op < 6) {c i w o : Nat} (hi28 : i < 28) (hw28 : w < 28) (hwd : wd i = wb w) (hw3 : (wb w).length = 3) (hc128 : c < 128) (hc70 : c ≠ 70) (ho1 : 8 < o) (ho2 : o ≤ 11) (husg : usg o = c)
    (hA0 : af_X3_part n C.S rx σ C.P = xb (xb (af_X3_take_2 n C.S σ C.P (some (C.S i))) fun st_3 _ => af_X3_function_L120 n C.S rx st_3 C.P (c32 c)) fun st_16 r_17 => if r_17 = none then af_X3_part_L72 n C.S rx st_16 C.P else some (st_16, .inl r_17))
    (hB0 : bf_partMark n st x1 (if ins = 0 then 1 else 0) = (bf_takeWord n st (c32 w) (c32 w)).bind fun q => some (q.1, c32 (o + 92))) :
    Out 4 C n x1 x2 ins st0 ws σ (af_X3_part n C.S rx σ C.P) a0 op go st cs (fun k => LSx n k st x1 x2 ws.length ins 1 f) := by
  have hN := ok.1
  obtain ⟨hA, hB, hp, -, hx, hgo, hi, hmk, hb, hb2⟩ := E
  have hB' := hB
  obtain ⟨hP, hM, hW, hE, hw⟩ := hB
  have hne : ¬ c32 (o + 92) = 0 := n_c (b := 0) (by omega) (by omega) (by omega)
  have hstep : ∀ k, LSx n (k + 3) st x1 x2 ws.length ins 1 f = _ := fun k => L_part (x1 := x1) (x2 := x2) (nw := ws.length) ok hP (by omega) hf (by omega) k
  rw [hA0]
  by_cases hfu : mt C (wb w) a0 = (wb w).length
  · have hin := mt_in C (wb w) a0 (fun c hc => ((wb_ok ⟨w, hw28⟩).1 c hc).1) hp
    rw [hfu, hw3] at hin
    have eA : af_X3_take_2 n C.S σ C.P (some (C.S i)) = some (ps C σ (a0 + 3) op go, .inl ()) := by
      have := A_take2_t (n := n) ok hS hi28 hA hp (by omega) (by rw [hwd]; exact hfu)
      rw [hwd, hw3] at this
      exact this
    have eB : bf_takeWord n st (c32 w) (c32 w) = some (sI st 4 (c32 (a0 + 3)), c32 w) := by
      have := b_takeWord_t (n := n) (lo := w) (c := 1) (i := w) ok hP hp (by omega) (by omega) (by omega) hfu hn (x := c32 w) (y := c32 w) rfl (by rw [Nat.add_sub_cancel])
      rw [hw3] at this
      exact this
    rw [ox eA]
    unfold af_X3_function_L120
    rw [if_neg (by exact n_c (b := 70) (by omega) (by omega) hc70), ob (nO_eq _ _ _ _)]
    have hA1 : PA C (nw (ps C σ (a0 + 3) op go) (.inr (6, [.int 0, .null])) 2) (a0 + 3) op go := hA.ps.nwc
    rw [ob (A_cls hA1)]
    have hz : ∀ k, LSx n (k + 3) st x1 x2 ws.length ins 1 f = ((bf_bracket n (sI st 4 (c32 (a0 + 3)))).bind fun q_3 => (stA q_3.1 15 (c32 ws.length) (c32 (o + 92))).bind fun st_4 => LSx n k st_4 x1 x2 (ws.length + 1) (ins + 1) 1 1) := by
      intro k
      have e2 : (bf_takeWord n st (c32 w) (c32 w)).bind (fun q => some (q.1, c32 (o + 92))) = some (sI st 4 (c32 (a0 + 3)), c32 (o + 92)) := by rw [eB]; rfl
      rw [hstep, hB0, ob e2, if_neg hne]
    have hBL1 : BL C st0 (sI st 4 (c32 (a0 + 3))) (a0 + 3) op cs ws := ⟨hP.p, hM, BW.of (st := st) rfl hW, hE.trans BE.i4, hw⟩
    have hclo : clo (o + 92) = [o] := by
      unfold clo
      rw [if_neg (by omega), if_pos (by omega)]
      congr 1
    rcases P_ins (x1 := x1) (x2 := x2) (m := o + 92) ok hn IH hA1 hBL1 hin ho hx hgo hi hmk (by omega) (by omega) (by omega) (by omega) with ⟨at1, l, q1, q2, ⟨σ1, r, e1, hA2, hx2, s1, s2, hex⟩, j, st1, hz1, hBL, hbb, hj⟩ | ⟨at1, q1, q2, ⟨σ1, op1, go1, e1, hA2, hx2, s1, s2⟩, j, st1, op1', m1, bad1, hz1, hj, f1, f2, f3, f4, f5⟩
    · rw [hclo] at hBL hbb
      have hq : σ.1 < (nw (ps C σ (a0 + 3) op go) (.inr (6, [.int 0, .null])) 2).1 := by show σ.1 < σ.1 + 1; omega
      have hPlt := hA.2.2.2.1
      have hcell : σ1.2.2 σ.1 = some (.inr (6, [.int 0, .null])) := by
        rw [hx2.2 σ.1 hq (by omega)]
        exact nw_at _ _ _
      refine Or.inl ⟨at1, l ++ [o], by omega, q2, ?_, ⟨fun z => by omega, fun z => by omega, fun z => by omega⟩, j + 3, st1, l ++ [o], [], List.append_nil _, (fun _ h => nomatch h), fun k => ?_, by rw [← List.append_assoc]; exact hBL, by rw [List.nil_append, ← List.append_assoc]; exact hbb, by rw [List.nil_append]; omega, by omega⟩
      · have eo : xb (af_X3_inside n C.S rx (nw (ps C σ (a0 + 3) op go) (.inr (6, [.int 0, .null])) 2) C.P) (fun st_15 r_16 => cb (af_X7_init n C.S st_15 (ps C σ (a0 + 3) op go).1 (c32 c) r_16) fun st_18 _ => some (st_18, .inl (some (ps C σ (a0 + 3) op go).1))) = some (mv σ1 σ.1 (.inr (6, [.int (c32 c), .ref r])), .inl (some σ.1)) := by
          rw [ox e1]
          show cb (af_X7_init n C.S σ1 σ.1 (c32 c) (some r)) _ = _
          rw [oc (i_X7 hcell (cz_of (by omega)))]
          rfl
        rw [ox eo, if_neg (fun z => nomatch z)]
        refine ⟨_, _, rfl, hA2.mvq (by omega) (by have := hA.2.2.2.2.1; omega) (by have := hA.2.2.2.2.2; omega), ((Ext.mvP.trans Ext.nwc).trans hx2).new (Nat.le_refl _), ?_, ?_, ?_⟩
        · have s1 : σ1.1 ≤ σ.1 + 1 + (at1 - (a0 + 3 + 1)) := s1
          show σ1.1 ≤ _
          omega
        · have s2 : σ1.2.1 ≤ σ.2.1 + 2 + 3 * (at1 - (a0 + 3 + 1)) := s2
          show σ1.2.1 ≤ _
          omega
        · refine ex.up (d := at1 - (a0 + 3 + 1) + 1) ?_ (by omega)
          refine Or.inr (Or.inr (Or.inr (Or.inr (Or.inl ⟨o, r, l, ?_, by omega, ho2, ?_, rfl⟩))))
          · rw [husg]
            exact hi_at (mv_at _ _ _) (Nat.le_refl _) (by have := hx2.1; show σ.1 < σ1.1; omega)
          · exact ex.map (hi_mv (by show σ.1 < σ.1 + 1; omega) (by show σ.1 ≤ σ.1 + 1; omega)) _ _ _ hex
      · show LSx n (k + (j + 3)) st x1 x2 ws.length ins 1 f = _
        rw [← Nat.add_assoc, hz]
        exact hz1 k
    · refine Or.inr ⟨at1, by omega, q2, ?_, j + 3, st1, op1', m1, bad1, fun k => ?_, by omega, f1, f2, f3, f4, f5⟩
      · rw [oxr e1]
        refine ⟨σ1, op1, go1, rfl, hA2, (Ext.mvP.trans Ext.nwc).trans hx2, ?_, ?_⟩
        · have s1 : σ1.1 ≤ σ.1 + 1 + (at1 - (a0 + 3)) + 2 := s1
          omega
        · have s2 : σ1.2.1 ≤ σ.2.1 + 2 + 3 * (at1 - (a0 + 3)) + 9 := s2
          omega
      · show LSx n (k + (j + 3)) st x1 x2 ws.length ins 1 f = _
        rw [← Nat.add_assoc, hz]
        exact hz1 k
  · have hin := mt_in C (wb w) a0 (fun c hc => ((wb_ok ⟨w, hw28⟩).1 c hc).1) hp
    have eA : af_X3_take_2 n C.S σ C.P (some (C.S i)) = some (aTh (ps C σ (a0 + mt C (wb w) a0) op go), .inr 0) := by
      have := A_take2_f (n := n) ok hS hi28 hA hp (by omega) (by rw [hwd]; exact hfu)
      rw [hwd] at this
      exact this
    have eB : bf_takeWord n st (c32 w) (c32 w) = some (sI (sI st 4 (c32 (a0 + mt C (wb w) a0))) 7 1, -1) := by
      have := b_takeWord_f (n := n) (lo := w) (c := 1) ok hP hp (by omega) (by omega) (fun k hk => by
        have : k = 0 := by omega
        subst this
        exact hfu) hn (x := c32 w) (y := c32 w) rfl (by rw [Nat.add_sub_cancel])
      rw [mx_1] at this
      exact this
    have hml := mt_le C (wb w) a0
    obtain ⟨st2, m', e2, k1, k2, k3, k4⟩ := T_bad (x1 := x1) (x2 := x2) (ins := ins) (m := o + 92) (m6 := cs.length) (st := sI (sI st 4 (c32 (a0 + mt C (wb w) a0))) 7 1) (st0 := st0) (ws := ws) (p := a0 + mt C (wb w) a0) (op := op) (C := C) hn hP.p.b (BW.of (st := st) rfl hW) hw (by omega) (by exact hM.1) (by omega) (by omega) (hE.trans (BE.i4.trans BE.i7))
    refine Or.inr ⟨a0 + mt C (wb w) a0, by omega, hin, ?_, 4, st2, op, m', 1, fun k => ?_, by omega, k1, Or.inl rfl, k2, k3, by omega⟩
    · rw [oxr eA]
      exact ⟨_, op, go, rfl, hA.ps.th, Ext.mvP.th, by show σ.1 + 1 ≤ _; omega, by show σ.2.1 + 6 ≤ _; omega⟩
    · show LSx n (k + 1 + 3) st x1 x2 ws.length ins 1 f = _
      have e3 : (bf_takeWord n st (c32 w) (c32 w)).bind (fun q => some (q.1, c32 (o + 92))) = some (sI (sI st 4 (c32 (a0 + mt C (wb w) a0))) 7 1, c32 (o + 92)) := by rw [eB]; rfl
      rw [hstep, hB0, ob e3, if_neg hne]
      exact e2 k
end PART2
