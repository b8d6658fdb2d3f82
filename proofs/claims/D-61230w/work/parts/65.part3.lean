/-! THE PURE LAW: functions' calls, elements; all parts -/
section PART3
variable {C : pC} {st st0 : bS} {n ins a0 op go : Nat} {x1 x2 : Int32} {cs ws : List Nat} {σ : aS} {rx : aS → Nat → Option (aS × (Option Nat ⊕ Nat))}
theorem wd_20 : wd 20 = [70, 78] := by decide +kernel
theorem P_fn (ok : pOk C) (hS : sInj C.S) (hn : 1000 ≤ n) (IH : EXs C n rx (op + 1)) {f : Int32} (E : Ent C x1 ins st0 ws σ a0 op go st cs) (hf : f = 0 ∨ f = 1 ∧ ch C a0 ≠ 45) (ho : op < 6) (h1 : ch C a0 = 70) (h2 : ch C (a0 + 1) = 78) :
    Out 4 C n x1 x2 ins st0 ws σ (af_X3_part n C.S rx σ C.P) a0 op go st cs (fun k => LSx n k st x1 x2 ws.length ins 1 f) := by
  have hN := ok.1
  obtain ⟨hA, hB, hp, -, hx, hgo, hi', hmk, hb, hb2⟩ := E
  obtain ⟨hP, hM, hW, hE, hw⟩ := hB
  have hin := ch_in (C := C) (i := a0 + 1) (by omega)
  have hl2 := ch_lt ok (a0 + 2)
  have hstep : ∀ k, LSx n (k + 3) st x1 x2 ws.length ins 1 f = _ := fun k => L_part (x1 := x1) (x2 := x2) (nw := ws.length) ok hP (by omega) hf (by omega) k
  have eF : af_X3_part n C.S rx σ C.P = xb (af_X3_function_L120 n C.S rx σ C.P 70) fun st_16 r_17 => if r_17 = none then af_X3_part_L72 n C.S rx st_16 C.P else some (st_16, .inl r_17) := by
    rw [pa_fun ok hA (by omega) ho (by omega) (by unfold isM; omega) (by unfold dig; omega), h1, h2]
    show xb (af_X3_function n C.S rx σ C.P 70 78) _ = _
    rw [fn_fn]
  have hmt : mt C (wd 20) a0 = (wd 20).length := by
    rw [wd_20]
    unfold mt mt mt
    rw [if_pos h1, if_pos h2]
    rfl
  have eA := A_take2_t (n := n) ok hS (i := 20) (by omega) hA hp (by omega) hmt
  rw [wd_20] at eA
  have eA : af_X3_take_2 n C.S σ C.P (some (C.S 20)) = some (ps C σ (a0 + 2) op go, .inl ()) := eA
  rw [eF]
  unfold af_X3_function_L120
  have hA2 : PA C (ps C σ (a0 + 2) op go) (a0 + 2) op go := hA.ps
  rw [if_pos rfl, ob (A_cls hA), ox eA, ob (A_cls hA2)]
  by_cases hfn : 65 ≤ ch C (a0 + 2) ∧ ch C (a0 + 2) ≤ 67
  · have hin2 := ch_in (C := C) (i := a0 + 2) (by omega)
    rw [ox (A_fname_t ok hA2 (by omega) hfn), ps_ps, ob (nO_eq _ _ _ _)]
    have hA1 : PA C (nw (ps C σ (a0 + 2 + 1) op go) (.inr (7, [.int 0, .null])) 2) (a0 + 3) op go := hA.ps.nwc
    rw [ob (A_cls hA1)]
    have hpm := pm_fn_t (n := n) (ins := ins) (x1 := x1) (cs := cs) ok hP (by omega) ho h1 h2 hx hgo hfn hM (by omega)
    generalize hff : ch C (a0 + 2) - 65 = ff at hpm ⊢
    have hff3 : ff < 3 := by omega
    have hz : ∀ k, LSx n (k + 3) st x1 x2 ws.length ins 1 f = ((bf_bracket n (mk (mk (sI st 4 (c32 (a0 + 3))) cs.length (c32 12)) (cs.length + 1) (c32 ff))).bind fun q_3 => (stA q_3.1 15 (c32 ws.length) (c32 (104 + ff))).bind fun st_4 => LSx n k st_4 x1 x2 (ws.length + 1) (ins + 1) 1 1) := by
      intro k
      rw [hstep, ob hpm, if_neg (by exact n_c (b := 0) (by omega) (by omega) (by omega))]
    have hBL1 : BL C st0 (mk (mk (sI st 4 (c32 (a0 + 3))) cs.length (c32 12)) (cs.length + 1) (c32 ff)) (a0 + 3) op (cs ++ [12, ff]) ws :=
      ⟨hP.p.mk.mk, bm_mk2 (st := sI st 4 (c32 (a0 + 3))) hM, BW.mk (BW.mk (BW.of (st := st) rfl hW)), hE.trans (BE.i4.trans (BE.mk.trans BE.mk)), hw⟩
    have hlen : (cs ++ [12, ff]).length = cs.length + 2 := List.length_append
    have hclo : clo (104 + ff) = [13, ff] := by
      unfold clo
      rw [if_neg (by omega), if_neg (by omega), if_pos (by omega), show 104 + ff - 104 = ff by omega]
    rcases P_ins (x1 := x1) (x2 := x2) (m := 104 + ff) ok hn IH hA1 hBL1 (by omega) ho hx hgo hi' hmk (by omega) (by omega) (by omega) (by omega) with ⟨at1, l, q1, q2, ⟨σ1, r, e1, hA3, hx2, s1, s2, hex⟩, j, st1, hz1, hBL, hbb, hj⟩ | ⟨at1, q1, q2, ⟨σ1, op1, go1, e1, hA3, hx2, s1, s2⟩, j, st1, op1', m1, bad1, hz1, hj, f1, f2, f3, f4, f5⟩
    · rw [hclo] at hBL hbb
      have hcode : cs ++ [12, ff] ++ l ++ [13, ff] = cs ++ 12 :: ff :: (l ++ [13, ff]) := by simp
      rw [hcode] at hBL hbb
      have hq : σ.1 < (nw (ps C σ (a0 + 2 + 1) op go) (.inr (7, [.int 0, .null])) 2).1 := by show σ.1 < σ.1 + 1; omega
      have hPlt := hA.2.2.2.1
      have hcell : σ1.2.2 σ.1 = some (.inr (7, [.int 0, .null])) := by
        rw [hx2.2 σ.1 hq (by omega)]
        exact nw_at _ _ _
      refine Or.inl ⟨at1, 12 :: ff :: (l ++ [13, ff]), by omega, q2, ?_, ⟨fun z => by omega, fun z => by omega, fun z => by omega⟩, j + 3, st1, 12 :: ff :: (l ++ [13, ff]), [], List.append_nil _, (fun _ h => nomatch h), fun k => ?_, hBL, by rw [List.nil_append]; exact hbb, by rw [List.nil_append]; omega, by omega⟩
      · have eo : xb (af_X3_inside n C.S rx (nw (ps C σ (a0 + 2 + 1) op go) (.inr (7, [.int 0, .null])) 2) C.P) (fun st_15 r_16 => cb (af_X8_init n C.S st_15 (ps C σ (a0 + 2 + 1) op go).1 (c32 ff) r_16) fun st_18 _ => some (st_18, .inl (some (ps C σ (a0 + 2 + 1) op go).1))) = some (mv σ1 σ.1 (.inr (7, [.int (c32 ff), .ref r])), .inl (some σ.1)) := by
          rw [ox e1]
          show cb (af_X8_init n C.S σ1 σ.1 (c32 ff) (some r)) _ = _
          rw [oc (i_X8 hcell)]
          rfl
        rw [ox eo, if_neg (fun z => nomatch z)]
        refine ⟨_, _, rfl, hA3.mvq (by omega) (by have := hA.2.2.2.2.1; omega) (by have := hA.2.2.2.2.2; omega), ((Ext.mvP.trans Ext.nwc).trans hx2).new (Nat.le_refl _), ?_, ?_, ?_⟩
        · have s1 : σ1.1 ≤ σ.1 + 1 + (at1 - (a0 + 3 + 1)) := s1
          show σ1.1 ≤ _
          omega
        · have s2 : σ1.2.1 ≤ σ.2.1 + 2 + 3 * (at1 - (a0 + 3 + 1)) := s2
          show σ1.2.1 ≤ _
          omega
        · refine ex.up (d := at1 - (a0 + 3 + 1) + 1) ?_ (by omega)
          refine Or.inr (Or.inr (Or.inr (Or.inr (Or.inr ⟨ff, r, l, ?_, hff3, ?_, rfl⟩))))
          · exact hi_at (mv_at _ _ _) (Nat.le_refl _) (by have := hx2.1; show σ.1 < σ1.1; omega)
          · exact ex.map (hi_mv (by show σ.1 < σ.1 + 1; omega) (by show σ.1 ≤ σ.1 + 1; omega)) _ _ _ hex
      · show LSx n (k + (j + 3)) st x1 x2 ws.length ins 1 f = _
        rw [← Nat.add_assoc, hz]
        exact hz1 k
    · refine Or.inr ⟨at1, by omega, q2, ?_, j + 3, st1, op1', m1, bad1, fun k => ?_, by omega, f1, f2, f3, f4, f5⟩
      · rw [oxr e1]
        refine ⟨σ1, op1, go1, rfl, hA3, (Ext.mvP.trans Ext.nwc).trans hx2, ?_, ?_⟩
        · have s1 : σ1.1 ≤ σ.1 + 1 + (at1 - (a0 + 3)) + 2 := s1
          omega
        · have s2 : σ1.2.1 ≤ σ.2.1 + 2 + 3 * (at1 - (a0 + 3)) + 9 := s2
          omega
      · show LSx n (k + (j + 3)) st x1 x2 ws.length ins 1 f = _
        rw [← Nat.add_assoc, hz]
        exact hz1 k
  · obtain ⟨v, hpm⟩ := pm_fn_f (n := n) (ins := ins) (x1 := x1) (m := cs.length) ok hP (by omega) ho h1 h2 hx hgo hfn hM.1 (by omega)
    obtain ⟨st2, m', e2, k1, k2, k3, k4⟩ := T_bad (x1 := x1) (x2 := x2) (ins := ins) (m := 39 + ch C (a0 + 2)) (m6 := cs.length + 2) (st := mk (mk (sI (sI st 4 (c32 (a0 + 2))) 7 1) cs.length (c32 12)) (cs.length + 1) v) (st0 := st0) (ws := ws) (p := a0 + 2) (op := op) (C := C) hn (BP.mk (BP.mk hP.p.b)) (BW.mk (BW.mk (BW.of (st := st) rfl hW))) hw (by omega) mk_6 (by omega) (by omega) (hE.trans (BE.i4.trans (BE.i7.trans (BE.mk.trans BE.mk))))
    refine Or.inr ⟨a0 + 2, by omega, by omega, ?_, 4, st2, op, m', 1, fun k => ?_, by omega, k1, Or.inl rfl, k2, k3, by omega⟩
    · rw [oxr (A_fname_f ok hA2 (by omega) hfn)]
      exact ⟨_, op, go, rfl, hA2.th, Ext.mvP.th, by show σ.1 + 1 ≤ _; omega, by show σ.2.1 + 6 ≤ _; omega⟩
    · show LSx n (k + 1 + 3) st x1 x2 ws.length ins 1 f = _
      rw [hstep, ob hpm, if_neg (by exact n_c (b := 0) (by omega) (by omega) (by omega))]
      exact e2 k
theorem P_mat (ok : pOk C) (hn : 1000 ≤ n) (IH : op < 6 → EXs C n rx (op + 1)) {f : Int32} (E : Ent C x1 ins st0 ws σ a0 op go st cs) (hf : f = 0 ∨ f = 1 ∧ ch C a0 ≠ 45) (hM0 : isM (ch C a0)) :
    Out 4 C n x1 x2 ins st0 ws σ (af_X3_part n C.S rx σ C.P) a0 op go st cs (fun k => LSx n k st x1 x2 ws.length ins 1 f) := by
  have hN := ok.1
  obtain ⟨hA, hB, hp, ho6, hx, hgo, hi', hmk, hb, hb2⟩ := E
  obtain ⟨hP, hM, hW, hE, hw⟩ := hB
  have hin := ch_in (C := C) (i := a0) (by unfold isM at hM0; omega)
  have hstep : ∀ k, LSx n (k + 3) st x1 x2 ws.length ins 1 f = _ := fun k => L_part (x1 := x1) (x2 := x2) (nw := ws.length) ok hP (by omega) hf (by omega) k
  rw [pa_mat ok hA (by omega) hM0]
  unfold af_X3_element
  rw [ob (A_op hA)]
  by_cases ho : op < 6
  · rw [if_neg (fun z => by have := (c_le (a := 6) (b := op) (by omega) (by omega)).mp z; omega)]
    unfold af_X3_element_L15
    have hA1 : PA C (ps C σ (a0 + 1) op go) (a0 + 1) op go := hA.ps
    rw [ob (A_cls hA), ox A_need_t, ob (A_cls hA), ox (A_matrix_t ok hA (by omega) hM0), ob (A_cls hA1)]
    have hpm := pm_mat_t (n := n) (x1 := x1) (z := if ins = 0 then 1 else 0) ok hP (by omega) ho hM0
    generalize hmm : ch C a0 - 80 = mm at hpm ⊢
    have hmm3 : mm < 3 := by unfold isM at hM0; omega
    have hz0 : ∀ k, LSx n (k + 3) st x1 x2 ws.length ins 1 f = ((bf_bracket n (sI st 4 (c32 (a0 + 1)))).bind fun q_3 => (stA q_3.1 15 (c32 ws.length) (c32 (110 + mm))).bind fun st_4 => LSx n k st_4 x1 x2 (ws.length + 1) (ins + 1) 1 1) := by
      intro k
      rw [hstep, ob hpm, if_neg (by exact n_c (b := 0) (by omega) (by omega) (by omega))]
    by_cases hc : ch C (a0 + 1) = 40
    · have hin1 := ch_in (C := C) (i := a0 + 1) (by omega)
      rw [ox (A_open_t ok hA1 (by omega) hc), ps_ps, ps_ps]
      have hA2 : PA C (ps C σ (a0 + 1 + 1) (op + 1) go) (a0 + 2) (op + 1) go := hA.ps
      have hxA : Ext C.P σ (ps C σ (a0 + 1 + 1) (op + 1) go) := Ext.mvP
      rw [ob (A_cls hA2)]
      have hBL1 : BL C st0 (sA (sI (sI (sI st 4 (c32 (a0 + 1))) 4 (c32 (a0 + 2))) 5 (c32 (op + 1))) 15 ws.length (c32 (110 + mm))) (a0 + 2) (op + 1) cs ((110 + mm) :: ws) := by
        refine ⟨hP.p.p.o.of rfl (sA_ne _ (by decide)) rfl rfl rfl, ⟨hM.1, fun i v hi => by rw [sA_ne _ (by decide)]; exact hM.2 i v hi⟩, BW.push (BW.of (st := st) rfl hW), hE.trans (BE.i4.trans (BE.i4.trans (BE.i5.trans BE.w))), fun v hv => ?_⟩
        rcases List.mem_cons.mp hv with rfl | hv
        · omega
        · exact hw v hv
      have hz : ∀ k, LSx n (k + 3) st x1 x2 ws.length ins 1 f = LSx n k (sA (sI (sI (sI st 4 (c32 (a0 + 1))) 4 (c32 (a0 + 2))) 5 (c32 (op + 1))) 15 ws.length (c32 (110 + mm))) x1 x2 ((110 + mm) :: ws).length (ins + 1) 1 1 := by
        intro k
        rw [hz0, ob (b_bracket_t (p := a0 + 1) ok hP.p (by omega) ho hc), ob (st_A (show ws.length < 64 by omega))]
        rfl
      have hgo' : go = 0 ∨ go = 1 ∧ op + 1 = ins + 1 := hgo.imp id (fun z => ⟨z.1, by omega⟩)
      have hmk' : ∀ m, 100 ≤ m → marks (m :: ws) = ins + 1 := by
        intro m hm
        show (if 100 ≤ m then 1 else 0) + marks ws = _
        rw [if_pos hm]
        omega
      rcases IH ho x1 x2 (ins + 1) st0 ((110 + mm) :: ws) _ (a0 + 2) (op + 1) go _ cs (Nat.le_refl _) ⟨hA2, hBL1, by omega, by omega, hx, hgo', by omega, hmk' _ (by omega), by rw [List.length_cons]; omega, by rw [List.length_cons]; omega⟩ (Or.inl (by omega)) with ⟨at1, l1, q1, q2, ⟨σ1, r1, e1, hA3, hx2, s1, s2, hex1⟩, hnop, j1, st1, c1, o1, hl1, ho1, hz1, hBL2, hbb, hbb2, hj1⟩ | ⟨at1, q1, q2, ⟨σ1, op1, go1, e1, hA3, hx2, s1, s2⟩, j1, st1, op1', m1, bad1, hz1, hj1, f1, f2, f3, f4, f5⟩
      · have s1 : σ1.1 ≤ σ.1 + (at1 - (a0 + 2)) := s1
        have s2 : σ1.2.1 ≤ σ.2.1 + 3 * (at1 - (a0 + 2)) := s2
        have hll1 : l1.length = c1.length + o1.length := by rw [← hl1, List.length_append]
        have hlc1 : (cs ++ c1).length = cs.length + c1.length := List.length_append
        have hlo1 : (o1 ++ (110 + mm) :: ws).length = o1.length + (ws.length + 1) := List.length_append
        rw [ox e1, ob (A_cls hA3)]
        by_cases hc2 : ch C at1 = 44
        · have hin2 := ch_in (C := C) (i := at1) (by omega)
          have hA4 : PA C (ps C σ1 (at1 + 1) (op + 1) go) (at1 + 1) (op + 1) go := hA3.ps
          rw [ox (A_take_t (c := 44) ok hA3 (by omega) hc2), ob (A_cls hA4)]
          obtain ⟨st2, hz2, hBL3⟩ := L_comma (ins := ins) (x1 := x1) (x2 := x2) ok hn hBL2 ho1 (by omega) (by omega) hc2 hin2 (by omega) hbb hbb2
          have hcode : cs ++ c1 ++ o1 = cs ++ l1 := by rw [← hl1, List.append_assoc]
          rw [hcode] at hBL3
          have hlcs : (cs ++ l1).length = cs.length + l1.length := List.length_append
          rcases IH ho x1 x2 (ins + 1) st0 ((110 + mm + 10) :: ws) _ (at1 + 1) (op + 1) go _ (cs ++ l1) (Nat.le_refl _) ⟨hA4, hBL3, by omega, by omega, hx, hgo', by omega, hmk' _ (by omega), by rw [List.length_cons]; omega, by rw [List.length_cons]; omega⟩ (Or.inl (by omega)) with ⟨at2, l2, p1, p2, ⟨σ2, r2, e2, hA5, hx3, t1, t2, hex2⟩, hnop2, j2, st3, c2, o2, hl2, ho2, hz3, hBL4, hbc, hbc2, hj2⟩ | ⟨at2, p1, p2, ⟨σ2, op2, go2, e2, hA5, hx3, t1, t2⟩, j2, st3, op2', m2, bad2, hz3, hj2, g1, g2, g3, g4, g5⟩
          · have t1 : σ2.1 ≤ σ1.1 + (at2 - (at1 + 1)) := t1
            have t2 : σ2.2.1 ≤ σ1.2.1 + 3 * (at2 - (at1 + 1)) := t2
            have hll2 : l2.length = c2.length + o2.length := by rw [← hl2, List.length_append]
            have hlc2 : (cs ++ l1 ++ c2).length = cs.length + l1.length + c2.length := by rw [List.length_append, List.length_append]
            have hlo2 : (o2 ++ (110 + mm + 10) :: ws).length = o2.length + (ws.length + 1) := List.length_append
            rw [ox e2, ob (A_cls hA5)]
            by_cases hc3 : ch C at2 = 41
            · have hin3 := ch_in (C := C) (i := at2) (by omega)
              rw [ox (A_close_t ok hA5 (by omega) (by omega) hc3), ps_ps, Nat.add_sub_cancel, ob (nO_eq _ _ _ _)]
              obtain ⟨st4, hz4, hBL5⟩ := L_close (ins := ins) (x1 := x1) (x2 := x2) ok hn hBL4 ho2 (by omega) (Or.inr (by omega)) hc3 hin3 (by omega) (by omega) hbc hbc2
              have hcode2 : cs ++ l1 ++ c2 ++ o2 ++ clo (110 + mm + 10) = cs ++ (l1 ++ (l2 ++ [2, mm])) := by
                have : clo (110 + mm + 10) = [2, mm] := by
                  unfold clo
                  rw [if_neg (by omega), if_neg (by omega), if_neg (by omega), show 110 + mm + 10 - 120 = mm by omega]
                rw [this, ← hl2]
                simp
              rw [hcode2, Nat.add_sub_cancel] at hBL5
              have hlall : (cs ++ (l1 ++ (l2 ++ [2, mm]))).length = cs.length + (l1.length + (l2.length + 2)) := by simp
              have hPlt := hA.2.2.2.1
              have hxall : Ext C.P σ (ps C σ2 (at2 + 1) op go) := ((hxA.trans hx2).trans Ext.mvP).trans (hx3.trans Ext.mvP)
              have hsz : σ.1 ≤ σ2.1 := hxall.1
              have hcell : (nw (ps C σ2 (at2 + 1) op go) (.inr (10, [.int 0, .null, .null])) 3).2.2 σ2.1 = some (.inr (10, [.int 0, .null, .null])) := nw_at _ _ _
              have hxlt := hA.2.2.2.2.1
              have hwlt := hA.2.2.2.2.2
              refine Or.inl ⟨at2 + 1, l1 ++ (l2 ++ [2, mm]), by omega, by omega, ?_, ⟨fun z => by omega, fun z => by omega, fun z => by omega⟩, j1 + 2 + j2 + 4 + 3, st4, l1 ++ (l2 ++ [2, mm]), [], List.append_nil _, (fun _ h => nomatch h), fun k => ?_, hBL5, by rw [List.nil_append]; omega, by rw [List.nil_append]; omega, by omega⟩
              · show okE C σ (xb (cb (af_X11_init n C.S _ σ2.1 (c32 mm) (some r1) (some r2)) _) _) _ _ _ _ _
                rw [oc (i_X11 hcell)]
                have hA6 : PA C (nw (ps C σ2 (at2 + 1) op go) (.inr (10, [.int 0, .null, .null])) 3) (at2 + 1) op go := hA5.ps.nwc
                refine ⟨_, _, rfl, hA6.mvq (by omega) (by omega) (by omega), (hxall.trans Ext.nwc).new hsz, ?_, ?_, ?_⟩
                · show σ2.1 + 1 ≤ _
                  omega
                · show σ2.2.1 + 3 ≤ _
                  omega
                · refine ex.up (d := (at2 - (a0 + 2)) + 1) ?_ (by omega)
                  refine Or.inr (Or.inr (Or.inl ⟨mm, r1, r2, l1, l2, hi_at (mv_at _ _ _) hsz (by show σ2.1 < σ2.1 + 1; omega), hmm3, ?_, ?_, rfl⟩))
                  · refine (ex.map ?_ _ _ _ hex1).up (by omega)
                    have hx6 : Ext C.P σ1 (mv (nw (ps C σ2 (at2 + 1) op go) (.inr (10, [.int 0, .null, .null])) 3) σ2.1 (.inr (10, [.int (c32 mm), va_rf (some r1), va_rf (some r2)]))) := ((Ext.mvP.trans (hx3.trans Ext.mvP)).trans Ext.nwc).new (by have := hx3.1; exact this)
                    exact hi_le hx6 hPlt (Nat.le_refl _)
                  · refine (ex.map ?_ _ _ _ hex2).up (by omega)
                    have hx6 : Ext C.P σ2 (mv (nw (ps C σ2 (at2 + 1) op go) (.inr (10, [.int 0, .null, .null])) 3) σ2.1 (.inr (10, [.int (c32 mm), va_rf (some r1), va_rf (some r2)]))) := (Ext.mvP.trans Ext.nwc).new (Nat.le_refl _)
                    have hs01 : σ.1 ≤ σ1.1 := hx2.1
                    exact hi_le hx6 (by show C.P < σ1.1; omega) (by show σ.1 ≤ σ1.1; omega)
              · show LSx n (k + (j1 + 2 + j2 + 4 + 3)) st x1 x2 ws.length ins 1 f = _
                rw [show k + (j1 + 2 + j2 + 4 + 3) = (k + 4 + j2 + 2 + j1) + 3 by omega, hz]
                exact (hz1 (k + 4 + j2 + 2)).trans ((hz2 (k + 4 + j2)).trans ((hz3 (k + 4)).trans (hz4 k)))
            · rw [oxr (A_close_f ok hA5 (by omega) hc3)]
              obtain ⟨st4, m4, hz4, g1, g2, g3, g4⟩ := L_wrong (ins := ins) (x1 := x1) (x2 := x2) ok hn hBL4 ho2 (by omega) hnop2 ⟨fun _ => Or.inr (by omega), fun z => absurd z hc3⟩ (by omega) (by omega) hbc (by omega)
              refine Or.inr ⟨at2, by omega, p2, ⟨_, _, _, rfl, hA5.th, (((hxA.trans hx2).trans Ext.mvP).trans hx3).th, ?_, ?_⟩, j1 + 2 + j2 + 2 + 3, st4, op + 1, m4, 1, fun k => ?_, by omega, g1, Or.inl rfl, g2, g3, by omega⟩
              · show σ2.1 + 1 ≤ _
                omega
              · show σ2.2.1 + 6 ≤ _
                omega
              · show LSx n (k + (j1 + 2 + j2 + 2 + 3)) st x1 x2 ws.length ins 1 f = _
                rw [show k + (j1 + 2 + j2 + 2 + 3) = (k + 2 + j2 + 2 + j1) + 3 by omega, hz]
                exact (hz1 (k + 2 + j2 + 2)).trans ((hz2 (k + 2 + j2)).trans ((hz3 (k + 2)).trans (hz4 k)))
          · have t1 : σ2.1 ≤ σ1.1 + (at2 - (at1 + 1)) + 2 := t1
            have t2 : σ2.2.1 ≤ σ1.2.1 + 3 * (at2 - (at1 + 1)) + 9 := t2
            rw [oxr e2]
            refine Or.inr ⟨at2, by omega, p2, ⟨_, _, _, rfl, hA5, ((hxA.trans hx2).trans Ext.mvP).trans hx3, by omega, by omega⟩, j1 + 2 + j2 + 3, st3, op2', m2, bad2, fun k => ?_, by omega, g1, g2, g3, g4, g5⟩
            show LSx n (k + (j1 + 2 + j2 + 3)) st x1 x2 ws.length ins 1 f = _
            rw [show k + (j1 + 2 + j2 + 3) = (k + j2 + 2 + j1) + 3 by omega, hz]
            exact (hz1 (k + j2 + 2)).trans ((hz2 (k + j2)).trans (hz3 k))
        · rw [oxr (A_take_f (c := 44) ok hA3 (by omega) (by omega) hc2)]
          obtain ⟨st4, m4, hz4, g1, g2, g3, g4⟩ := L_wrong (ins := ins) (x1 := x1) (x2 := x2) ok hn hBL2 ho1 (by omega) hnop ⟨fun z => absurd z hc2, fun _ => ⟨by omega, by omega⟩⟩ (by omega) (by omega) hbb (by omega)
          refine Or.inr ⟨at1, by omega, q2, ⟨_, _, _, rfl, hA3.th, (hxA.trans hx2).th, ?_, ?_⟩, j1 + 2 + 3, st4, op + 1, m4, 1, fun k => ?_, by omega, g1, Or.inl rfl, g2, g3, by omega⟩
          · show σ1.1 + 1 ≤ _
            omega
          · show σ1.2.1 + 6 ≤ _
            omega
          · show LSx n (k + (j1 + 2 + 3)) st x1 x2 ws.length ins 1 f = _
            rw [show k + (j1 + 2 + 3) = (k + 2 + j1) + 3 by omega, hz]
            exact (hz1 (k + 2)).trans (hz4 k)
      · have s1 : σ1.1 ≤ σ.1 + (at1 - (a0 + 2)) + 2 := s1
        have s2 : σ1.2.1 ≤ σ.2.1 + 3 * (at1 - (a0 + 2)) + 9 := s2
        rw [oxr e1]
        refine Or.inr ⟨at1, by omega, q2, ⟨_, _, _, rfl, hA3, hxA.trans hx2, by omega, by omega⟩, j1 + 3, st1, op1', m1, bad1, fun k => ?_, by omega, f1, f2, f3, f4, f5⟩
        show LSx n (k + (j1 + 3)) st x1 x2 ws.length ins 1 f = _
        rw [← Nat.add_assoc, hz]
        exact hz1 k
    · rw [oxr (A_open_f ok hA1 (by omega) hc)]
      have hwc : ∀ v ∈ (110 + mm) :: ws, v < 1000 := by
        intro v hv
        rcases List.mem_cons.mp hv with rfl | hv
        · omega
        · exact hw v hv
      obtain ⟨st2, m', e2, k1, k2, k3, k4⟩ := L_bad (x1 := x1) (x2 := x2) (ins := ins + 1) (opd := 1) (fst := 1) (m := cs.length) (ws := (110 + mm) :: ws) (st := sA (sI (sI st 4 (c32 (a0 + 1))) 7 1) 15 ws.length (c32 (110 + mm))) (st0 := st0) (p := a0 + 1) (op := op) (C := C) hn (BP.of (BP.b (b := 1) hP.p) rfl (sA_ne _ (by decide)) rfl rfl rfl) (BW.push (BW.of (st := st) rfl hW)) hwc (by exact hM.1) (by rw [List.length_cons]; omega) (by rw [List.length_cons]; omega) (hE.trans (BE.i4.trans (BE.i7.trans BE.w)))
      refine Or.inr ⟨a0 + 1, by omega, by omega, ⟨_, op, go, rfl, hA1.th, Ext.mvP.th, by show σ.1 + 1 ≤ _; omega, by show σ.2.1 + 6 ≤ _; omega⟩, 4, st2, op, m', 1, fun k => ?_, by omega, k1, Or.inl rfl, k2, k3, by rw [List.length_cons] at k4; omega⟩
      show LSx n (k + 1 + 3) st x1 x2 ws.length ins 1 f = _
      rw [hz0, ob (b_bracket_f (p := a0 + 1) ok hP.p (by omega) ho hc), ob (st_A (show ws.length < 64 by omega))]
      exact e2 k
  · rw [if_pos (by exact (c_le (a := 6) (b := op) (by omega) (by omega)).mpr (by omega))]
    unfold af_X3_element_L15
    rw [ob (A_cls hA), oxr A_need_f]
    obtain ⟨st2, m', e2, k1, k2, k3, k4⟩ := L_bad (x1 := x1) (x2 := x2) (ins := ins) (opd := 0) (fst := 0) (m := cs.length) (st := sI st 7 1) hn hP.b (BW.of (st := st) rfl hW) hw (by exact hM.1) (by omega) (by omega) (hE.trans BE.i7)
    refine Or.inr ⟨a0, Nat.le_refl _, hp, ⟨_, op, go, rfl, hA.th, Ext.rfl_.th, by show σ.1 + 1 ≤ _; omega, by show σ.2.1 + 6 ≤ _; omega⟩, 4, st2, op, m', 1, fun k => ?_, by omega, k1, Or.inl rfl, k2, k3, by omega⟩
    show LSx n (k + 1 + 3) st x1 x2 ws.length ins 1 f = _
    rw [hstep, ob (pm_par_f ok hP (by omega) (by omega) (Or.inr hM0)), if_pos rfl]
    exact e2 k
end PART3
