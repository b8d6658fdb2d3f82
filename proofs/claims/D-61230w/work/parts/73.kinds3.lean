/-! THE PURE LAW: IF, FOR, DEF -/
section KINDS3
variable {C : pC} {σ : aS} {st : bS} {n a : Nat} {cs : List Nat}
def relS (C : pC) (p : Nat) : Option (Nat × Nat) := if ch C p = 61 then some (0, p + 1) else if ch C p = 60 then (if ch C (p + 1) = 61 then some (3, p + 2) else if ch C (p + 1) = 62 then some (5, p + 2) else some (1, p + 1)) else if ch C p = 62 then (if ch C (p + 1) = 61 then some (4, p + 2) else some (2, p + 1)) else none
theorem relS_le {p r q : Nat} (h : relS C p = some (r, q)) : r < 6 ∧ p < q ∧ q ≤ C.N := by
  unfold relS at h
  split at h
  · rename_i g
    cases h
    have := ch_in (C := C) (i := p) (by omega)
    omega
  · split at h
    · rename_i g
      have h1 := ch_in (C := C) (i := p) (by omega)
      split at h
      · rename_i g2
        cases h
        have := ch_in (C := C) (i := p + 1) (by omega)
        omega
      · split at h
        · rename_i g2
          cases h
          have := ch_in (C := C) (i := p + 1) (by omega)
          omega
        · cases h
          omega
    · split at h
      · rename_i g
        have h1 := ch_in (C := C) (i := p) (by omega)
        split at h
        · rename_i g2
          cases h
          have := ch_in (C := C) (i := p + 1) (by omega)
          omega
        · cases h
          omega
      · cases h
theorem A_rel (ok : pOk C) {p : Nat} {r_2 : Option Nat} (h : PA C σ p 0 0) (hp : p ≤ C.N) :
    ((gC σ C.P 2).bind fun _ => cb (af_X3_takes n C.S σ C.P (61 : Int32)) fun st_4 v_5 => if v_5 = 0 then (gC st_4 C.P 2).bind fun _ => cb (af_X3_takes n C.S st_4 C.P (60 : Int32)) fun st_8 v_9 => if v_9 = 0 then (gC st_8 C.P 2).bind fun _ => cb (af_X3_takes n C.S st_8 C.P (62 : Int32)) fun st_12 v_13 => if v_13 = 0 then af_X3_ifThen_L85 n C.S st_12 C.P r_2 (0 : Int32) else (gC st_12 C.P 2).bind fun _ => cb (af_X3_takes n C.S st_12 C.P (61 : Int32)) fun st_16 v_17 => if v_17 = 0 then af_X3_ifThen_L85 n C.S st_16 C.P r_2 (4 : Int32) else af_X3_ifThen_L85 n C.S st_16 C.P r_2 (6 : Int32) else (gC st_8 C.P 2).bind fun _ => cb (af_X3_takes n C.S st_8 C.P (61 : Int32)) fun st_20 v_21 => if v_21 = 0 then (gC st_20 C.P 2).bind fun _ => cb (af_X3_takes n C.S st_20 C.P (62 : Int32)) fun st_24 v_25 => if v_25 = 0 then af_X3_ifThen_L85 n C.S st_24 C.P r_2 (1 : Int32) else af_X3_ifThen_L85 n C.S st_24 C.P r_2 (5 : Int32) else af_X3_ifThen_L85 n C.S st_20 C.P r_2 (3 : Int32) else af_X3_ifThen_L85 n C.S st_4 C.P r_2 (2 : Int32)) =
    match relS C p with
    | some (r, q) => af_X3_ifThen_L85 n C.S (ps C σ q 0 0) C.P r_2 (c32 (relA r))
    | none => af_X3_ifThen_L85 n C.S σ C.P r_2 0 := by
  have hN := ok.1
  unfold relS
  have h1 : PA C (ps C σ (p + 1) 0 0) (p + 1) 0 0 := h.ps
  rw [ob (A_cls h)]
  by_cases g1 : ch C p = 61
  · rw [if_pos g1, oc (A_takes_t (c := 61) ok h (by omega) g1 (by omega)), if_neg n10]
    rfl
  · rw [if_neg g1, oc (A_takes_f (c := 61) ok h (by omega) (by omega) g1), if_pos rfl, ob (A_cls h)]
    by_cases g2 : ch C p = 60
    · have hi2 := ch_in (C := C) (i := p) (by omega)
      rw [if_pos g2, oc (A_takes_t (c := 60) ok h (by omega) g2 (by omega)), if_neg n10, ob (A_cls h1)]
      by_cases g3 : ch C (p + 1) = 61
      · rw [if_pos g3, oc (A_takes_t (c := 61) ok h1 (by omega) g3 (by omega)), if_neg n10, ps_ps]
        rfl
      · rw [if_neg g3, oc (A_takes_f (c := 61) ok h1 (by omega) (by omega) g3), if_pos rfl, ob (A_cls h1)]
        by_cases g4 : ch C (p + 1) = 62
        · rw [if_pos g4, oc (A_takes_t (c := 62) ok h1 (by omega) g4 (by omega)), if_neg n10, ps_ps]
          rfl
        · rw [if_neg g4, oc (A_takes_f (c := 62) ok h1 (by omega) (by omega) g4), if_pos rfl]
          rfl
    · rw [if_neg g2, oc (A_takes_f (c := 60) ok h (by omega) (by omega) g2), if_pos rfl, ob (A_cls h)]
      by_cases g3 : ch C p = 62
      · have hi2 := ch_in (C := C) (i := p) (by omega)
        rw [if_pos g3, oc (A_takes_t (c := 62) ok h (by omega) g3 (by omega)), if_neg n10, ob (A_cls h1)]
        by_cases g4 : ch C (p + 1) = 61
        · rw [if_pos g4, oc (A_takes_t (c := 61) ok h1 (by omega) g4 (by omega)), if_neg n10, ps_ps]
          rfl
        · rw [if_neg g4, oc (A_takes_f (c := 61) ok h1 (by omega) (by omega) g4), if_pos rfl]
          rfl
      · rw [if_neg g3, oc (A_takes_f (c := 62) ok h (by omega) (by omega) g3), if_pos rfl]
theorem B_rel (ok : pOk C) {p op : Nat} (h : BP C st p op 0) (hp : p ≤ C.N) :
    ((bf_take n st (61 : Int32)).bind fun q_3 => if q_3.2 = 0 then (bf_take n q_3.1 (60 : Int32)).bind fun q_5 => if q_5.2 = 0 then (bf_take n q_5.1 (62 : Int32)).bind fun q_7 => if q_7.2 = 0 then bf_condition_L89 n q_7.1 (-1 : Int32) else (bf_take n q_7.1 (61 : Int32)).bind fun q_9 => if q_9.2 = 0 then bf_condition_L89 n q_9.1 (2 : Int32) else bf_condition_L89 n q_9.1 (4 : Int32) else (bf_take n q_5.1 (61 : Int32)).bind fun q_11 => if q_11.2 = 0 then (bf_take n q_11.1 (62 : Int32)).bind fun q_13 => if q_13.2 = 0 then bf_condition_L89 n q_13.1 (1 : Int32) else bf_condition_L89 n q_13.1 (5 : Int32) else bf_condition_L89 n q_11.1 (3 : Int32) else bf_condition_L89 n q_3.1 (0 : Int32)) =
    match relS C p with
    | some (r, q) => bf_condition_L89 n (sI st 4 (c32 q)) (c32 r)
    | none => bf_condition_L89 n st (-1) := by
  have hN := ok.1
  unfold relS
  have h1 : BP C (sI st 4 (c32 (p + 1))) (p + 1) op 0 := h.p
  by_cases g1 : ch C p = 61
  · rw [if_pos g1, ob (b_take_t (c := 61) ok h (by omega) g1), if_neg n10]
    rfl
  · rw [if_neg g1, ob (b_take_f (c := 61) ok h (by omega) (by omega) g1), if_pos rfl]
    by_cases g2 : ch C p = 60
    · have hi2 := ch_in (C := C) (i := p) (by omega)
      rw [if_pos g2, ob (b_take_t (c := 60) ok h (by omega) g2), if_neg n10]
      by_cases g3 : ch C (p + 1) = 61
      · rw [if_pos g3, ob (b_take_t (c := 61) ok h1 (by omega) g3), if_neg n10, sI_sI]
        rfl
      · rw [if_neg g3, ob (b_take_f (c := 61) ok h1 (by omega) (by omega) g3), if_pos rfl]
        by_cases g4 : ch C (p + 1) = 62
        · rw [if_pos g4, ob (b_take_t (c := 62) ok h1 (by omega) g4), if_neg n10, sI_sI]
          rfl
        · rw [if_neg g4, ob (b_take_f (c := 62) ok h1 (by omega) (by omega) g4), if_pos rfl]
          rfl
    · rw [if_neg g2, ob (b_take_f (c := 60) ok h (by omega) (by omega) g2), if_pos rfl]
      by_cases g3 : ch C p = 62
      · have hi2 := ch_in (C := C) (i := p) (by omega)
        rw [if_pos g3, ob (b_take_t (c := 62) ok h (by omega) g3), if_neg n10]
        by_cases g4 : ch C (p + 1) = 61
        · rw [if_pos g4, ob (b_take_t (c := 61) ok h1 (by omega) g4), if_neg n10, sI_sI]
          rfl
        · rw [if_neg g4, ob (b_take_f (c := 61) ok h1 (by omega) (by omega) g4), if_pos rfl]
          rfl
      · rw [if_neg g3, ob (b_take_f (c := 62) ok h (by omega) (by omega) g3), if_pos rfl]
/-- one word, taken by both -/
theorem W_one (ok : pOk C) (hS : sInj C.S) (hn : 1000 ≤ n) {p op go i w : Nat} (hi : i < 28) (hw : w < 28) (hwd : wd i = wb w) (h : PA C σ p op go) (hB : BP C st p op 0) (hp : p ≤ C.N) {x : Int32} (hx : x = c32 w := by rfl) :
    (p + (wb w).length ≤ C.N ∧ af_X3_take_2 n C.S σ C.P (some (C.S i)) = some (ps C σ (p + (wb w).length) op go, .inl ()) ∧ bf_takeWord n st x x = some (sI st 4 (c32 (p + (wb w).length)), c32 w)) ∨
    (∃ at_, p ≤ at_ ∧ at_ ≤ C.N ∧ af_X3_take_2 n C.S σ C.P (some (C.S i)) = some (aTh (ps C σ at_ op go), .inr 0) ∧ bf_takeWord n st x x = some (sI (sI st 4 (c32 at_)) 7 1, -1)) := by
  subst hx
  have hin := mt_in C (wb w) p (fun c hc => ((wb_ok ⟨w, hw⟩).1 c hc).1) hp
  by_cases hfu : mt C (wb w) p = (wb w).length
  · refine Or.inl ⟨by omega, ?_, ?_⟩
    · have := A_take2_t (n := n) ok hS hi h hp (by omega) (by rw [hwd]; exact hfu)
      rw [hwd] at this
      exact this
    · exact b_takeWord_t (n := n) (lo := w) (c := 1) (i := w) ok hB hp (by omega) (by omega) (by omega) hfu hn (x := c32 w) (y := c32 w) rfl (by rw [Nat.add_sub_cancel])
  · refine Or.inr ⟨p + mt C (wb w) p, by omega, hin, ?_, ?_⟩
    · have := A_take2_f (n := n) ok hS hi h hp (by omega) (by rw [hwd]; exact hfu)
      rw [hwd] at this
      exact this
    · have := b_takeWord_f (n := n) (lo := w) (c := 1) ok hB hp (by omega) (by omega) (fun k hk => by
        have : k = 0 := by omega
        subst this
        exact hfu) hn (x := c32 w) (y := c32 w) rfl (by rw [Nat.add_sub_cancel])
      rw [mx_1] at this
      exact this
theorem wb_17 : wd 21 = wb 17 ∧ wd 22 = wb 18 ∧ wd 23 = wb 19 ∧ wd 20 = wb 27 ∧ wd 3 = wb 3 := by decide +kernel
theorem wb_17l : (wb 17).length = 4 ∧ (wb 18).length = 2 ∧ (wb 19).length = 4 ∧ (wb 27).length = 2 ∧ (wb 3).length = 4 := by decide +kernel
theorem relA_pos {r : Nat} : 0 < relA r ∧ relA r < 7 := by unfold relA; split <;> (try split) <;> (try split) <;> (try split) <;> (try split) <;> omega
/-- a kind that failed -/
theorem KN_of {C : pC} {σ σ' : aS} {st s s' : bS} {zA : Option (aS × (Option Nat ⊕ Nat))} {zB : Option (bS × Unit)} {so at_ M : Nat} (h0 : zA = some (σ', .inr 0)) (h1 : at_ ≤ C.N) (h2 : ∃ op go, PA C σ' at_ op go) (h3 : Ext C.P σ σ') (h4 : σ'.1 ≤ σ.1 + 200) (h5 : σ'.2.1 ≤ σ.2.1 + 1000) (h6 : zB = some (s', ())) (h7 : DB C s' at_ M) (hM : M ≤ 150) (h8 : BF st s) (h9 : BF s s') : KO C σ zA st zB so :=
  Or.inr ⟨at_, σ', s', h1, h0, h2, h3, h4, h5, h6, DM.e (h7.m.up hM), h8.trans h9⟩
theorem K_2 (ok : pOk C) (hS : sInj C.S) (hn : 1000 ≤ n) (J : JS C σ st a 0 0 cs) : KO C σ (af_X3_statement_L379 n C.S σ C.P 2) st (bf_condition n st) 2 := by
  have hN := ok.1
  obtain ⟨hA, hP, hM, hp, hb⟩ := J
  have hPlt := hA.2.2.2.1
  have e00 : af_X3_statement_L379 n C.S σ C.P 2 = af_X3_ifThen n C.S σ C.P := by
    unfold af_X3_statement_L379
    rw [if_neg (by decide), if_neg (by decide), if_pos rfl, ob (A_cls hA)]
    cases h : af_X3_ifThen n C.S σ C.P with
    | none => rfl
    | some q => obtain ⟨q1, q2⟩ := q; cases q2 <;> rfl
  rw [e00]
  unfold af_X3_ifThen bf_condition
  -- the tails, once bad
  have T5 : ∀ (s : bS) (at_ M : Nat), DB C s at_ M → ∃ s', ((bf_lineNumber n s).bind fun q_5 => (bf_setArg n q_5.1 0 q_5.2).bind fun q_6 => some (q_6.1, ())) = some (s', ()) ∧ DB C s' at_ M ∧ BF s s' := fun s at_ M hD => ⟨_, by rw [ob (D_number hD), ob (b_setArg (k := 0) (by omega))], hD.set (by decide), BF.a (by omega)⟩
  have T4 : ∀ (s : bS) (at_ M : Nat), DM C s at_ M → at_ ≤ C.N → ∃ s', ((bf_takeWord n s 17 17).bind fun q_4 => (bf_lineNumber n q_4.1).bind fun q_5 => (bf_setArg n q_5.1 0 q_5.2).bind fun q_6 => some (q_6.1, ())) = some (s', ()) ∧ DB C s' at_ M ∧ BF s s' := by
    intro s at_ M hD ha
    obtain ⟨s1, e1, g1, g2⟩ := D_word (n := n) (lo := 17) (c := 1) (x := 17) (y := 17) ok hD ha (by omega) (by omega) hn
    obtain ⟨s', e, h1, h2⟩ := T5 s1 at_ M g1
    exact ⟨s', by rw [ob e1]; exact e, h1, g2.trans h2⟩
  have T99 : ∀ (s : bS) (at_ M : Nat) (x : Int32), DB C s at_ M → at_ ≤ C.N → M < 150 → ∃ s', bf_condition_L99 n s x = some (s', ()) ∧ DB C s' at_ (M + 1) ∧ BF s s' := by
    intro s at_ M x hD ha hM
    unfold bf_condition_L99
    obtain ⟨s2, v2, e2, g3, g4⟩ := D_expr (n := n) (x1 := 0) (hD.set (k := 12) (i := 192 + 1) (v := x) (by decide)) hn (by omega)
    obtain ⟨s', e, h1, h2⟩ := T4 (sA s2 13 (96 + 1) v2) at_ (M + 1) (g3.m.set (by decide)) ha
    exact ⟨s', by rw [ob (b_setArg (k := 1) (by omega)), ob e2, ob (b_setExpr (k := 1) (by omega))]; exact e, h1, (BF.a (by omega)).trans (g4.trans ((BF.e (by omega)).trans h2))⟩
  rw [ob (A_cls hA)]
  rcases E_top (n := n) (x1 := 0) ok hS hn hA hP hM hb hp (by omega) (Or.inl rfl) with ⟨at1, l1, q1, q2, ⟨σ1, r1, e1, hA1, hx1, t1, t2, hex1⟩, hnop1, s1, e2, hP1, hM1, hE1, hb1⟩ | ⟨at1, q1, q2, ⟨σ1, op1, go1, e1, hA1, hx1, t1, t2⟩, s1, e2, hD1, hF1⟩
  · rw [ox e1, A_rel ok hA1 q2, ob e2, ob (b_setExpr (k := 0) (by omega))]
    have hl1 : (cs ++ (l1 ++ [14])).length = cs.length + (l1.length + 1) := by simp
    have hP2 : BP C (sA s1 13 (96 + 0) (c32 cs.length)) at1 0 0 := hP1.set (by decide)
    have hM2 : BM (sA s1 13 (96 + 0) (c32 cs.length)) (cs ++ (l1 ++ [14])) := hM1.set (by decide)
    have hF2 : BF st (sA s1 13 (96 + 0) (c32 cs.length)) := hE1.f.trans (BF.e (by omega))
    have hw2 : (sA s1 13 (96 + 0) (c32 cs.length)).2.1 13 (96 + 0) = c32 cs.length := by rw [sA_at, if_pos rfl, if_pos rfl]
    dsimp only
    generalize sA s1 13 (96 + 0) (c32 cs.length) = s2 at *
    rw [B_rel ok hP2 q2]
    cases hrel : relS C at1 with
    | none =>
      dsimp only
      have eA : af_X3_ifThen_L85 n C.S σ1 C.P (some r1) 0 = some (aTh σ1, .inr 0) := by
        unfold af_X3_ifThen_L85 af_X3_ifThen_L96
        rw [if_pos z00, ob (A_cls hA1), oxr A_need_f]
      have hD : DB C (sI s2 7 1) at1 (2 * at1 + 2) := ⟨0, (cs ++ (l1 ++ [14])).length, hP2.b, (by exact hM2.1), by omega⟩
      obtain ⟨s', e, g1, g2⟩ := T99 (sI s2 7 1) at1 _ (-1) hD q2 (by omega)
      have eB : bf_condition_L89 n s2 (-1) = some (s', ()) := by
        unfold bf_condition_L89
        rw [if_neg (by decide)]
        exact e
      exact KN_of eA q2 ⟨_, _, hA1.th⟩ hx1.th (by show σ1.1 + 1 ≤ _; omega) (by show σ1.2.1 + 6 ≤ _; omega) eB g1 (by omega) hF2 (BE.i7.f.trans g2)
    | some rq =>
      obtain ⟨r, q⟩ := rq
      dsimp only
      obtain ⟨hr6, hpq, hqN⟩ := relS_le hrel
      have hrp := relA_pos (r := r)
      have hA3 : PA C (ps C σ1 q 0 0) q 0 0 := hA1.ps
      have eA : af_X3_ifThen_L85 n C.S (ps C σ1 q 0 0) C.P (some r1) (c32 (relA r)) = xb (af_expr n C.S dX (ps C σ1 q 0 0) C.P) fun st_4 r_5 => (gC st_4 C.P 2).bind fun _ => xb (af_X3_take_2 n C.S st_4 C.P (some (C.S 21))) fun st_7 _ => (nO st_7 13 [.null, .int 0, .null, .int 0] 4).bind fun st_10 => (gC st_10 C.P 2).bind fun _ => xb (af_X3_number n C.S st_10 C.P) fun st_11 v_12 => cb (af_X14_init n C.S st_11 st_7.1 (some r1) (c32 (relA r)) r_5 v_12) fun st_14 _ => some (st_14, .inl (some st_7.1)) := by
        unfold af_X3_ifThen_L85 af_X3_ifThen_L96
        rw [if_neg (fun z => by have := (c_le (a := relA r) (b := 0) (by omega) (by omega)).mp z; omega), ob (A_cls hA3), ox A_need_t, ob (A_cls hA3)]
      have eB : bf_condition_L89 n (sI s2 4 (c32 q)) (c32 r) = bf_condition_L99 n (sI s2 4 (c32 q)) (c32 r) := by
        unfold bf_condition_L89
        rw [if_pos (c_0le (by omega))]
      rw [eA, eB]
      unfold bf_condition_L99
      rw [ob (b_setArg (k := 1) (by omega))]
      have hP3 : BP C (sA (sI s2 4 (c32 q)) 12 (192 + 1) (c32 r)) q 0 0 := BP.set hP2.p (by decide)
      have hM3 : BM (sA (sI s2 4 (c32 q)) 12 (192 + 1) (c32 r)) (cs ++ (l1 ++ [14])) := BM.set (st := sI s2 4 (c32 q)) hM2 (by decide)
      have hF3 : BF st (sA (sI s2 4 (c32 q)) 12 (192 + 1) (c32 r)) := hF2.trans (BE.i4.f.trans (BF.a (by omega)))
      have hw3 : (sA (sI s2 4 (c32 q)) 12 (192 + 1) (c32 r)).2.1 13 (96 + 0) = c32 cs.length := by rw [sA_ne _ (by decide)]; exact hw2
      have hv3 : (sA (sI s2 4 (c32 q)) 12 (192 + 1) (c32 r)).2.1 12 193 = c32 r := by rw [sA_at, if_pos rfl, if_pos rfl]
      dsimp only
      generalize sA (sI s2 4 (c32 q)) 12 (192 + 1) (c32 r) = s3 at *
      rcases E_top (n := n) (x1 := 0) ok hS hn hA3 hP3 hM3 (by omega) hqN (by omega) (Or.inl rfl) with ⟨at2, l2, p1, p2, ⟨σ2, r2, e3, hA4, hx4, u1, u2, hex2⟩, hnop2, s4, e4, hP4, hM4, hE4, hb4⟩ | ⟨at2, p1, p2, ⟨σ2, op2, go2, e3, hA4, hx4, u1, u2⟩, s4, e4, hD4, hF4⟩
      · have u1 : σ2.1 ≤ σ1.1 + (at2 - q) := u1
        have u2 : σ2.2.1 ≤ σ1.2.1 + 3 * (at2 - q) := u2
        have hl2 : (cs ++ (l1 ++ [14]) ++ (l2 ++ [14])).length = cs.length + (l1.length + 1) + (l2.length + 1) := by simp; omega
        rw [ox e3, ob (A_cls hA4), ob e4, ob (b_setExpr (k := 1) (by omega))]
        have hP5 : BP C (sA s4 13 (96 + 1) (c32 (cs ++ (l1 ++ [14])).length)) at2 0 0 := hP4.set (by decide)
        have hM5 : BM (sA s4 13 (96 + 1) (c32 (cs ++ (l1 ++ [14])).length)) (cs ++ (l1 ++ [14]) ++ (l2 ++ [14])) := hM4.set (by decide)
        have hF5 : BF st (sA s4 13 (96 + 1) (c32 (cs ++ (l1 ++ [14])).length)) := hF3.trans (hE4.f.trans (BF.e (by omega)))
        have hw5 : (sA s4 13 (96 + 1) (c32 (cs ++ (l1 ++ [14])).length)).2.1 13 (96 + 0) = c32 cs.length := by rw [sA_at, if_pos rfl, if_neg (by decide), hE4.2.1 13 (by decide) (by decide)]; exact hw3
        have hw51 : (sA s4 13 (96 + 1) (c32 (cs ++ (l1 ++ [14])).length)).2.1 13 (96 + 1) = c32 (cs ++ (l1 ++ [14])).length := by rw [sA_at, if_pos rfl, if_pos rfl]
        have hv5 : (sA s4 13 (96 + 1) (c32 (cs ++ (l1 ++ [14])).length)).2.1 12 193 = c32 r := by rw [sA_ne _ (by decide), hE4.2.1 12 (by decide) (by decide)]; exact hv3
        dsimp only
        generalize sA s4 13 (96 + 1) (c32 (cs ++ (l1 ++ [14])).length) = s5 at *
        rcases W_one (n := n) (i := 21) (w := 17) ok hS hn (by omega) (by omega) wb_17.1 hA4 hP5 p2 (x := 17) with ⟨y1, y2, y3⟩ | ⟨at3, y0, y1, y2, y3⟩
        · rw [wb_17l.1] at y1 y2 y3
          rw [ox y2, ob (nO_eq _ _ _ _), ob y3]
          have hA6 : PA C (nw (ps C σ2 (at2 + 4) 0 0) (.inr (13, [.null, .int 0, .null, .int 0])) 4) (at2 + 4) 0 0 := hA4.ps.nwc
          have hx6 : Ext C.P σ2 (nw (ps C σ2 (at2 + 4) 0 0) (.inr (13, [.null, .int 0, .null, .int 0])) 4) := Ext.mvP.trans Ext.nwc
          have hP6 : BP C (sI s5 4 (c32 (at2 + 4))) (at2 + 4) 0 0 := hP5.p
          obtain ⟨v1, v2, v3, v4, v5⟩ := sNum_le C (at2 + 4)
          rw [ob (A_cls hA6)]
          dsimp only
          by_cases hv : (sNum C (at2 + 4)).1 = 0
          · rw [oxr (A_number_f ok hA6 y1 (by omega) hv), ob (B_number_f ok hP6 y1 (by omega) hv), ob (b_setArg (k := 0) (by omega))]
            exact Or.inr ⟨(sNum C (at2 + 4)).2, _, _, v3 y1, rfl, ⟨_, _, hA6.ps.th⟩, (((hx1.trans Ext.mvP).trans hx4).trans (hx6.trans Ext.mvP)).th, by show σ2.1 + 1 + 1 ≤ _; omega, by show σ2.2.1 + 4 + 6 ≤ _; omega, rfl, ⟨0, (cs ++ (l1 ++ [14]) ++ (l2 ++ [14])).length, 1, BP.set hP6.p.b (by decide), Or.inl rfl, (by exact hM5.1), by omega⟩, hF5.trans ((BE.i4.trans (BE.i4.trans BE.i7)).f.trans (BF.a (by omega)))⟩
          · have hs1 : σ.1 ≤ σ1.1 := hx1.1
            have hs2 : σ1.1 ≤ σ2.1 := hx4.1
            have hne0 := hA.ne (q := σ2.1) (by omega)
            have hcell : (ps C (nw (ps C σ2 (at2 + 4) 0 0) (.inr (13, [.null, .int 0, .null, .int 0])) 4) (sNum C (at2 + 4)).2 0 0).2.2 σ2.1 = some (.inr (13, [.null, .int 0, .null, .int 0])) := by
              rw [mv_ne _ _ hne0.1]
              exact nw_at _ _ _
            rw [ox (A_number_t ok hA6 y1 (by omega) hv)]
            have e9 : af_X14_init n C.S (ps C (nw (ps C σ2 (at2 + 4) 0 0) (.inr (13, [.null, .int 0, .null, .int 0])) 4) (sNum C (at2 + 4)).2 0 0) (ps C σ2 (at2 + 4) 0 0).1 (some r1) (c32 (relA r)) (some r2) (c32 (sNum C (at2 + 4)).1) = some (mv (ps C (nw (ps C σ2 (at2 + 4) 0 0) (.inr (13, [.null, .int 0, .null, .int 0])) 4) (sNum C (at2 + 4)).2 0 0) σ2.1 (.inr (13, [.ref r1, .int (c32 (relA r)), .ref r2, .int (c32 (sNum C (at2 + 4)).1)])), ()) := i_X14 hcell
            rw [oc e9, ob (B_number_t ok hP6 y1 (by omega) hv), ob (b_setArg (k := 0) (by omega)), sI_sI]
            have hxx : Ext C.P σ2 (mv (ps C (nw (ps C σ2 (at2 + 4) 0 0) (.inr (13, [.null, .int 0, .null, .int 0])) 4) (sNum C (at2 + 4)).2 0 0) σ2.1 (.inr (13, [.ref r1, .int (c32 (relA r)), .ref r2, .int (c32 (sNum C (at2 + 4)).1)]))) := (hx6.trans Ext.mvP).new (Nat.le_refl _)
            have hA7 : PA C (ps C (nw (ps C σ2 (at2 + 4) 0 0) (.inr (13, [.null, .int 0, .null, .int 0])) 4) (sNum C (at2 + 4)).2 0 0) (sNum C (at2 + 4)).2 0 0 := hA6.ps
            have hM7 : BM (sA (sI s5 4 (c32 (sNum C (at2 + 4)).2)) 12 (192 + 0) (c32 (sNum C (at2 + 4)).1)) (cs ++ (l1 ++ [14]) ++ (l2 ++ [14])) := BM.set (st := sI s5 4 (c32 (sNum C (at2 + 4)).2)) hM5 (by decide)
            refine Or.inl ⟨(sNum C (at2 + 4)).2, _, σ2.1, _, _, v3 y1, rfl, ⟨_, _, hA7.mvq hne0.1 hne0.2.1 hne0.2.2⟩, ((hx1.trans Ext.mvP).trans hx4).trans hxx, by show σ2.1 + 1 ≤ _; omega, by show σ2.2.1 + 4 ≤ _; omega, rfl, ⟨0, BP.set hP5.p (by decide)⟩, hM7, by omega, hF5.trans (BE.i4.f.trans (BF.a (by omega))), ?_⟩
            refine ⟨r1, r2, r, (sNum C (at2 + 4)).1, hi_at (mv_at _ _ _) (by omega) (by show σ2.1 < σ2.1 + 1; omega), hr6, v4, hv, ?_, ?_, ⟨l1, ?_, by omega, ?_⟩, ⟨l2, ?_, by omega, ?_⟩⟩
            · show (sA (sI s5 4 (c32 (sNum C (at2 + 4)).2)) 12 (192 + 0) (c32 (sNum C (at2 + 4)).1)).2.1 12 (192 + 0) = _
              rw [sA_at, if_pos rfl, if_pos rfl]
            · show (sA (sI s5 4 (c32 (sNum C (at2 + 4)).2)) 12 (192 + 0) (c32 (sNum C (at2 + 4)).1)).2.1 12 (192 + 1) = _
              rw [sA_at, if_pos rfl, if_neg (by decide)]
              exact hv5
            · exact (ex.map (hi_le ((Ext.mvP.trans hx4).trans hxx) hPlt (Nat.le_refl _)) _ _ _ hex1).up (by omega)
            · have h7 := R24_of (cs := cs) (l := l1 ++ [14]) (x := l2 ++ [14]) (i := 0) (st := sA (sI s5 4 (c32 (sNum C (at2 + 4)).2)) 12 (192 + 0) (c32 (sNum C (at2 + 4)).1)) (by rw [← List.append_assoc]; exact hM7) (by rw [sA_ne _ (by decide)]; exact hw5)
              rw [← List.append_assoc] at h7
              exact h7
            · exact (ex.map (hi_le hxx (by show C.P < σ1.1; omega) (by show σ.1 ≤ σ1.1; omega)) _ _ _ hex2).up (by omega)
            · have h7 := R24_of (cs := cs ++ (l1 ++ [14])) (l := l2 ++ [14]) (x := []) (i := 1) (st := sA (sI s5 4 (c32 (sNum C (at2 + 4)).2)) 12 (192 + 0) (c32 (sNum C (at2 + 4)).1)) (by rw [List.append_nil]; exact hM7) (by rw [sA_ne _ (by decide)]; exact hw51)
              rw [List.append_nil] at h7
              exact h7
        · have hD : DB C (sI (sI s5 4 (c32 at3)) 7 1) at3 130 := ⟨0, (cs ++ (l1 ++ [14]) ++ (l2 ++ [14])).length, hP5.p.b, (by exact hM5.1), by omega⟩
          obtain ⟨s', e, g1, g2⟩ := T5 _ _ _ hD
          rw [oxr y2, ob y3]
          dsimp only
          exact KN_of rfl y1 ⟨_, _, hA4.ps.th⟩ (((hx1.trans Ext.mvP).trans hx4).trans Ext.mvP).th (by show σ2.1 + 1 ≤ _; omega) (by show σ2.2.1 + 6 ≤ _; omega) e g1 (by omega) hF5 ((BE.i4.trans BE.i7).f.trans g2)
      · have u1 : σ2.1 ≤ σ1.1 + (at2 - q) + 2 := u1
        have u2 : σ2.2.1 ≤ σ1.2.1 + 3 * (at2 - q) + 9 := u2
        obtain ⟨s', e, g1, g2⟩ := T4 (sA s4 13 (96 + 1) (c32 (cs ++ (l1 ++ [14])).length)) at2 _ (hD4.set (by decide)) p2
        rw [oxr e3, ob e4, ob (b_setExpr (k := 1) (by omega))]
        dsimp only
        exact KN_of rfl p2 ⟨_, _, hA4⟩ ((hx1.trans Ext.mvP).trans hx4) (by omega) (by omega) e g1 (by omega) hF3 (hF4.trans ((BF.e (by omega)).trans g2))
  · rw [oxr e1, ob e2, ob (b_setExpr (k := 0) (by omega))]
    have hD2 : DM C (sA s1 13 (96 + 0) (c32 cs.length)) at1 (2 * at1 + 10) := hD1.set (by decide)
    have hF2 : BF st (sA s1 13 (96 + 0) (c32 cs.length)) := hF1.trans (BF.e (by omega))
    dsimp only
    generalize sA s1 13 (96 + 0) (c32 cs.length) = s2 at *
    rw [ob (D_take (c := 61) ok hD2 (by omega) (by omega) (by unfold dig; omega)), if_pos rfl, ob (D_take (c := 60) ok hD2 (by omega) (by omega) (by unfold dig; omega)), if_pos rfl, ob (D_take (c := 62) ok hD2 (by omega) (by omega) (by unfold dig; omega)), if_pos rfl]
    have hD3 : DB C (sI s2 7 1) at1 (2 * at1 + 10) := by
      obtain ⟨o, m, b, h1, h4, h2, h3⟩ := hD2
      exact ⟨o, m, h1.b, h2, h3⟩
    obtain ⟨s', e, g1, g2⟩ := T99 (sI s2 7 1) at1 _ (-1) hD3 q2 (by omega)
    have eB : bf_condition_L89 n s2 (-1) = some (s', ()) := by
      unfold bf_condition_L89
      rw [if_neg (by decide)]
      exact e
    exact KN_of rfl q2 ⟨_, _, hA1⟩ hx1 (by omega) (by omega) eB g1 (by omega) hF2 (BE.i7.f.trans g2)
end KINDS3
