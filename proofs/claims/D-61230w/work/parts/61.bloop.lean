/-! THE PURE LAW: the steps of the model's loop over an expression -/
section BLOOP
variable {C : pC} {st st0 : bS} {p op n ins : Nat} {x1 x2 : Int32} {cs ws : List Nat}
theorem b_operator {w : Nat} (h1 : 3 ≤ w) (h2 : w ≤ 7) : bf_operator n st (c32 (osg w)) = some (st, c32 w) := by
  match w, h1, h2 with
  | 3, _, _ => rfl
  | 4, _, _ => rfl
  | 5, _, _ => rfl
  | 6, _, _ => rfl
  | 7, _, _ => rfl
theorem b_operator_0 {c : Nat} (hb : c < 128) (h : nop 1 c) : bf_operator n st (c32 c) = some (st, 0) := by
  have h1 := h.1 (by omega)
  have h2 := h.2.1 (by omega)
  have h3 := h.2.2 (by omega)
  unfold bf_operator
  rw [if_neg (fun z => h3.1 (by exact (c_eq (a := c) (b := 43) (by omega) (by omega)).mp z)), if_neg (fun z => h3.2 (by exact (c_eq (a := c) (b := 45) (by omega) (by omega)).mp z)), if_neg (fun z => h2.1 (by exact (c_eq (a := c) (b := 42) (by omega) (by omega)).mp z)), if_neg (fun z => h2.2 (by exact (c_eq (a := c) (b := 47) (by omega) (by omega)).mp z)), if_neg (fun z => h1 (by exact (c_eq (a := c) (b := 94) (by omega) (by omega)).mp z))]
theorem rk_op {w : Nat} (h1 : 3 ≤ w) (h2 : w ≤ 7) : rk w = if w = 7 then 3 else if w = 5 ∨ w = 6 then 2 else 1 := by
  unfold rk
  rw [if_neg (by omega)]
theorem L_op {o : List Nat} {r w : Nat} (ok : pOk C) (hn : 1000 ≤ n) (h : BL C st0 st p op cs (o ++ ws)) (ho : ∀ w ∈ o, w < 100 ∧ r ≤ rk w) (hs : stops r ws) (h1 : 3 ≤ w) (h2 : w ≤ 7) (hr : rk w = r) (hc : ch C p = osg w) (hp : p < C.N) (hb : cs.length + (o ++ ws).length ≤ 2 * p + 1) (hb2 : (o ++ ws).length ≤ p) :
    ∃ st', (∀ k, LSx n (k + 1) st x1 x2 (o ++ ws).length ins 0 0 = LSx n k st' x1 x2 (w :: ws).length ins 1 0) ∧ BL C st0 st' (p + 1) op (cs ++ o) (w :: ws) := by
  have hN := ok.1
  obtain ⟨hP, hM, hW, hE, hw⟩ := h
  have hl : (o ++ ws).length = o.length + ws.length := List.length_append
  have hr4 : r < 10 := by rw [← hr, rk_op h1 h2]; split <;> (try split) <;> omega
  obtain ⟨st1, e1, w1, be1, c61, fr1, bm1⟩ := b_settle (n := n) (r := r) hr4 hs (fun w hw2 => hw w (List.mem_append_right _ hw2)) o n cs.length st hW ho (by omega) hM.1 (by omega) (by omega)
  have hP1 : BP C st1 p op 0 := hP.of (fr1 2 (by decide)) (be1.2.1 9 (by decide) (by decide)) (fr1 4 (by decide)) (fr1 5 (by decide)) (fr1 7 (by decide))
  have hM1 := bm1 cs rfl hM
  refine ⟨sI (sA st1 15 ws.length (c32 w)) 4 (c32 (p + 1)), fun k => ?_, ?_, ?_, ?_, ?_, ?_⟩
  · rw [LSx, bf_expression_S16, if_pos rfl, bf_expression_B16, if_pos (by exact hP.2.2.2.2), ob (b_look ok hP (by omega)), if_pos rfl, hc, ob (b_operator h1 h2), if_neg (fun z => by have := (c_le (a := w) (b := 0) (by omega) (by omega)).mp z; omega), ob (b_rank (by omega)), hr]
    have e2 : bf_settle n st (c32 (o ++ ws).length) (c32 r) = some (st1, c32 ws.length) := e1
    rw [ob e2, ob (st_A (show ws.length < 64 by omega))]
    show bf_expression_S16 n k 0 (sI (sA st1 15 ws.length (c32 w)) 4 (st1.1 4 + c32 1)) x1 x2 (c32 ws.length + c32 1) (c32 ins) 1 0 0 0 0 0 = _
    rw [hP1.2.2.1, c_add, c_add]
    rfl
  · exact (hP1.of (st' := sA st1 15 ws.length (c32 w)) rfl (sA_ne _ (by decide)) rfl rfl rfl).p
  · exact ⟨hM1.1, fun i v hi => by
      show (sA st1 15 ws.length (c32 w)).2.1 14 _ = _
      rw [sA_ne _ (by decide)]
      exact hM1.2 i v hi⟩
  · exact BW.of (st := sA st1 15 ws.length (c32 w)) rfl w1.push
  · exact hE.trans (be1.trans (BE.w.trans BE.i4))
  · intro v hv
    rcases List.mem_cons.mp hv with rfl | hv
    · omega
    · exact hw v (List.mem_append_right _ hv)
theorem z00 : (0 : Int32) ≤ 0 := by decide
theorem stops_drop : ∀ ws : List Nat, stops 1 (ws.dropWhile (fun w => decide (w < 100))) := by
  intro ws
  induction ws with
  | nil => trivial
  | cons w ws ih =>
    by_cases g : w < 100
    · rw [List.dropWhile_cons_of_pos (by simpa using g)]
      exact ih
    · rw [List.dropWhile_cons_of_neg (by simpa using g)]
      exact Or.inl (by omega)
/-- an expression's last step -/
theorem L_318 {bad : Int32} {m : Nat} (hn : 1000 ≤ n) (hP : BP C st p op bad) (hW : BW st ws) (hw : ∀ w ∈ ws, w < 1000) (h6 : st.1 6 = c32 m) (hb : m + ws.length + 1 ≤ 160) (hb2 : ws.length ≤ 64) :
    ∃ st' m', bf_expression_L318 n st x2 (c32 ws.length) = some (st', x2) ∧ BP C st' p op bad ∧ BE st st' ∧ st'.1 6 = c32 m' ∧ m' ≤ m + ws.length + 1 ∧ (∀ cs, cs.length = m → BM st cs → (∀ w ∈ ws, w < 100) → BM st' (cs ++ ws ++ [14])) := by
  have hsplit := List.takeWhile_append_dropWhile (p := fun w => decide (w < 100)) (l := ws)
  generalize ho : ws.takeWhile (fun w => decide (w < 100)) = o at hsplit
  generalize hr : ws.dropWhile (fun w => decide (w < 100)) = rest at hsplit
  have ho2 : ∀ w ∈ o, w < 100 ∧ 1 ≤ rk w := by
    intro w hw2
    have hlt : w < 100 := by
      rw [← ho] at hw2
      have := List.all_takeWhile (p := fun w => decide (w < 100)) (l := ws)
      rw [List.all_eq_true] at this
      simpa using this w hw2
    exact ⟨hlt, by unfold rk; rw [if_neg (by omega)]; split <;> (try split) <;> omega⟩
  have hst : stops 1 rest := by rw [← hr]; exact stops_drop ws
  have hl : ws.length = o.length + rest.length := by rw [← hsplit, List.length_append]
  obtain ⟨st1, e1, w1, be1, c61, fr1, bm1⟩ := b_settle (n := n) (r := 1) (by omega) hst (fun w hw2 => hw w (by rw [← hsplit]; exact List.mem_append_right _ hw2)) o n m st (by rw [hsplit]; exact hW) ho2 (by rw [hsplit]; exact hb2) h6 (by omega) (by omega)
  have hP1 : BP C st1 p op bad := hP.of (fr1 2 (by decide)) (be1.2.1 9 (by decide) (by decide)) (fr1 4 (by decide)) (fr1 5 (by decide)) (fr1 7 (by decide))
  rw [hsplit] at e1
  refine ⟨mk st1 (m + o.length) (c32 14), m + o.length + 1, ?_, hP1.mk, be1.trans BE.mk, mk_6, by omega, fun cs hcs hc hall => ?_⟩
  · unfold bf_expression_L318
    have e2 : bf_settle n st (c32 ws.length) 1 = some (st1, c32 rest.length) := e1
    rw [ob e2, ob (b_make (by exact c61) (by omega))]
    rfl
  · have h1 := bm1 cs hcs hc
    have hrn : rest = [] := by
      cases hrest : rest with
      | nil => rfl
      | cons w r2 =>
        rw [hrest] at hst
        have h100 : w < 100 := hall w (by rw [← hsplit, hrest]; exact List.mem_append_right _ (List.mem_cons_self ..))
        rcases hst with z | z
        · omega
        · unfold rk at z
          rw [if_neg (by omega)] at z
          split at z <;> (try split at z) <;> omega
    rw [hrn, List.append_nil] at hsplit
    rw [hsplit] at h1 ⊢
    have h2 := h1.mk (w := 14)
    rw [List.length_append, hcs] at h2
    exact h2
/-- once bad, an expression ends -/
theorem L_bad {opd fst : Int32} {m : Nat} (hn : 1000 ≤ n) (hP : BP C st p op 1) (hW : BW st ws) (hw : ∀ w ∈ ws, w < 1000) (h6 : st.1 6 = c32 m) (hb : m + ws.length + 1 ≤ 160) (hb2 : ws.length ≤ 64) (hE : BE st0 st) :
    ∃ st' m', (∀ k, LSx n (k + 1) st x1 x2 ws.length ins opd fst = some (st', x2)) ∧ BP C st' p op 1 ∧ BE st0 st' ∧ st'.1 6 = c32 m' ∧ m' ≤ m + ws.length + 1 := by
  obtain ⟨st', m', e, h1, h2, h3, h4, -⟩ := L_318 (x2 := x2) hn hP hW hw h6 hb hb2
  refine ⟨st', m', fun k => ?_, h1, hE.trans h2, h3, h4⟩
  rw [LSx, bf_expression_S16, if_pos rfl, bf_expression_B16, if_neg (by rw [hP.2.2.2.2]; exact n10)]
  exact e
/-- the end at the outside -/
theorem L_end (ok : pOk C) (hn : 1000 ≤ n) (h : BL C st0 st p op cs ws) (hc : nop 1 (ch C p)) (hp : p ≤ 60) (hb : cs.length + ws.length ≤ 2 * p + 1) (hb2 : ws.length ≤ 64) :
    ∃ st' m', (∀ k, LSx n (k + 1) st x1 x2 ws.length 0 0 0 = some (st', x2)) ∧ BP C st' p op 0 ∧ BE st0 st' ∧ st'.1 6 = c32 m' ∧ m' ≤ 2 * p + 2 ∧ ((∀ w ∈ ws, w < 100) → BM st' (cs ++ ws ++ [14])) := by
  obtain ⟨hP, hM, hW, hE, hw⟩ := h
  obtain ⟨st', m', e, h1, h2, h3, h4, h5⟩ := L_318 (x2 := x2) hn hP hW hw hM.1 (by omega) hb2
  refine ⟨st', m', fun k => ?_, h1, hE.trans h2, h3, by omega, h5 cs rfl hM⟩
  rw [LSx, bf_expression_S16, if_pos rfl, bf_expression_B16, if_pos (by exact hP.2.2.2.2), ob (b_look ok hP hp), if_pos rfl, ob (b_operator_0 (ch_lt ok p) hc), if_pos (by exact z00), if_pos (by rfl)]
  exact e
/-- the codes that a closing bracket writes -/
def clo (m : Nat) : List Nat := if m = 100 then [] else if m < 104 then [m - 92] else if m < 110 then [13, m - 104] else [2, m - 120]
theorem b_close {m : Nat} (hm : 100 ≤ m) (hm2 : m < 110 ∨ 120 ≤ m) (hm3 : m < 1000) (h : BM st cs) (hb : cs.length + 2 ≤ 160) :
    ∃ st', bf_closeMark n st (c32 m) = some (st', ()) ∧ BM st' (cs ++ clo m) ∧ BE st st' ∧ st'.2.1 15 = st.2.1 15 ∧ (∀ j, j ≠ 6 → st'.1 j = st.1 j) := by
  unfold bf_closeMark clo
  by_cases g1 : m = 100
  · rw [if_pos (by rw [g1]; rfl), if_pos g1]
    exact ⟨st, rfl, by rw [List.append_nil]; exact h, BE.rfl_, rfl, fun _ _ => rfl⟩
  · rw [if_neg (fun z => g1 (by exact (c_eq (a := m) (b := 100) (by omega) (by omega)).mp z)), if_neg g1]
    by_cases g2 : m < 104
    · rw [if_neg (fun z => by have := (c_le (a := 104) (b := m) (by omega) (by omega)).mp z; omega), if_pos g2]
      have ev : ((9 : Int32) + c32 m) - (101 : Int32) = c32 (m - 92) := by
        show (c32 9 + c32 m) - c32 101 = _
        rw [c_add, c_sub (by omega)]
        congr 1
        omega
      rw [ev, ob (b_make h.1 (by omega))]
      exact ⟨_, rfl, h.mk, BE.mk, by unfold mk; exact sA_ne _ (by decide), fun j hj => mk_i hj⟩
    · rw [if_pos (by exact (c_le (a := 104) (b := m) (by omega) (by omega)).mpr (by omega)), if_neg g2]
      have key : ∀ a b : Nat, ∃ st', ((bf_make n st (c32 a)).bind fun q_4 => (bf_make n q_4.1 (c32 b)).bind fun q_5 => some (q_5.1, ())) = some (st', ()) ∧ BM st' (cs ++ [a, b]) ∧ BE st st' ∧ st'.2.1 15 = st.2.1 15 ∧ (∀ j, j ≠ 6 → st'.1 j = st.1 j) := by
        intro a b
        rw [ob (b_make h.1 (by omega)), ob (b_make mk_6 (by omega))]
        have h2 := (h.mk (w := a)).mk (w := b)
        rw [List.length_append, List.append_assoc] at h2
        refine ⟨_, rfl, h2, BE.mk.trans BE.mk, ?_, fun j hj => by rw [mk_i hj, mk_i hj]⟩
        unfold mk
        show (sA _ 14 _ _).2.1 15 = _
        rw [sA_ne _ (by decide)]
        exact sA_ne _ (by decide)
      by_cases g3 : m < 110
      · rw [if_neg (fun z => by have := (c_le (a := 110) (b := m) (by omega) (by omega)).mp z; omega), if_pos g3]
        have ev : c32 m - (104 : Int32) = c32 (m - 104) := c_sub (b := 104) (by omega)
        rw [ev]
        exact key 13 (m - 104)
      · rw [if_pos (by exact (c_le (a := 110) (b := m) (by omega) (by omega)).mpr (by omega)), if_neg g3]
        have ev : c32 m - (120 : Int32) = c32 (m - 120) := c_sub (b := 120) (by omega)
        rw [ev]
        exact key 2 (m - 120)
/-- up to the question which bracket it is -/
theorem L_mark {o : List Nat} {m : Nat} (ok : pOk C) (hn : 1000 ≤ n) (h : BL C st0 st p op cs (o ++ m :: ws)) (ho : ∀ w ∈ o, w < 100 ∧ 1 ≤ rk w) (hm : 100 ≤ m) (hc : nop 1 (ch C p)) (hp : p ≤ 60) (hi : ins < 100) (hb : cs.length + (o ++ m :: ws).length ≤ 2 * p + 1) (hb2 : (o ++ m :: ws).length ≤ 64) :
    ∃ st', BL C st0 st' p op (cs ++ o) (m :: ws) ∧ ∀ k, LSx n (k + 1) st x1 x2 (o ++ m :: ws).length (ins + 1) 0 0 = (if c32 (ch C p) = (44 : Int32) then if c32 m ≤ (109 : Int32) then bf_expression_S16 n k 3 st' x1 x2 (c32 (ws.length + 1)) (c32 (ins + 1)) 0 0 (c32 (ch C p)) (c32 m) 0 0 else if (120 : Int32) ≤ c32 m then bf_expression_S16 n k 3 st' x1 x2 (c32 (ws.length + 1)) (c32 (ins + 1)) 0 0 (c32 (ch C p)) (c32 m) 0 0 else (stA st' 15 (c32 (ws.length + 1) - 1) (c32 m + 10)).bind fun st_12 => bf_expression_S16 n k 5 st_12 x1 x2 (c32 (ws.length + 1)) (c32 (ins + 1)) 1 1 0 0 0 0 else bf_expression_S16 n k 3 st' x1 x2 (c32 (ws.length + 1)) (c32 (ins + 1)) 0 0 (c32 (ch C p)) (c32 m) 0 0) := by
  have hN := ok.1
  obtain ⟨hP, hM, hW, hE, hw⟩ := h
  have hl : (o ++ m :: ws).length = o.length + (ws.length + 1) := by rw [List.length_append]; rfl
  obtain ⟨st1, e1, w1, be1, c61, fr1, bm1⟩ := b_settle (n := n) (r := 1) (by omega) (show stops 1 (m :: ws) from Or.inl hm) (fun w hw2 => hw w (List.mem_append_right _ hw2)) o n cs.length st hW ho (by omega) hM.1 (by omega) (by omega)
  have hP1 : BP C st1 p op 0 := hP.of (fr1 2 (by decide)) (be1.2.1 9 (by decide) (by decide)) (fr1 4 (by decide)) (fr1 5 (by decide)) (fr1 7 (by decide))
  refine ⟨st1, ⟨hP1, bm1 cs rfl hM, w1, hE.trans be1, fun w hw2 => hw w (List.mem_append_right _ hw2)⟩, fun k => ?_⟩
  rw [LSx, bf_expression_S16, if_pos rfl, bf_expression_B16, if_pos (by exact hP.2.2.2.2), ob (b_look ok hP hp), if_pos rfl, ob (b_operator_0 (ch_lt ok p) hc), if_pos (by exact z00), if_neg (fun z => by have := (c_eq (a := ins + 1) (b := 0) (by omega) (by omega)).mp z; omega)]
  have e2 : bf_settle n st (c32 (o ++ m :: ws).length) 1 = some (st1, c32 (ws.length + 1)) := e1
  have e3 : ldA st1 15 (c32 (ws.length + 1) - 1) = some (c32 m) := by
    show ldA st1 15 (c32 (ws.length + 1) - c32 1) = _
    rw [c_sub (by omega), Nat.add_sub_cancel, ld_A (show ws.length < 64 by omega), w1.1]
  rw [ob e2]
  dsimp only
  rw [ob e3]
theorem L_close {o : List Nat} {m : Nat} (ok : pOk C) (hn : 1000 ≤ n) (h : BL C st0 st p op cs (o ++ m :: ws)) (ho : ∀ w ∈ o, w < 100 ∧ 1 ≤ rk w) (hm : 100 ≤ m) (hm2 : m < 110 ∨ 120 ≤ m) (hc : ch C p = 41) (hp : p < C.N) (hop : 1 ≤ op) (hi : ins < 100) (hb : cs.length + (o ++ m :: ws).length ≤ 2 * p + 1) (hb2 : (o ++ m :: ws).length ≤ p) :
    ∃ st', (∀ k, LSx n (k + 4) st x1 x2 (o ++ m :: ws).length (ins + 1) 0 0 = LSx n k st' x1 x2 ws.length ins 0 0) ∧ BL C st0 st' (p + 1) (op - 1) (cs ++ o ++ clo m) ws := by
  have hN := ok.1
  have hl : (o ++ m :: ws).length = o.length + (ws.length + 1) := by rw [List.length_append]; rfl
  have hmw := h.2.2.2.2 m (List.mem_append_right _ (List.mem_cons_self ..))
  obtain ⟨st1, ⟨hP1, hM1, w1, be1, hw1⟩, e1⟩ := L_mark (x1 := x1) (x2 := x2) ok hn h ho hm (by rw [hc]; unfold nop; omega) (by omega) hi hb (by omega)
  have hcl : (cs ++ o).length = cs.length + o.length := List.length_append
  obtain ⟨st2, e2, hM2, be2, w2, fr2⟩ := b_close (n := n) hm hm2 hmw hM1 (by omega)
  have hP2 : BP C st2 p op 0 := hP1.of (fr2 2 (by decide)) (be2.2.1 9 (by decide) (by decide)) (fr2 4 (by decide)) (fr2 5 (by decide)) (fr2 7 (by decide))
  refine ⟨sI (sI st2 5 (c32 (op - 1))) 4 (c32 (p + 1)), fun k => ?_, hP2.o.p, hM2, (w1.2.of w2), be1.trans (be2.trans (BE.i5.trans BE.i4)), fun w hw => hw1 w (List.mem_cons_of_mem _ hw)⟩
  have e3 := e1 (k + 3)
  rw [hc, if_neg (by decide)] at e3
  rw [show k + 4 = k + 3 + 1 by omega, e3]
  rw [bf_expression_S16, if_neg (by decide), if_neg (by decide), if_neg (by decide), if_pos rfl, bf_expression_B232, if_pos (by rfl)]
  have e4 : bf_expression_S16 n (k + 2) 4 st1 x1 x2 (c32 (ws.length + 1)) (c32 (ins + 1)) 0 0 0 (c32 m) 0 0 = LSx n k (sI (sI st2 5 (c32 (op - 1))) 4 (c32 (p + 1))) x1 x2 ws.length ins 0 0 := by
    rw [bf_expression_S16, if_neg (by decide), if_neg (by decide), if_neg (by decide), if_neg (by decide), if_pos rfl, bf_expression_B253, ob e2]
    show bf_expression_S16 n (k + 1) 5 (sI st2 5 (st2.1 5 - c32 1)) x1 x2 (c32 (ws.length + 1) + -1) (c32 (ins + 1) + -1) 0 0 0 0 0 0 = _
    rw [hP2.2.2.2.1, c_sub hop, c_pred (by omega), c_pred (by omega), Nat.add_sub_cancel, Nat.add_sub_cancel, bf_expression_S16, if_neg (by decide), if_neg (by decide), if_neg (by decide), if_neg (by decide), if_neg (by decide), bf_expression_B286]
    show bf_expression_S16 n k 0 (sI (sI st2 5 (c32 (op - 1))) 4 (st2.1 4 + c32 1)) _ _ _ _ _ _ _ _ _ _ = _
    rw [hP2.2.2.1, c_add]
  by_cases g : m < 110
  · rw [if_pos (by exact (c_lt (a := m) (b := 110) (by omega) (by omega)).mpr g)]
    exact e4
  · rw [if_neg (fun z => by have := (c_lt (a := m) (b := 110) (by omega) (by omega)).mp z; omega), if_neg (fun z => by have := (c_le (a := m) (b := 119) (by omega) (by omega)).mp z; omega)]
    exact e4
theorem L_comma {o : List Nat} {m : Nat} (ok : pOk C) (hn : 1000 ≤ n) (h : BL C st0 st p op cs (o ++ m :: ws)) (ho : ∀ w ∈ o, w < 100 ∧ 1 ≤ rk w) (hm : 110 ≤ m) (hm2 : m < 120) (hc : ch C p = 44) (hp : p < C.N) (hi : ins < 100) (hb : cs.length + (o ++ m :: ws).length ≤ 2 * p + 1) (hb2 : (o ++ m :: ws).length ≤ p) :
    ∃ st', (∀ k, LSx n (k + 2) st x1 x2 (o ++ m :: ws).length (ins + 1) 0 0 = LSx n k st' x1 x2 ((m + 10) :: ws).length (ins + 1) 1 1) ∧ BL C st0 st' (p + 1) op (cs ++ o) ((m + 10) :: ws) := by
  have hN := ok.1
  have hl : (o ++ m :: ws).length = o.length + (ws.length + 1) := by rw [List.length_append]; rfl
  obtain ⟨st1, ⟨hP1, hM1, w1, be1, hw1⟩, e1⟩ := L_mark (x1 := x1) (x2 := x2) ok hn h ho (by omega) (by rw [hc]; unfold nop; omega) (by omega) hi hb (by omega)
  refine ⟨sI (sA st1 15 ws.length (c32 (m + 10))) 4 (c32 (p + 1)), fun k => ?_, (hP1.of (st' := sA st1 15 ws.length (c32 (m + 10))) rfl (sA_ne _ (by decide)) rfl rfl rfl).p, ⟨hM1.1, fun i v hi => by
      show (sA st1 15 ws.length (c32 (m + 10))).2.1 14 _ = _
      rw [sA_ne _ (by decide)]
      exact hM1.2 i v hi⟩, BW.of (st := sA st1 15 ws.length (c32 (m + 10))) rfl w1.2.push, be1.trans (BE.w.trans BE.i4), ?_⟩
  · have e3 := e1 (k + 1)
    rw [hc, if_pos (by rfl), if_neg (fun z => by have := (c_le (a := m) (b := 109) (by omega) (by omega)).mp z; omega), if_neg (fun z => by have := (c_le (a := 120) (b := m) (by omega) (by omega)).mp z; omega)] at e3
    have e4 : stA st1 15 (c32 (ws.length + 1) - 1) (c32 m + 10) = some (sA st1 15 ws.length (c32 (m + 10))) := by
      show stA st1 15 (c32 (ws.length + 1) - c32 1) (c32 m + c32 10) = _
      rw [c_sub (by omega), Nat.add_sub_cancel, st_A (show ws.length < 64 by omega), c_add]
    rw [ob e4] at e3
    rw [show k + 2 = k + 1 + 1 by omega, e3, bf_expression_S16, if_neg (by decide), if_neg (by decide), if_neg (by decide), if_neg (by decide), if_neg (by decide), bf_expression_B286]
    show bf_expression_S16 n k 0 (sI (sA st1 15 ws.length (c32 (m + 10))) 4 (st1.1 4 + c32 1)) _ _ _ _ _ _ _ _ _ _ = _
    rw [hP1.2.2.1, c_add]
    rfl
  · intro v hv
    rcases List.mem_cons.mp hv with rfl | hv
    · omega
    · exact hw1 v (List.mem_cons_of_mem _ hv)
/-- inside a bracket something else stands -/
theorem L_wrong {o : List Nat} {m : Nat} (ok : pOk C) (hn : 1000 ≤ n) (h : BL C st0 st p op cs (o ++ m :: ws)) (ho : ∀ w ∈ o, w < 100 ∧ 1 ≤ rk w) (hm : 100 ≤ m) (hc : nop 1 (ch C p)) (hc2 : (ch C p = 44 → m < 110 ∨ 120 ≤ m) ∧ (ch C p = 41 → 110 ≤ m ∧ m < 120)) (hp : p ≤ 60) (hi : ins < 100) (hb : cs.length + (o ++ m :: ws).length ≤ 2 * p + 1) (hb2 : (o ++ m :: ws).length ≤ 64) :
    ∃ st' m', (∀ k, LSx n (k + 2) st x1 x2 (o ++ m :: ws).length (ins + 1) 0 0 = some (st', x2)) ∧ BP C st' p op 1 ∧ BE st0 st' ∧ st'.1 6 = c32 m' ∧ m' ≤ 2 * p + 3 := by
  have hN := ok.1
  have hchl := ch_lt ok p
  have hl : (o ++ m :: ws).length = o.length + (ws.length + 1) := by rw [List.length_append]; rfl
  have hmw := h.2.2.2.2 m (List.mem_append_right _ (List.mem_cons_self ..))
  obtain ⟨st1, ⟨hP1, hM1, w1, be1, hw1⟩, e1⟩ := L_mark (x1 := x1) (x2 := x2) ok hn h ho hm hc hp hi hb hb2
  have hcl : (cs ++ o).length = cs.length + o.length := List.length_append
  obtain ⟨st2, m', e2, h1, h2, h3, h4, -⟩ := L_318 (x2 := x2) (ws := m :: ws) (st := sI st1 7 1) hn hP1.b (BW.of (st := st1) rfl w1) hw1 (by exact hM1.1) (by rw [List.length_cons]; omega) (by rw [List.length_cons]; omega)
  refine ⟨st2, m', fun k => ?_, h1, be1.trans (BE.i7.trans h2), h3, by rw [List.length_cons] at h4; omega⟩
  have e3 := e1 (k + 1)
  have e5 : bf_expression_S16 n (k + 1) 3 st1 x1 x2 (c32 (ws.length + 1)) (c32 (ins + 1)) 0 0 (c32 (ch C p)) (c32 m) 0 0 = some (st2, x2) := by
    rw [bf_expression_S16, if_neg (by decide), if_neg (by decide), if_neg (by decide), if_pos rfl, bf_expression_B232]
    by_cases g : ch C p = 41
    · rw [if_pos (by rw [g]; rfl), if_neg (fun z => by have := (c_lt (a := m) (b := 110) (by omega) (by omega)).mp z; have := hc2.2 g; omega), if_pos (by exact (c_le (a := m) (b := 119) (by omega) (by omega)).mpr (by have := hc2.2 g; omega))]
      exact e2
    · rw [if_neg (fun z => g (by exact (c_eq (a := ch C p) (b := 41) (by omega) (by omega)).mp z))]
      exact e2
  rw [show k + 2 = k + 1 + 1 by omega, e3]
  by_cases g : ch C p = 44
  · rw [if_pos (by rw [g]; rfl)]
    rcases hc2.1 g with g2 | g2
    · rw [if_pos (by exact (c_le (a := m) (b := 109) (by omega) (by omega)).mpr (by omega))]
      exact e5
    · rw [if_neg (fun z => by have := (c_le (a := m) (b := 109) (by omega) (by omega)).mp z; omega), if_pos (by exact (c_le (a := 120) (b := m) (by omega) (by omega)).mpr g2)]
      exact e5
  · rw [if_neg (fun z => g (by exact (c_eq (a := ch C p) (b := 44) (by omega) (by omega)).mp z))]
    exact e5
theorem L_neg (ok : pOk C) (h : BL C st0 st p op cs ws) (hc : ch C p = 45) (hp : p < C.N) (hb2 : ws.length ≤ p) :
    ∃ st', (∀ k, LSx n (k + 1) st x1 x2 ws.length ins 1 1 = LSx n k st' x1 x2 (8 :: ws).length ins 1 0) ∧ BL C st0 st' (p + 1) op cs (8 :: ws) := by
  have hN := ok.1
  obtain ⟨hP, hM, hW, hE, hw⟩ := h
  refine ⟨sA (sI st 4 (c32 (p + 1))) 15 ws.length (c32 8), fun k => ?_, ?_, ?_, ?_, ?_, ?_⟩
  · rw [LSx, bf_expression_S16, if_pos rfl, bf_expression_B16, if_pos (by exact hP.2.2.2.2), ob (b_look ok hP (by omega)), if_neg n10, if_neg n10, if_pos (by rw [hc]; rfl)]
    show (stA (sI st 4 (st.1 4 + c32 1)) 15 (c32 ws.length) (c32 8)).bind _ = _
    rw [hP.2.2.1, c_add, ob (st_A (show ws.length < 64 by omega))]
    show bf_expression_S16 n k 0 _ x1 x2 (c32 ws.length + c32 1) _ _ _ _ _ _ _ = _
    rw [c_add]
    rfl
  · exact hP.p.of rfl (sA_ne _ (by decide)) rfl rfl rfl
  · exact ⟨hM.1, fun i v hi => by
      rw [sA_ne _ (by decide)]
      exact hM.2 i v hi⟩
  · exact BW.push (BW.of (st := st) rfl hW)
  · exact hE.trans (BE.i4.trans BE.w)
  · intro v hv
    rcases List.mem_cons.mp hv with rfl | hv
    · omega
    · exact hw v hv
theorem L_part {nw : Nat} {f : Int32} (ok : pOk C) (hP : BP C st p op 0) (hp : p ≤ 60) (hf : f = 0 ∨ f = 1 ∧ ch C p ≠ 45) (hi : ins < 100) (k : Nat) :
    LSx n (k + 3) st x1 x2 nw ins 1 f = (bf_partMark n st x1 (if ins = 0 then 1 else 0)).bind fun q_1 => if q_1.2 = 0 then LSx n k q_1.1 x1 x2 nw ins 0 0 else (bf_bracket n q_1.1).bind fun q_3 => (stA q_3.1 15 (c32 nw) q_1.2).bind fun st_4 => LSx n k st_4 x1 x2 (nw + 1) (ins + 1) 1 1 := by
  have hchl := ch_lt ok p
  have e1 : LSx n (k + 3) st x1 x2 nw ins 1 f = bf_expression_S16 n (k + 2) 1 st x1 x2 (c32 nw) (c32 ins) 1 0 0 0 0 0 := by
    rw [LSx, show k + 3 = k + 2 + 1 by omega, bf_expression_S16, if_pos rfl, bf_expression_B16, if_pos (by exact hP.2.2.2.2), ob (b_look ok hP hp), if_neg n10]
    rcases hf with rfl | ⟨rfl, hf⟩
    · rw [if_pos rfl]
    · rw [if_neg n10, if_neg (fun z => hf (by exact (c_eq (a := ch C p) (b := 45) (by omega) (by omega)).mp z))]
  rw [e1, bf_expression_S16, if_neg (by decide), if_pos rfl, bf_expression_B73]
  have e2 : ∀ z : Int32, bf_expression_S16 n (k + 1) 2 st x1 x2 (c32 nw) (c32 ins) 1 0 0 0 x1 z = (bf_partMark n st x1 z).bind fun q_1 => if q_1.2 = 0 then LSx n k q_1.1 x1 x2 nw ins 0 0 else (bf_bracket n q_1.1).bind fun q_3 => (stA q_3.1 15 (c32 nw) q_1.2).bind fun st_4 => LSx n k st_4 x1 x2 (nw + 1) (ins + 1) 1 1 := by
    intro z
    rw [bf_expression_S16, if_neg (by decide), if_neg (by decide), if_pos rfl, bf_expression_B88]
    show ((bf_partMark n st x1 z).bind fun q_1 => if q_1.2 = 0 then bf_expression_S16 n k 0 q_1.1 x1 x2 (c32 nw) (c32 ins) 0 0 0 0 0 0 else (bf_bracket n q_1.1).bind fun q_3 => (stA q_3.1 15 (c32 nw) q_1.2).bind fun st_4 => bf_expression_S16 n k 0 st_4 x1 x2 (c32 nw + c32 1) (c32 ins + c32 1) 1 1 0 0 0 0) = _
    rw [c_add, c_add]
  by_cases g : ins = 0
  · rw [if_pos (by rw [g]; rfl), if_pos g]
    exact e2 1
  · rw [if_neg (fun z => g (by exact (c_eq (a := ins) (b := 0) (by omega) (by omega)).mp z)), if_neg g]
    exact e2 0
end BLOOP
