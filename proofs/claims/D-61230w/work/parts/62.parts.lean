/-! THE PURE LAW: how a part of an expression begins, on both sides -/
section PARTS
variable {C : pC} {st st0 : bS} {p op n ins go : Nat} {x1 x2 z : Int32} {cs ws : List Nat}
/-! the model's -/
def more (op : Nat) : Int32 := if op < 6 then 1 else 0
theorem pm_0 (ok : pOk C) (h : BP C st p op 0) (hp : p ≤ 60) (ho : op ≤ 6) : bf_partMark n st x1 z = bf_partMark_L26 n st x1 z (c32 (ch C p)) (c32 (ch C (p + 1))) (more op) := by
  unfold bf_partMark more
  rw [ob (b_look ok h hp), ob (b_lookAt (k := 1) ok h (by omega)), h.2.2.2.1]
  by_cases g : op < 6
  · rw [if_neg (fun z => by have := (c_le (a := 6) (b := op) (by omega) (by omega)).mp z; omega), if_pos g]
  · rw [if_pos (by exact (c_le (a := 6) (b := op) (by omega) (by omega)).mpr (by omega)), if_neg g]
theorem pm_par_f (ok : pOk C) (h : BP C st p op 0) (hp : p ≤ 60) (ho : op = 6) (hc : ch C p = 40 ∨ isM (ch C p)) : bf_partMark n st x1 z = some (sI st 7 1, 0) := by
  have hl := ch_lt ok p
  rw [pm_0 ok h hp (by omega), ho]
  unfold bf_partMark_L26
  rw [if_pos (by rfl)]
  rcases hc with hc | hc
  · rw [if_pos (by rw [hc]; rfl)]
    rfl
  · rw [if_neg (fun z => by have := (c_eq (a := ch C p) (b := 40) (by omega) (by omega)).mp z; unfold isM at hc; omega), ob (b_isMatrix_t hc), if_neg (by exact n10)]
    rfl
theorem pm_54 (ok : pOk C) (h : BP C st p op 0) (hp : p ≤ 60) (ho : op ≤ 6) (hc : op = 6 → ch C p ≠ 40 ∧ ¬ isM (ch C p)) : bf_partMark n st x1 z = bf_partMark_L54 n st x1 z (c32 (ch C p)) (c32 (ch C (p + 1))) (more op) := by
  have hl := ch_lt ok p
  rw [pm_0 ok h hp ho]
  unfold bf_partMark_L26
  by_cases g : op < 6
  · rw [if_neg (by unfold more; rw [if_pos g]; exact n10)]
  · obtain ⟨h1, h2⟩ := hc (by omega)
    rw [if_pos (by unfold more; rw [if_neg g]), if_neg (fun z => h1 (by exact (c_eq (a := ch C p) (b := 40) (by omega) (by omega)).mp z)), ob (b_isMatrix_f (by omega) h2), if_pos rfl]
theorem pm_par_t (ok : pOk C) (h : BP C st p op 0) (hp : p ≤ 60) (ho : op < 6) (hc : ch C p = 40) : bf_partMark n st x1 z = some (st, 100) := by
  rw [pm_54 ok h hp (by omega) (fun z => by omega)]
  unfold bf_partMark_L54
  rw [if_pos (by rw [hc]; rfl)]
theorem pm_mat_t (ok : pOk C) (h : BP C st p op 0) (hp : p ≤ 60) (ho : op < 6) (hc : isM (ch C p)) : bf_partMark n st x1 z = some (sI st 4 (c32 (p + 1)), c32 (110 + (ch C p - 80))) := by
  have hl := ch_lt ok p
  rw [pm_54 ok h hp (by omega) (fun z => by omega)]
  unfold bf_partMark_L54
  rw [if_neg (fun z => by have := (c_eq (a := ch C p) (b := 40) (by omega) (by omega)).mp z; unfold isM at hc; omega), ob (b_isMatrix_t hc), if_neg (by exact n10)]
  show some (sI st 4 (st.1 4 + c32 1), (c32 110 + c32 (ch C p)) - c32 80) = _
  rw [h.2.2.1, c_add, c_add, c_sub (by omega), show 110 + ch C p - 80 = 110 + (ch C p - 80) by unfold isM at hc; omega]
theorem pm_num (ok : pOk C) (h : BP C st p op 0) (hp : p ≤ 60) (ho : op ≤ 6) (hc : dig (ch C p)) : bf_partMark n st x1 z = (bf_numeral n st).bind fun q => some (q.1, 0) := by
  have hl := ch_lt ok p
  obtain ⟨h1, h2⟩ := hc
  rw [pm_54 ok h hp ho (fun _ => ⟨by omega, by unfold isM; omega⟩)]
  unfold bf_partMark_L54
  rw [if_neg (fun z => by have := (c_eq (a := ch C p) (b := 40) (by omega) (by omega)).mp z; omega), ob (b_isMatrix_f (by omega) (by unfold isM; omega)), if_pos rfl, if_neg (fun z => by have := (c_lt (a := ch C p) (b := 48) (by omega) (by omega)).mp z; omega), if_neg (fun z => by have := (c_lt (a := 57) (b := ch C p) (by omega) (by omega)).mp z; omega)]
theorem pm_107 (ok : pOk C) (h : BP C st p op 0) (hp : p ≤ 60) (ho : op ≤ 6) (h1 : ch C p ≠ 40) (h2 : ¬ isM (ch C p)) (h3 : ¬ dig (ch C p)) : bf_partMark n st x1 z = bf_partMark_L107 n st x1 z (c32 (ch C p)) (c32 (ch C (p + 1))) (more op) := by
  have hl := ch_lt ok p
  rw [pm_54 ok h hp ho (fun _ => ⟨h1, h2⟩)]
  unfold bf_partMark_L54
  rw [if_neg (fun z => h1 (by exact (c_eq (a := ch C p) (b := 40) (by omega) (by omega)).mp z)), ob (b_isMatrix_f (by omega) h2), if_pos rfl]
  by_cases g : ch C p < 48
  · rw [if_pos (by exact (c_lt (a := ch C p) (b := 48) (by omega) (by omega)).mpr g)]
  · rw [if_neg (fun z => by have := (c_lt (a := ch C p) (b := 48) (by omega) (by omega)).mp z; omega), if_pos (by exact (c_lt (a := 57) (b := ch C p) (by omega) (by omega)).mpr (by unfold dig at h3; omega))]
theorem n_c {a b : Nat} (ha : a < 2147483648) (hb : b < 2147483648) (h : a ≠ b) : ¬ c32 a = c32 b := fun z => h ((c_eq ha hb).mp z)
theorem pm_abs (ok : pOk C) (h : BP C st p op 0) (hp : p ≤ 60) (ho : op < 6) (h1 : ch C p = 65) (h2 : ch C (p + 1) = 66) : bf_partMark n st x1 z = (bf_takeWord n st 24 24).bind fun q => some (q.1, 101) := by
  rw [pm_107 ok h hp (by omega) (by omega) (by unfold isM; omega) (by unfold dig; omega), h1, h2]
  unfold bf_partMark_L107 more
  rw [if_pos ho, if_neg n10, if_pos (by rfl), if_pos (by rfl)]
theorem pm_137 (h : ¬ (op < 6 ∧ ch C p = 65 ∧ ch C (p + 1) = 66)) (ok : pOk C) : bf_partMark_L107 n st x1 z (c32 (ch C p)) (c32 (ch C (p + 1))) (more op) = bf_partMark_L137 n st x1 z (c32 (ch C p)) (c32 (ch C (p + 1))) (more op) := by
  have hl := ch_lt ok p
  have hl2 := ch_lt ok (p + 1)
  unfold bf_partMark_L107
  by_cases g : op < 6
  · rw [if_neg (by unfold more; rw [if_pos g]; exact n10)]
    by_cases g1 : ch C p = 65
    · rw [if_pos (by rw [g1]; rfl), if_neg (by exact n_c (b := 66) (by omega) (by omega) (fun w => h ⟨g, g1, w⟩))]
    · rw [if_neg (by exact n_c (b := 65) (by omega) (by omega) g1)]
  · rw [if_pos (by unfold more; rw [if_neg g])]
theorem pm_int (ok : pOk C) (h : BP C st p op 0) (hp : p ≤ 60) (ho : op < 6) (h1 : ch C p = 73) (h2 : ch C (p + 1) = 78) : bf_partMark n st x1 z = (bf_takeWord n st 25 25).bind fun q => some (q.1, 102) := by
  rw [pm_107 ok h hp (by omega) (by omega) (by unfold isM; omega) (by unfold dig; omega), pm_137 (by omega) ok, h1, h2]
  unfold bf_partMark_L137 more
  rw [if_pos ho, if_neg n10, if_pos (by rfl), if_pos (by rfl)]
theorem pm_167 (h : ¬ (op < 6 ∧ ch C p = 73 ∧ ch C (p + 1) = 78)) (ok : pOk C) : bf_partMark_L137 n st x1 z (c32 (ch C p)) (c32 (ch C (p + 1))) (more op) = bf_partMark_L167 n st x1 z (c32 (ch C p)) (c32 (ch C (p + 1))) (more op) := by
  have hl := ch_lt ok p
  have hl2 := ch_lt ok (p + 1)
  unfold bf_partMark_L137
  by_cases g : op < 6
  · rw [if_neg (by unfold more; rw [if_pos g]; exact n10)]
    by_cases g1 : ch C p = 73
    · rw [if_pos (by rw [g1]; rfl), if_neg (by exact n_c (b := 78) (by omega) (by omega) (fun w => h ⟨g, g1, w⟩))]
    · rw [if_neg (by exact n_c (b := 73) (by omega) (by omega) g1)]
  · rw [if_pos (by unfold more; rw [if_neg g])]
/-- SGN is not read where ON .. GOTO begins with S -/
def sgX (C : pC) (p op go : Nat) : Prop := go ≠ 0 ∧ op = 0 ∧ ch C (p + 2) = 79
theorem pm_sgn (ok : pOk C) (h : BP C st p op 0) (hp : p ≤ 60) (ho : op < 6) (h1 : ch C p = 83) (h2 : ch C (p + 1) = 71) (hg : x1 = c32 go) (hgo : go = 0 ∨ go = 1 ∧ op = ins) (hx : ¬ sgX C p op go) : bf_partMark n st x1 (if ins = 0 then 1 else 0) = (bf_takeWord n st 26 26).bind fun q => some (q.1, 103) := by
  have hl := ch_lt ok (p + 2)
  rw [pm_107 ok h hp (by omega) (by omega) (by unfold isM; omega) (by unfold dig; omega), pm_137 (by omega) ok, pm_167 (by omega) ok, h1, h2, hg]
  unfold bf_partMark_L167 more
  rw [if_pos ho, if_neg n10, if_pos (by rfl), if_pos (by rfl)]
  rcases hgo with rfl | ⟨rfl, rfl⟩
  · rw [if_pos (by rfl)]
    rfl
  · rw [if_neg (by exact n10)]
    by_cases g : op = 0
    · rw [if_pos g, if_neg (by exact n10), ob (b_lookAt (k := 2) ok h (by omega)), if_neg (by exact n_c (b := 79) (by omega) (by omega) (fun w => hx ⟨by omega, g, w⟩))]
      rfl
    · rw [if_neg g, if_pos (by rfl)]
      rfl
theorem pm_215 (ok : pOk C) (h : BP C st p op 0) (hp : p ≤ 60) (hg : x1 = c32 go) (hgo : go = 0 ∨ go = 1 ∧ op = ins) (hx : ¬ (op < 6 ∧ ch C p = 83 ∧ ch C (p + 1) = 71 ∧ ¬ sgX C p op go)) : bf_partMark_L167 n st x1 (if ins = 0 then 1 else 0) (c32 (ch C p)) (c32 (ch C (p + 1))) (more op) = bf_partMark_L215 n st (c32 (ch C p)) (c32 (ch C (p + 1))) (more op) := by
  have hl := ch_lt ok p
  have hl2 := ch_lt ok (p + 1)
  unfold bf_partMark_L167
  by_cases g : op < 6
  · rw [if_neg (by unfold more; rw [if_pos g]; exact n10)]
    by_cases g1 : ch C p = 83
    · rw [if_pos (by rw [g1]; rfl)]
      by_cases g2 : ch C (p + 1) = 71
      · rw [if_pos (by rw [g2]; rfl)]
        have hs : sgX C p op go := Classical.byContradiction (fun w => hx ⟨g, g1, g2, w⟩)
        obtain ⟨s1, s2, s3⟩ := hs
        obtain ⟨rfl, rfl⟩ := hgo.resolve_left s1
        rw [hg, if_neg (by exact n10), if_pos s2, if_neg (by exact n10), ob (b_lookAt (k := 2) ok h (by omega)), if_pos (by rw [s3]; rfl)]
      · rw [if_neg (by exact n_c (b := 71) (by omega) (by omega) g2)]
    · rw [if_neg (by exact n_c (b := 83) (by omega) (by omega) g1)]
  · rw [if_pos (by unfold more; rw [if_neg g])]
theorem pm_fn_t (ok : pOk C) (h : BP C st p op 0) (hp : p + 2 ≤ 60) (ho : op < 6) (h1 : ch C p = 70) (h2 : ch C (p + 1) = 78) (hg : x1 = c32 go) (hgo : go = 0 ∨ go = 1 ∧ op = ins) (hf : 65 ≤ ch C (p + 2) ∧ ch C (p + 2) ≤ 67) (hM : BM st cs) (hb : cs.length + 2 ≤ 160) : bf_partMark n st x1 (if ins = 0 then 1 else 0) = some (mk (mk (sI st 4 (c32 (p + 3))) cs.length (c32 12)) (cs.length + 1) (c32 (ch C (p + 2) - 65)), c32 (104 + (ch C (p + 2) - 65))) := by
  have hl := ch_lt ok (p + 2)
  rw [pm_107 ok h (by omega) (by omega) (by omega) (by unfold isM; omega) (by unfold dig; omega), pm_137 (by omega) ok, pm_167 (by omega) ok, pm_215 ok h (by omega) hg hgo (by omega), h1, h2]
  unfold bf_partMark_L215 more
  rw [if_pos ho, if_neg n10, if_pos (by rfl), if_pos (by rfl)]
  show (bf_look n (sI st 4 (st.1 4 + c32 2))).bind _ = _
  rw [h.2.2.1, c_add, ob (b_look (p := p + 2) ok h.p (by omega)), if_neg (fun z => by have := (c_lt (a := ch C (p + 2)) (b := 65) (by omega) (by omega)).mp z; omega), if_pos (by exact (c_le (a := ch C (p + 2)) (b := 67) (by omega) (by omega)).mpr hf.2)]
  show bf_partMark_L281 n (sI (sI st 4 (c32 (p + 2))) 4 (c32 (p + 2) + c32 1)) (c32 (ch C (p + 2))) = _
  rw [sI_sI, c_add]
  unfold bf_partMark_L281
  rw [ob (b_make (m := cs.length) (by exact hM.1) (by omega)), ob (b_make mk_6 (by omega))]
  show some (mk (mk (sI st 4 (c32 (p + 3))) cs.length (c32 12)) (cs.length + 1) (c32 (ch C (p + 2)) - c32 65), (c32 104 + c32 (ch C (p + 2))) - c32 65) = _
  rw [c_sub hf.1, c_add, c_sub (by omega), show 104 + ch C (p + 2) - 65 = 104 + (ch C (p + 2) - 65) by omega]
theorem pm_fn_f (ok : pOk C) (h : BP C st p op 0) (hp : p + 2 ≤ 60) (ho : op < 6) (h1 : ch C p = 70) (h2 : ch C (p + 1) = 78) (hg : x1 = c32 go) (hgo : go = 0 ∨ go = 1 ∧ op = ins) (hf : ¬ (65 ≤ ch C (p + 2) ∧ ch C (p + 2) ≤ 67)) {m : Nat} (h6 : st.1 6 = c32 m) (hb : m + 2 ≤ 160) : ∃ v, bf_partMark n st x1 (if ins = 0 then 1 else 0) = some (mk (mk (sI (sI st 4 (c32 (p + 2))) 7 1) m (c32 12)) (m + 1) v, c32 (39 + ch C (p + 2))) := by
  have hl := ch_lt ok (p + 2)
  rw [pm_107 ok h (by omega) (by omega) (by omega) (by unfold isM; omega) (by unfold dig; omega), pm_137 (by omega) ok, pm_167 (by omega) ok, pm_215 ok h (by omega) hg hgo (by omega), h1, h2]
  refine ⟨c32 (ch C (p + 2)) - 65, ?_⟩
  have e9 : bf_partMark_L263 n (sI st 4 (c32 (p + 2))) (c32 (ch C (p + 2))) = some (mk (mk (sI (sI st 4 (c32 (p + 2))) 7 1) m (c32 12)) (m + 1) (c32 (ch C (p + 2)) - 65), c32 (39 + ch C (p + 2))) := by
    unfold bf_partMark_L263
    show bf_partMark_L281 n (sI (sI st 4 (c32 (p + 2))) 7 1) (c32 (ch C (p + 2))) = _
    unfold bf_partMark_L281
    rw [ob (b_make (m := m) (by exact h6) (by omega)), ob (b_make mk_6 (by omega))]
    show some (_, (c32 104 + c32 (ch C (p + 2))) - c32 65) = _
    rw [c_add, c_sub (by omega), show 104 + ch C (p + 2) - 65 = 39 + ch C (p + 2) by omega]
    rfl
  unfold bf_partMark_L215 more
  rw [if_pos ho, if_neg n10, if_pos (by rfl), if_pos (by rfl)]
  show (bf_look n (sI st 4 (st.1 4 + c32 2))).bind _ = _
  rw [h.2.2.1, c_add, ob (b_look (p := p + 2) ok h.p (by omega))]
  by_cases g : ch C (p + 2) < 65
  · rw [if_pos (by exact (c_lt (a := ch C (p + 2)) (b := 65) (by omega) (by omega)).mpr g)]
    exact e9
  · rw [if_neg (fun z => by have := (c_lt (a := ch C (p + 2)) (b := 65) (by omega) (by omega)).mp z; omega), if_neg (fun z => by have := (c_le (a := ch C (p + 2)) (b := 67) (by omega) (by omega)).mp z; omega)]
    exact e9
/-- a name of a function begins here -/
def isF (C : pC) (p op go : Nat) : Prop := (ch C p = 65 ∧ ch C (p + 1) = 66) ∨ (ch C p = 73 ∧ ch C (p + 1) = 78) ∨ (ch C p = 83 ∧ ch C (p + 1) = 71 ∧ ¬ sgX C p op go) ∨ (ch C p = 70 ∧ ch C (p + 1) = 78)
theorem pm_var (ok : pOk C) (h : BP C st p op 0) (hp : p ≤ 60) (ho : op ≤ 6) (h1 : ch C p ≠ 40) (h2 : ¬ isM (ch C p)) (h3 : ¬ dig (ch C p)) (hg : x1 = c32 go) (hgo : go = 0 ∨ go = 1 ∧ op = ins) (hf : ¬ (op < 6 ∧ isF C p op go)) : bf_partMark n st x1 (if ins = 0 then 1 else 0) = bf_partMark_L305 n st := by
  have hl := ch_lt ok p
  have hl2 := ch_lt ok (p + 1)
  rw [pm_107 ok h hp ho h1 h2 h3, pm_137 (fun w => hf ⟨w.1, Or.inl w.2⟩) ok, pm_167 (fun w => hf ⟨w.1, Or.inr (Or.inl w.2)⟩) ok, pm_215 ok h hp hg hgo (fun w => hf ⟨w.1, Or.inr (Or.inr (Or.inl w.2))⟩)]
  unfold bf_partMark_L215
  by_cases g : op < 6
  · rw [if_neg (by unfold more; rw [if_pos g]; exact n10)]
    by_cases g1 : ch C p = 70
    · rw [if_pos (by rw [g1]; rfl), if_neg (by exact n_c (b := 78) (by omega) (by omega) (fun w => hf ⟨g, Or.inr (Or.inr (Or.inr ⟨g1, w⟩))⟩))]
    · rw [if_neg (by exact n_c (b := 70) (by omega) (by omega) g1)]
  · rw [if_pos (by unfold more; rw [if_neg g])]
/-! the machine's -/
variable {σ : aS} {rx : aS → Nat → Option (aS × (Option Nat ⊕ Nat))}
theorem pa_num (ok : pOk C) (h : PA C σ p op go) (hp : p ≤ 60) (hc : dig (ch C p)) : af_X3_part n C.S rx σ C.P = xb (af_X3_numeral n C.S (nw σ (.inr (5, [.double 0])) 1) C.P) fun st_27 v_28 => cb (af_X6_init n C.S st_27 σ.1 v_28) fun st_30 _ => some (st_30, .inl (some σ.1)) := by
  unfold af_X3_part
  rw [ob (A_cls h), oc (A_here ok h hp), oc (A_digit_t hc), if_neg n10, ob (nO_eq _ _ _ _), ob (A_cls (h.nwc))]
theorem pa_mat (ok : pOk C) (h : PA C σ p op go) (hp : p ≤ 60) (hc : isM (ch C p)) : af_X3_part n C.S rx σ C.P = xb (af_X3_element n C.S rx σ C.P) fun st_23 r_24 => some (st_23, .inl r_24) := by
  have hl := ch_lt ok p
  unfold af_X3_part
  rw [ob (A_cls h), oc (A_here ok h hp), oc (A_digit_f (by omega) (by unfold dig; unfold isM at hc; omega)), if_pos rfl, oc (A_isMatrix_t hc), if_neg n10, ob (A_cls h)]
theorem pa_par (ok : pOk C) (h : PA C σ p op go) (hp : p ≤ 60) (hc : ch C p = 40) (ho : op < 6) : af_X3_part n C.S rx σ C.P = xb (af_X3_inside n C.S rx σ C.P) fun st_20 r_21 => some (st_20, .inl r_21) := by
  unfold af_X3_part
  rw [ob (A_cls h), oc (A_here ok h hp), oc (A_digit_f (by omega) (by unfold dig; omega)), if_pos rfl, oc (A_isMatrix_f (by omega) (by unfold isM; omega)), if_pos rfl, ob (A_op h), if_neg (fun z => by have := (c_le (a := 6) (b := op) (by omega) (by omega)).mp z; omega), if_pos (by rw [hc]; rfl), ob (A_cls h)]
theorem pa_72 (h : PA C σ p op go) : af_X3_part_L72 n C.S rx σ C.P = xb (af_X3_variable n C.S (nw σ (.inr (8, [.int 0])) 1) C.P) fun st_2 v_3 => cb (af_X9_init n C.S st_2 σ.1 v_3) fun st_5 _ => some (st_5, .inl (some σ.1)) := by
  unfold af_X3_part_L72
  rw [ob (nO_eq _ _ _ _), ob (A_cls (h.nwc))]
theorem fn_no (ok : pOk C) (h : PA C σ p op go) (hgo : go ≤ 1) (hp : p ≤ 60) (hf : ¬ isF C p op go) : af_X3_function n C.S rx σ C.P (c32 (ch C p)) (c32 (ch C (p + 1))) = some (σ, .inl none) := by
  have hl := ch_lt ok p
  have hl2 := ch_lt ok (p + 1)
  have hN := ok.1
  have e1 : af_X3_function_L106 n C.S rx σ C.P (c32 (ch C p)) (c32 (ch C (p + 1))) = some (σ, .inl none) := by
    unfold af_X3_function_L106
    by_cases g1 : ch C p = 70
    · rw [if_pos (by rw [g1]; rfl), if_neg (by exact n_c (b := 78) (by omega) (by omega) (fun w => hf (Or.inr (Or.inr (Or.inr ⟨g1, w⟩)))))]
    · rw [if_neg (by exact n_c (b := 70) (by omega) (by omega) g1)]
  have e2 : af_X3_function_L42 n C.S rx σ C.P (c32 (ch C p)) (c32 (ch C (p + 1))) = some (σ, .inl none) := by
    unfold af_X3_function_L42
    by_cases g1 : ch C p = 83
    · rw [if_pos (by rw [g1]; rfl)]
      by_cases g2 : ch C (p + 1) = 71
      · have hs : sgX C p op go := Classical.byContradiction (fun w => hf (Or.inr (Or.inr (Or.inl ⟨g1, g2, w⟩))))
        obtain ⟨s1, s2, s3⟩ := hs
        have hi := ch_in (C := C) (i := p + 2) (by omega)
        have hT : ch C (p + 2) = C.T (p + 2) := by unfold ch; rw [if_pos hi]
        rw [if_pos (by rw [g2]; rfl), ob (A_go h)]
        by_cases g0 : c32 go = 0
        · exact absurd ((c_eq (a := go) (b := 0) (by omega) (by omega)).mp g0) s1
        · rw [if_neg g0, ob (A_op h), if_pos (by rw [s2]; rfl), ob (A_at h), ob (A_len h)]
          show (if c32 C.N ≤ c32 p + c32 2 then _ else _) = _
          rw [c_add, if_neg (fun z => by have := (c_le (by omega) (by omega)).mp z; omega), ob (A_txt h), ob (A_at h)]
          show (lI σ C.X 0 (c32 p + c32 2)).bind _ = _
          rw [c_add, ob (A_chr h (by omega)), ← hT, if_pos (by rw [s3]; rfl)]
          exact e1
      · rw [if_neg (by exact n_c (b := 71) (by omega) (by omega) g2)]
        exact e1
    · rw [if_neg (by exact n_c (b := 83) (by omega) (by omega) g1)]
      exact e1
  have e3 : af_X3_function_L21 n C.S rx σ C.P (c32 (ch C p)) (c32 (ch C (p + 1))) = some (σ, .inl none) := by
    unfold af_X3_function_L21
    by_cases g1 : ch C p = 73
    · rw [if_pos (by rw [g1]; rfl), if_neg (by exact n_c (b := 78) (by omega) (by omega) (fun w => hf (Or.inr (Or.inl ⟨g1, w⟩))))]
      exact e2
    · rw [if_neg (by exact n_c (b := 73) (by omega) (by omega) g1)]
      exact e2
  unfold af_X3_function
  by_cases g1 : ch C p = 65
  · rw [if_pos (by rw [g1]; rfl), if_neg (by exact n_c (b := 66) (by omega) (by omega) (fun w => hf (Or.inl ⟨g1, w⟩)))]
    exact e3
  · rw [if_neg (by exact n_c (b := 65) (by omega) (by omega) g1)]
    exact e3
theorem pa_var (ok : pOk C) (h : PA C σ p op go) (hgo : go ≤ 1) (hp : p ≤ 60) (ho : op ≤ 6) (h1 : op < 6 → ch C p ≠ 40) (h2 : ¬ isM (ch C p)) (h3 : ¬ dig (ch C p)) (hf : ¬ (op < 6 ∧ isF C p op go)) : af_X3_part n C.S rx σ C.P = af_X3_part_L72 n C.S rx σ C.P := by
  have hl := ch_lt ok p
  unfold af_X3_part
  rw [ob (A_cls h), oc (A_here ok h hp), oc (A_digit_f (by omega) h3), if_pos rfl, oc (A_isMatrix_f (by omega) h2), if_pos rfl, ob (A_op h)]
  by_cases g : op < 6
  · rw [if_neg (fun z => by have := (c_le (a := 6) (b := op) (by omega) (by omega)).mp z; omega), if_neg (by exact n_c (b := 40) (by omega) (by omega) (h1 g)), ob (A_cls h), oc (A_behind ok h hp), ob (A_cls h), ox (fn_no ok h hgo hp (fun w => hf ⟨g, w⟩)), if_pos rfl]
  · rw [if_pos (by exact (c_le (a := 6) (b := op) (by omega) (by omega)).mpr (by omega))]
theorem pa_fun (ok : pOk C) (h : PA C σ p op go) (hp : p ≤ 60) (ho : op < 6) (h1 : ch C p ≠ 40) (h2 : ¬ isM (ch C p)) (h3 : ¬ dig (ch C p)) : af_X3_part n C.S rx σ C.P = xb (af_X3_function n C.S rx σ C.P (c32 (ch C p)) (c32 (ch C (p + 1)))) fun st_16 r_17 => if r_17 = none then af_X3_part_L72 n C.S rx st_16 C.P else some (st_16, .inl r_17) := by
  have hl := ch_lt ok p
  unfold af_X3_part
  rw [ob (A_cls h), oc (A_here ok h hp), oc (A_digit_f (by omega) h3), if_pos rfl, oc (A_isMatrix_f (by omega) h2), if_pos rfl, ob (A_op h), if_neg (fun z => by have := (c_le (a := 6) (b := op) (by omega) (by omega)).mp z; omega), if_neg (by exact n_c (b := 40) (by omega) (by omega) h1), ob (A_cls h), oc (A_behind ok h hp), ob (A_cls h)]
theorem fn_abs (h : PA C σ p op go) : af_X3_function n C.S rx σ C.P 65 66 = xb (af_X3_take_2 n C.S σ C.P (some (C.S 17))) fun st_3 _ => af_X3_function_L120 n C.S rx st_3 C.P 65 := by
  unfold af_X3_function
  rw [if_pos rfl, if_pos rfl, ob (A_cls h)]
theorem fn_int (h : PA C σ p op go) : af_X3_function n C.S rx σ C.P 73 78 = xb (af_X3_take_2 n C.S σ C.P (some (C.S 18))) fun st_3 _ => af_X3_function_L120 n C.S rx st_3 C.P 73 := by
  unfold af_X3_function af_X3_function_L21
  rw [if_neg (by decide), if_pos rfl, if_pos rfl, ob (A_cls h)]
theorem fn_sgn (ok : pOk C) (h : PA C σ p op go) (hp : p ≤ 60) (hgo : go ≤ 1) (ho : op ≤ 6) (hx : ¬ sgX C p op go) : af_X3_function n C.S rx σ C.P 83 71 = xb (af_X3_take_2 n C.S σ C.P (some (C.S 19))) fun st_3 _ => af_X3_function_L120 n C.S rx st_3 C.P 83 := by
  have hN := ok.1
  have hl := ch_lt ok (p + 2)
  have e9 : af_X3_function_L97 n C.S rx σ C.P 83 = xb (af_X3_take_2 n C.S σ C.P (some (C.S 19))) fun st_3 _ => af_X3_function_L120 n C.S rx st_3 C.P 83 := by
    unfold af_X3_function_L97
    rw [ob (A_cls h)]
  unfold af_X3_function af_X3_function_L21 af_X3_function_L42
  rw [if_neg (by decide), if_neg (by decide), if_pos rfl, if_pos rfl, ob (A_go h)]
  by_cases g0 : go = 0
  · rw [if_pos (by rw [g0]; rfl)]
    exact e9
  · rw [if_neg (by exact n_c (b := 0) (by omega) (by omega) g0), ob (A_op h)]
    by_cases g1 : op = 0
    · rw [if_pos (by rw [g1]; rfl), ob (A_at h), ob (A_len h)]
      show (if c32 C.N ≤ c32 p + c32 2 then _ else _) = _
      rw [c_add]
      by_cases g2 : p + 2 < C.N
      · have hT : ch C (p + 2) = C.T (p + 2) := by unfold ch; rw [if_pos g2]
        rw [if_neg (fun z => by have := (c_le (by omega) (by omega)).mp z; omega), ob (A_txt h), ob (A_at h)]
        show (lI σ C.X 0 (c32 p + c32 2)).bind _ = _
        rw [c_add, ob (A_chr h (by omega)), ← hT, if_neg (by exact n_c (b := 79) (by omega) (by omega) (fun w => hx ⟨g0, g1, w⟩))]
        exact e9
      · rw [if_pos (by exact (c_le (by omega) (by omega)).mpr (by omega))]
        exact e9
    · rw [if_neg (by exact n_c (b := 0) (by omega) (by omega) g1)]
      exact e9
theorem fn_fn : af_X3_function n C.S rx σ C.P 70 78 = af_X3_function_L120 n C.S rx σ C.P 70 := by
  unfold af_X3_function af_X3_function_L21 af_X3_function_L42 af_X3_function_L106
  rw [if_neg (by decide), if_neg (by decide), if_neg (by decide), if_pos rfl, if_pos rfl]
end PARTS
