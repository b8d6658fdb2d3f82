/-! THE PURE LAW: the line's characters; the model's small steps over them -/
theorem n10 : ¬ (1 : Int32) = 0 := by decide
theorem ob {α β : Type} {f : α → Option β} {z : Option α} {a : α} (h : z = some a) : z.bind f = f a := by rw [h]; rfl
abbrev pC : Type := Nat × Nat × Nat × Nat × (Nat → Nat) × (Nat → Nat)
abbrev pC.P (C : pC) : Nat := C.1
abbrev pC.X (C : pC) : Nat := C.2.1
abbrev pC.W (C : pC) : Nat := C.2.2.1
abbrev pC.N (C : pC) : Nat := C.2.2.2.1
abbrev pC.T (C : pC) : Nat → Nat := C.2.2.2.2.1
abbrev pC.S (C : pC) : Nat → Nat := C.2.2.2.2.2
def pOk (C : pC) : Prop := C.N ≤ 60 ∧ ∀ i, C.T i < 128
def ch (C : pC) (i : Nat) : Nat := if i < C.N then C.T i else 0
theorem ch_lt {C : pC} (ok : pOk C) (i : Nat) : ch C i < 128 := by
  unfold ch
  have := ok.2 i
  split <;> omega
theorem ch_end {C : pC} {i : Nat} (h : C.N ≤ i) : ch C i = 0 := by
  unfold ch
  rw [if_neg (by omega)]
theorem ch_in {C : pC} {i : Nat} (h : ch C i ≠ 0) : i < C.N := by
  unfold ch at h
  by_cases g : i < C.N
  · exact g
  · rw [if_neg g] at h; exact absurd rfl h
/-- the model at a place of the line -/
def BP (C : pC) (st : bS) (p op : Nat) (bad : Int32) : Prop := st.1 2 = c32 C.N ∧ (∀ i, i < 60 → st.2.1 9 i = c32 (C.T i)) ∧ st.1 4 = c32 p ∧ st.1 5 = c32 op ∧ st.1 7 = bad
/-- what an expression's taking leaves -/
def BE (st st' : bS) : Prop := (∀ k, k ≠ 4 → k ≠ 5 → k ≠ 6 → k ≠ 7 → st'.1 k = st.1 k) ∧ (∀ k, k ≠ 14 → k ≠ 15 → st'.2.1 k = st.2.1 k) ∧ (∀ i, i < 3840 → st'.2.1 14 i = st.2.1 14 i) ∧ st'.2.2 = st.2.2
theorem BE.rfl_ {st : bS} : BE st st := ⟨fun _ _ _ _ _ => rfl, fun _ _ _ => rfl, fun _ _ => rfl, rfl⟩
theorem BE.trans {a b c : bS} (h : BE a b) (g : BE b c) : BE a c :=
  ⟨fun k h4 h5 h6 h7 => (g.1 k h4 h5 h6 h7).trans (h.1 k h4 h5 h6 h7), fun k h1 h2 => (g.2.1 k h1 h2).trans (h.2.1 k h1 h2), fun i hi => (g.2.2.1 i hi).trans (h.2.2.1 i hi), g.2.2.2.trans h.2.2.2⟩
theorem BE.i {st : bS} {k : Nat} {v : Int32} (hk : k = 4 ∨ k = 5 ∨ k = 6 ∨ k = 7) : BE st (sI st k v) := by
  refine ⟨fun j h4 h5 h6 h7 => ?_, fun _ _ _ => rfl, fun _ _ => rfl, rfl⟩
  rw [sI_at, if_neg (by omega)]
theorem BE.i4 {st : bS} {v : Int32} : BE st (sI st 4 v) := BE.i (by omega)
theorem BE.i5 {st : bS} {v : Int32} : BE st (sI st 5 v) := BE.i (by omega)
theorem BE.i7 {st : bS} {v : Int32} : BE st (sI st 7 v) := BE.i (by omega)
theorem BE.m {st : bS} {i : Nat} {v : Int32} (hi : 3840 ≤ i) : BE st (sA st 14 i v) := by
  refine ⟨fun j h4 h5 h6 h7 => rfl, fun k h1 h2 => sA_ne st h1, fun j hj => ?_, rfl⟩
  rw [sA_at, if_pos rfl, if_neg (by omega)]
theorem BE.w {st : bS} {i : Nat} {v : Int32} : BE st (sA st 15 i v) :=
  ⟨fun _ _ _ _ _ => rfl, fun _ _ h2 => sA_ne st h2, fun j _ => by rw [sA_at, if_neg (by first | decide | exact n10)], rfl⟩
theorem BP.p {C : pC} {st : bS} {p op p' : Nat} {bad : Int32} (h : BP C st p op bad) : BP C (sI st 4 (c32 p')) p' op bad := ⟨h.1, h.2.1, rfl, h.2.2.2.1, h.2.2.2.2⟩
theorem BP.o {C : pC} {st : bS} {p op op' : Nat} {bad : Int32} (h : BP C st p op bad) : BP C (sI st 5 (c32 op')) p op' bad := ⟨h.1, h.2.1, h.2.2.1, rfl, h.2.2.2.2⟩
theorem BP.b {C : pC} {st : bS} {p op : Nat} {bad b : Int32} (h : BP C st p op bad) : BP C (sI st 7 b) p op b := ⟨h.1, h.2.1, h.2.2.1, h.2.2.2.1, rfl⟩
theorem BP.of {C : pC} {st st' : bS} {p op : Nat} {bad : Int32} (h : BP C st p op bad) (h1 : st'.1 2 = st.1 2) (h2 : st'.2.1 9 = st.2.1 9) (h3 : st'.1 4 = st.1 4) (h4 : st'.1 5 = st.1 5) (h5 : st'.1 7 = st.1 7) : BP C st' p op bad :=
  ⟨h1.trans h.1, fun i hi => by rw [h2]; exact h.2.1 i hi, h3.trans h.2.2.1, h4.trans h.2.2.2.1, h5.trans h.2.2.2.2⟩
/-- the codes so far -/
def BM (st : bS) (cs : List Nat) : Prop := st.1 6 = c32 cs.length ∧ ∀ i v, cs[i]? = some v → st.2.1 14 (3840 + i) = c32 v
def mk (st : bS) (m : Nat) (v : Int32) : bS := sI (sA st 14 (3840 + m) v) 6 (c32 (m + 1))
theorem b_make {n m : Nat} {st : bS} {v : Int32} (h : st.1 6 = c32 m) (hm : m < 160) : bf_make n st v = some (mk st m v, ()) := by
  unfold bf_make
  rw [h]
  show (stA st 14 (c32 3840 + c32 m) v).bind _ = _
  rw [c_add, ob (st_A (show 3840 + m < 4000 by omega))]
  show some (sI (sA st 14 (3840 + m) v) 6 (st.1 6 + c32 1), ()) = _
  rw [h, c_add]
  rfl
theorem BP.mk {C : pC} {st : bS} {p op m : Nat} {bad v : Int32} (h : BP C st p op bad) : BP C (mk st m v) p op bad := h
theorem BE.mk {st : bS} {m : Nat} {v : Int32} : BE st (mk st m v) := (BE.m (by omega)).trans (BE.i (by omega))
theorem mk_6 {st : bS} {m : Nat} {v : Int32} : (mk st m v).1 6 = c32 (m + 1) := rfl
theorem mk_i {st : bS} {m k : Nat} {v : Int32} (h : k ≠ 6) : (mk st m v).1 k = st.1 k := by
  unfold mk
  rw [sI_at, if_neg h]
  rfl
theorem BM.mk {st : bS} {cs : List Nat} {w : Nat} (h : BM st cs) : BM (mk st cs.length (c32 w)) (cs ++ [w]) := by
  refine ⟨by rw [mk_6, List.length_append]; rfl, fun i v hi => ?_⟩
  show (sA st 14 (3840 + cs.length) (c32 w)).2.1 14 (3840 + i) = _
  rw [sA_at, if_pos rfl]
  by_cases g : i = cs.length
  · subst g
    rw [if_pos rfl]
    rw [List.getElem?_append_right (Nat.le_refl _), Nat.sub_self] at hi
    cases hi
    rfl
  · rw [if_neg (by omega)]
    have hl : i < cs.length := by
      have := (List.getElem?_eq_some_iff.mp hi).1
      rw [List.length_append] at this
      have : i < cs.length + 1 := this
      omega
    rw [List.getElem?_append_left hl] at hi
    exact h.2 i v hi
/-- the operators that wait, the top first -/
def BW (st : bS) : List Nat → Prop
  | [] => True
  | w :: ws => st.2.1 15 ws.length = c32 w ∧ BW st ws
theorem BW.of {st st' : bS} {ws : List Nat} (h : st'.2.1 15 = st.2.1 15) (g : BW st ws) : BW st' ws := by
  induction ws with
  | nil => trivial
  | cons w ws ih => exact ⟨by rw [h]; exact g.1, ih g.2⟩
theorem BW.up {st : bS} {ws : List Nat} {j : Nat} {v : Int32} (hj : ws.length ≤ j) (g : BW st ws) : BW (sA st 15 j v) ws := by
  induction ws with
  | nil => trivial
  | cons w ws ih =>
    have hj' : ws.length + 1 ≤ j := hj
    refine ⟨?_, ih (by omega) g.2⟩
    rw [sA_at, if_pos rfl, if_neg (by omega)]
    exact g.1
theorem BW.push {st : bS} {ws : List Nat} {w : Nat} (g : BW st ws) : BW (sA st 15 ws.length (c32 w)) (w :: ws) :=
  ⟨by rw [sA_at, if_pos rfl, if_pos rfl], g.up (Nat.le_refl _)⟩
theorem BW.mk {st : bS} {ws : List Nat} {m : Nat} {v : Int32} (g : BW st ws) : BW (mk st m v) ws := g.of (by
  show (sA st 14 (3840 + m) v).2.1 15 = _
  exact sA_ne st (by decide))
theorem BW.drop {st : bS} {o ws : List Nat} (g : BW st (o ++ ws)) : BW st ws := by
  induction o with
  | nil => exact g
  | cons w o ih => exact ih g.2
section BPRS
variable {C : pC} {st : bS} {p op n : Nat} {bad : Int32}
theorem b_look (ok : pOk C) (h : BP C st p op bad) (hp : p ≤ 60) : bf_look n st = some (st, c32 (ch C p)) := by
  have hN := ok.1
  unfold bf_look
  rw [h.1, h.2.2.1]
  by_cases g : p < C.N
  · rw [if_neg (fun z => by have := (c_le (by omega) (by omega)).mp z; omega), ob (ld_A (show p < 60 by omega)), h.2.1 p (by omega)]
    unfold ch
    rw [if_pos g]
  · rw [if_pos (by exact (c_le (by omega) (by omega)).mpr (by omega)), ch_end (by omega)]
    rfl
theorem b_lookAt {k : Nat} {v : Int32} (ok : pOk C) (h : BP C st p op bad) (hp : p + k < 100) (hv : v = c32 k := by rfl) : bf_lookAt n st v = some (st, c32 (ch C (p + k))) := by
  subst hv
  have hN := ok.1
  unfold bf_lookAt
  rw [h.1, h.2.2.1, c_add]
  by_cases g : p + k < C.N
  · rw [if_neg (fun z => by have := (c_le (by omega) (by omega)).mp z; omega), ob (ld_A (show p + k < 60 by omega)), h.2.1 (p + k) (by omega)]
    unfold ch
    rw [if_pos g]
  · rw [if_pos (by exact (c_le (by omega) (by omega)).mpr (by omega)), ch_end (by omega)]
    rfl
theorem b_take_t {c : Nat} {v : Int32} (ok : pOk C) (h : BP C st p op 0) (hp : p ≤ 60) (hc : ch C p = c) (hv : v = c32 c := by rfl) : bf_take n st v = some (sI st 4 (c32 (p + 1)), 1) := by
  subst hv
  unfold bf_take
  rw [if_pos (by exact h.2.2.2.2), ob (b_look ok h hp), if_pos (by rw [hc])]
  show some (sI st 4 (st.1 4 + c32 1), (1 : Int32)) = _
  rw [h.2.2.1, c_add]
theorem b_take_f {c : Nat} {v : Int32} (ok : pOk C) (h : BP C st p op 0) (hp : p ≤ 60) (hb : c < 128) (hc : ch C p ≠ c) (hv : v = c32 c := by rfl) : bf_take n st v = some (st, 0) := by
  subst hv
  have := ch_lt ok p
  unfold bf_take
  rw [if_pos (by exact h.2.2.2.2), ob (b_look ok h hp), if_neg (fun z => hc (by exact (c_eq (by omega) (by omega)).mp z))]
theorem b_take_b {c : Int32} (h : BP C st p op 1) : bf_take n st c = some (st, 0) := by
  unfold bf_take
  rw [if_neg (by rw [h.2.2.2.2]; decide)]
theorem b_need_t {c : Nat} {v : Int32} (ok : pOk C) (h : BP C st p op 0) (hp : p ≤ 60) (hc : ch C p = c) (hv : v = c32 c := by rfl) : bf_need n st v = some (sI st 4 (c32 (p + 1)), ()) := by
  subst hv
  unfold bf_need
  rw [ob (b_take_t ok h hp hc), if_neg (by first | decide | exact n10)]
theorem b_need_f {c : Nat} {v : Int32} (ok : pOk C) (h : BP C st p op 0) (hp : p ≤ 60) (hb : c < 128) (hc : ch C p ≠ c) (hv : v = c32 c := by rfl) : bf_need n st v = some (sI st 7 1, ()) := by
  subst hv
  unfold bf_need
  rw [ob (b_take_f ok h hp hb hc), if_pos rfl]
  rfl
theorem b_need_b {c : Int32} (h : BP C st p op 1) : bf_need n st c = some (sI st 7 1, ()) := by
  unfold bf_need
  rw [ob (b_take_b h), if_pos rfl]
  rfl
abbrev dig (c : Nat) : Prop := 48 ≤ c ∧ c ≤ 57
theorem b_isDigit_t (ok : pOk C) (h : BP C st p op bad) (hp : p ≤ 60) (hc : dig (ch C p)) : bf_isDigit n st = some (st, 1) := by
  have := ch_lt ok p
  obtain ⟨h1, h2⟩ := hc
  unfold bf_isDigit
  rw [ob (b_look ok h hp), if_neg (fun z => by have := (c_lt (a := ch C p) (b := 48) (by omega) (by omega)).mp z; omega), ob (b_look ok h hp), if_neg (fun z => by have := (c_lt (a := 57) (b := ch C p) (by omega) (by omega)).mp z; omega)]
theorem b_isDigit_f (ok : pOk C) (h : BP C st p op bad) (hp : p ≤ 60) (hc : ¬ dig (ch C p)) : bf_isDigit n st = some (st, 0) := by
  have := ch_lt ok p
  unfold bf_isDigit
  rw [ob (b_look ok h hp)]
  by_cases g : ch C p < 48
  · rw [if_pos (by exact (c_lt (a := ch C p) (b := 48) (by omega) (by omega)).mpr g)]
  · rw [if_neg (fun z => by have := (c_lt (a := ch C p) (b := 48) (by omega) (by omega)).mp z; omega), ob (b_look ok h hp), if_pos (by exact (c_lt (a := 57) (b := ch C p) (by omega) (by omega)).mpr (by unfold dig at hc; omega))]
abbrev isM (c : Nat) : Prop := 80 ≤ c ∧ c ≤ 82
abbrev isV (c : Nat) : Prop := 65 ≤ c ∧ c ≤ 90 ∧ ¬ isM c
theorem b_isMatrix_t {c : Nat} (hc : isM c) : bf_isMatrix n st (c32 c) = some (st, 1) := by
  obtain ⟨h1, h2⟩ := hc
  unfold bf_isMatrix
  rw [if_neg (fun z => by have := (c_lt (a := c) (b := 80) (by omega) (by omega)).mp z; omega), if_neg (fun z => by have := (c_lt (a := 82) (b := c) (by omega) (by omega)).mp z; omega)]
theorem b_isMatrix_f {c : Nat} (hb : c < 1000) (hc : ¬ isM c) : bf_isMatrix n st (c32 c) = some (st, 0) := by
  unfold bf_isMatrix
  by_cases g : c < 80
  · rw [if_pos (by exact (c_lt (a := c) (b := 80) (by omega) (by omega)).mpr g)]
  · rw [if_neg (fun z => by have := (c_lt (a := c) (b := 80) (by omega) (by omega)).mp z; omega), if_pos (by exact (c_lt (a := 82) (b := c) (by omega) (by omega)).mpr (by unfold isM at hc; omega))]
theorem b_variable_t (ok : pOk C) (h : BP C st p op 0) (hp : p ≤ 60) (hc : isV (ch C p)) : bf_variable n st = some (sI st 4 (c32 (p + 1)), c32 (ch C p - 65)) := by
  have := ch_lt ok p
  obtain ⟨h1, h2, h3⟩ := hc
  unfold bf_variable
  rw [ob (b_look ok h hp), if_pos (by exact h.2.2.2.2), if_neg (fun z => by have := (c_lt (a := ch C p) (b := 65) (by omega) (by omega)).mp z; omega), if_neg (fun z => by have := (c_lt (a := 90) (b := ch C p) (by omega) (by omega)).mp z; omega), ob (b_isMatrix_f (by omega) h3), if_pos rfl]
  show some (sI st 4 (st.1 4 + c32 1), c32 (ch C p) - c32 65) = _
  rw [h.2.2.1, c_add, c_sub h1]
theorem b_variable_f (ok : pOk C) (h : BP C st p op 0) (hp : p ≤ 60) (hc : ¬ isV (ch C p)) : bf_variable n st = some (sI st 7 1, 0) := by
  have := ch_lt ok p
  unfold bf_variable
  rw [ob (b_look ok h hp), if_pos (by exact h.2.2.2.2)]
  by_cases g1 : ch C p < 65
  · rw [if_pos (by exact (c_lt (a := ch C p) (b := 65) (by omega) (by omega)).mpr g1)]
    rfl
  · rw [if_neg (fun z => by have := (c_lt (a := ch C p) (b := 65) (by omega) (by omega)).mp z; omega)]
    by_cases g2 : 90 < ch C p
    · rw [if_pos (by exact (c_lt (a := 90) (b := ch C p) (by omega) (by omega)).mpr g2)]
      rfl
    · rw [if_neg (fun z => by have := (c_lt (a := 90) (b := ch C p) (by omega) (by omega)).mp z; omega)]
      have hm : isM (ch C p) := by
        apply Classical.byContradiction
        intro hm
        exact hc ⟨by omega, by omega, hm⟩
      rw [ob (b_isMatrix_t hm), if_neg (by first | decide | exact n10)]
      rfl
theorem b_variable_b (ok : pOk C) (h : BP C st p op 1) (hp : p ≤ 60) : bf_variable n st = some (sI st 7 1, 0) := by
  unfold bf_variable
  rw [ob (b_look ok h hp), if_neg (by rw [h.2.2.2.2]; decide)]
  rfl
theorem b_matrix_t (ok : pOk C) (h : BP C st p op 0) (hp : p ≤ 60) (hc : isM (ch C p)) : bf_matrix n st = some (sI st 4 (c32 (p + 1)), c32 (ch C p - 80)) := by
  have := ch_lt ok p
  unfold bf_matrix
  rw [ob (b_look ok h hp), if_pos (by exact h.2.2.2.2), ob (b_isMatrix_t hc), if_neg (by first | decide | exact n10)]
  show some (sI st 4 (st.1 4 + c32 1), c32 (ch C p) - c32 80) = _
  rw [h.2.2.1, c_add, c_sub hc.1]
theorem b_matrix_f (ok : pOk C) (h : BP C st p op 0) (hp : p ≤ 60) (hc : ¬ isM (ch C p)) : bf_matrix n st = some (sI st 7 1, 0) := by
  have := ch_lt ok p
  unfold bf_matrix
  rw [ob (b_look ok h hp), if_pos (by exact h.2.2.2.2), ob (b_isMatrix_f (by omega) hc), if_pos rfl]
  rfl
theorem b_matrix_b (ok : pOk C) (h : BP C st p op 1) (hp : p ≤ 60) : bf_matrix n st = some (sI st 7 1, 0) := by
  unfold bf_matrix
  rw [ob (b_look ok h hp), if_neg (by rw [h.2.2.2.2]; decide)]
  rfl
theorem b_one6_t (ok : pOk C) (h : BP C st p op 0) (hp : p ≤ 60) (hc : 49 ≤ ch C p ∧ ch C p ≤ 54) : bf_oneToSix n st = some (sI st 4 (c32 (p + 1)), c32 (ch C p - 48)) := by
  have := ch_lt ok p
  unfold bf_oneToSix
  rw [ob (b_look ok h hp), if_pos (by exact h.2.2.2.2), if_neg (fun z => by have := (c_lt (a := ch C p) (b := 49) (by omega) (by omega)).mp z; omega), if_pos (by exact (c_le (a := ch C p) (b := 54) (by omega) (by omega)).mpr hc.2)]
  show some (sI st 4 (st.1 4 + c32 1), c32 (ch C p) - c32 48) = _
  rw [h.2.2.1, c_add, c_sub (by omega)]
theorem b_one6_f (ok : pOk C) (h : BP C st p op 0) (hp : p ≤ 60) (hc : ¬ (49 ≤ ch C p ∧ ch C p ≤ 54)) : bf_oneToSix n st = some (sI st 7 1, 0) := by
  have := ch_lt ok p
  unfold bf_oneToSix
  rw [ob (b_look ok h hp), if_pos (by exact h.2.2.2.2)]
  by_cases g1 : ch C p < 49
  · rw [if_pos (by exact (c_lt (a := ch C p) (b := 49) (by omega) (by omega)).mpr g1)]
    rfl
  · rw [if_neg (fun z => by have := (c_lt (a := ch C p) (b := 49) (by omega) (by omega)).mp z; omega), if_neg (fun z => by have := (c_le (a := ch C p) (b := 54) (by omega) (by omega)).mp z; omega)]
    rfl
theorem b_one6_b (ok : pOk C) (h : BP C st p op 1) (hp : p ≤ 60) : bf_oneToSix n st = some (sI st 7 1, 0) := by
  unfold bf_oneToSix
  rw [ob (b_look ok h hp), if_neg (by rw [h.2.2.2.2]; decide)]
  rfl
theorem b_bracket_t (ok : pOk C) (h : BP C st p op 0) (hp : p ≤ 60) (ho : op < 6) (hc : ch C p = 40) : bf_bracket n st = some (sI (sI st 4 (c32 (p + 1))) 5 (c32 (op + 1)), ()) := by
  unfold bf_bracket
  rw [h.2.2.2.1, if_neg (fun z => by have := (c_eq (a := op) (b := 6) (by omega) (by omega)).mp z; omega)]
  unfold bf_bracket_L14
  rw [ob (show bf_need n st 40 = _ from b_need_t (c := 40) ok h hp hc), if_pos (by exact h.2.2.2.2)]
  show some (sI (sI st 4 (c32 (p + 1))) 5 (st.1 5 + c32 1), ()) = _
  rw [h.2.2.2.1, c_add]
theorem b_bracket_f (ok : pOk C) (h : BP C st p op 0) (hp : p ≤ 60) (ho : op < 6) (hc : ch C p ≠ 40) : bf_bracket n st = some (sI st 7 1, ()) := by
  unfold bf_bracket
  rw [h.2.2.2.1, if_neg (fun z => by have := (c_eq (a := op) (b := 6) (by omega) (by omega)).mp z; omega)]
  unfold bf_bracket_L14
  rw [ob (show bf_need n st 40 = _ from b_need_f (c := 40) ok h hp (by omega) hc), if_neg (by first | decide | exact n10)]
theorem b_bracket_b (h : BP C st p op 1) : ∃ st', bf_bracket n st = some (st', ()) ∧ BP C st' p op 1 ∧ BE st st' ∧ st'.2 = st.2 ∧ st'.1 6 = st.1 6 := by
  unfold bf_bracket bf_bracket_L14
  by_cases g : st.1 5 = (6 : Int32)
  · rw [if_pos g]
    refine ⟨sI (sI st 7 1) 7 1, ?_, h.b.b, (BE.i (by omega)).trans (BE.i (by omega)), rfl, rfl⟩
    show (bf_need n (sI st 7 1) 40).bind _ = _
    rw [ob (b_need_b h.b)]
  · rw [if_neg g]
    refine ⟨sI st 7 1, ?_, h.b, BE.i (by omega), rfl, rfl⟩
    rw [ob (b_need_b h), if_neg (by first | decide | exact n10)]
theorem b_shut_t (ok : pOk C) (h : BP C st p op 0) (hp : p ≤ 60) (ho : 1 ≤ op) (hc : ch C p = 41) : bf_shut n st = some (sI (sI st 4 (c32 (p + 1))) 5 (c32 (op - 1)), ()) := by
  unfold bf_shut
  rw [ob (show bf_need n st 41 = _ from b_need_t (c := 41) ok h hp hc), if_pos (by exact h.2.2.2.2)]
  show some (sI (sI st 4 (c32 (p + 1))) 5 (st.1 5 - c32 1), ()) = _
  rw [h.2.2.2.1, c_sub ho]
theorem b_shut_f (ok : pOk C) (h : BP C st p op 0) (hp : p ≤ 60) (hc : ch C p ≠ 41) : bf_shut n st = some (sI st 7 1, ()) := by
  unfold bf_shut
  rw [ob (show bf_need n st 41 = _ from b_need_f (c := 41) ok h hp (by omega) hc), if_neg (by first | decide | exact n10)]
theorem b_shut_b (h : BP C st p op 1) : bf_shut n st = some (sI st 7 1, ()) := by
  unfold bf_shut
  rw [ob (b_need_b h), if_neg (by first | decide | exact n10)]
/-! settle -/
def rk (w : Nat) : Nat := if 100 ≤ w then 0 else if w = 7 then 3 else if w = 5 ∨ w = 6 then 2 else 1
theorem b_rank {w : Nat} (hw : w < 1000) : bf_rank n st (c32 w) = some (st, c32 (rk w)) := by
  unfold bf_rank rk
  by_cases g : 100 ≤ w
  · rw [if_neg (fun z => by have := (c_le (a := w) (b := 99) (by omega) (by omega)).mp z; omega), if_pos g]
    rfl
  · rw [if_pos (by exact (c_le (a := w) (b := 99) (by omega) (by omega)).mpr (by omega)), if_neg g]
    by_cases g7 : w = 7
    · rw [if_pos (by rw [g7]; rfl), if_pos g7]
      rfl
    · rw [if_neg (fun z => g7 (by exact (c_eq (a := w) (b := 7) (by omega) (by omega)).mp z)), if_neg g7]
      by_cases g5 : w = 5
      · rw [if_pos (by rw [g5]; rfl), if_pos (Or.inl g5)]
        rfl
      · rw [if_neg (fun z => g5 (by exact (c_eq (a := w) (b := 5) (by omega) (by omega)).mp z))]
        by_cases g6 : w = 6
        · rw [if_pos (by rw [g6]; rfl), if_pos (Or.inr g6)]
          rfl
        · rw [if_neg (fun z => g6 (by exact (c_eq (a := w) (b := 6) (by omega) (by omega)).mp z)), if_neg (by omega)]
          rfl
def stops (r : Nat) : List Nat → Prop
  | [] => True
  | w :: _ => 100 ≤ w ∨ rk w < r
theorem b_settle {r : Nat} (hr : r < 10) {ws : List Nat} (hs : stops r ws) (hw : ∀ w ∈ ws, w < 1000) : ∀ (o : List Nat) (k m : Nat) (st : bS), BW st (o ++ ws) → (∀ w ∈ o, w < 100 ∧ r ≤ rk w) → (o ++ ws).length ≤ 64 → st.1 6 = c32 m → m + o.length ≤ 160 → o.length < k →
    ∃ st', bf_settle_S2 n k st (c32 r) (c32 (o ++ ws).length) = some (st', c32 ws.length) ∧ BW st' ws ∧ BE st st' ∧ st'.1 6 = c32 (m + o.length) ∧ (∀ j, j ≠ 6 → st'.1 j = st.1 j) ∧ (∀ cs, cs.length = m → BM st cs → BM st' (cs ++ o)) := by
  intro o
  induction o with
  | nil =>
    intro k m st hb ho hl h6 hm hk
    refine ⟨st, ?_, hb, BE.rfl_, h6, fun _ _ => rfl, fun cs _ hc => by rw [List.append_nil]; exact hc⟩
    obtain ⟨k, rfl⟩ : ∃ k', k = k' + 1 := ⟨k - 1, by have : 0 < k := hk; omega⟩
    simp only [List.nil_append] at hb hl ⊢
    rw [bf_settle_S2, bf_settle_B2]
    cases ws with
    | nil => rw [if_pos (by show c32 0 ≤ 0; decide)]
    | cons w ws =>
      have hl' : ws.length + 1 ≤ 64 := hl
      have hw' := hw w (List.mem_cons_self ..)
      have hld : ldA st 15 (c32 (w :: ws).length - 1) = some (c32 w) := by
        show ldA st 15 (c32 (ws.length + 1) - c32 1) = _
        rw [c_sub (by omega), Nat.add_sub_cancel, ld_A (show ws.length < 64 by omega), hb.1]
      rw [if_neg (fun z => by have := (c_le (a := ws.length + 1) (b := 0) (by omega) (by omega)).mp z; omega), ob hld]
      by_cases g : 100 ≤ w
      · rw [if_pos (by exact (c_le (a := 100) (b := w) (by omega) (by omega)).mpr g)]
      · have hrk : rk w < r := hs.resolve_left g
        rw [if_neg (fun z => by have := (c_le (a := 100) (b := w) (by omega) (by omega)).mp z; omega), ob hld, ob (b_rank hw'), if_pos (by exact (c_lt (a := rk w) (b := r) (by omega) (by omega)).mpr hrk)]
  | cons w o ih =>
    intro k m st hb ho hl h6 hm hk
    obtain ⟨k, rfl⟩ : ∃ k', k = k' + 1 := ⟨k - 1, by have : o.length + 1 < k := hk; omega⟩
    have hl' : (o ++ ws).length + 1 ≤ 64 := hl
    have hm' : m + (o.length + 1) ≤ 160 := hm
    have hk' : o.length + 1 < k + 1 := hk
    have ho' := ho w (List.mem_cons_self ..)
    obtain ⟨st', e, w', be, c6, fr, bm⟩ := ih k (m + 1) (mk st m (c32 w)) hb.2.mk (fun v hv => ho v (List.mem_cons_of_mem _ hv)) (by omega) mk_6 (by omega) (by omega)
    refine ⟨st', ?_, w', BE.mk.trans be, by rw [c6, List.length_cons]; congr 1; omega, fun j hj => by rw [fr j hj, mk_i hj], fun cs hm2 hc => ?_⟩
    · have hrk3 : rk w < 10 := by unfold rk; split <;> (try split) <;> (try split) <;> omega
      rw [List.cons_append]
      have hld : ldA st 15 (c32 (w :: (o ++ ws)).length - 1) = some (c32 w) := by
        show ldA st 15 (c32 ((o ++ ws).length + 1) - c32 1) = _
        rw [c_sub (by omega), Nat.add_sub_cancel, ld_A (show (o ++ ws).length < 64 by omega), show st.2.1 15 (o ++ ws).length = c32 w from hb.1]
      rw [bf_settle_S2, bf_settle_B2, if_neg (fun z => by have := (c_le (a := (o ++ ws).length + 1) (b := 0) (by omega) (by omega)).mp z; omega), ob hld, if_neg (fun z => by have := (c_le (a := 100) (b := w) (by omega) (by omega)).mp z; omega), ob hld, ob (b_rank (by omega)), if_neg (fun z => by have := (c_lt (a := rk w) (b := r) (by omega) (by omega)).mp z; omega), ob hld, ob (b_make h6 (by omega))]
      show bf_settle_S2 n k (mk st m (c32 w)) (c32 r) (c32 ((o ++ ws).length + 1) + (-1 : Int32)) = _
      rw [c_pred (by omega), Nat.add_sub_cancel]
      exact e
    · subst hm2
      have := bm (cs ++ [w]) (by rw [List.length_append]; rfl) hc.mk
      rw [List.append_assoc] at this
      exact this
end BPRS
