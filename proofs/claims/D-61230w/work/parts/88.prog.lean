/-! THE PURE LAW: the program: by a line's number its Line, its statement, the model's slot, its sort -/
def nx (P : Nat → Option (Nat × Nat × Nat × Nat)) (m : Nat) : Option Nat := (List.range 1000).find? (fun j => decide (m < j) && (P j).isSome)
theorem nx_some {P : Nat → Option (Nat × Nat × Nat × Nat)} {m j : Nat} (h : nx P m = some j) : m < j ∧ j < 1000 ∧ (∃ e, P j = some e) ∧ ∀ i, m < i → i < j → P i = none := by
  unfold nx at h
  rw [List.find?_range_eq_some] at h
  obtain ⟨h1, h2, h3⟩ := h
  simp only [Bool.and_eq_true, decide_eq_true_eq] at h1
  refine ⟨h1.1, List.mem_range.mp h2, Option.isSome_iff_exists.mp h1.2, fun i hi1 hi2 => ?_⟩
  have := h3 i hi2
  simp only [Bool.not_eq_true', Bool.and_eq_false_iff, decide_eq_false_iff_not] at this
  rcases this with this | this
  · omega
  · cases hP : P i with
    | none => rfl
    | some e => rw [hP] at this; exact nomatch this
theorem nx_none {P : Nat → Option (Nat × Nat × Nat × Nat)} {m j : Nat} (h : nx P m = none) (h1 : m < j) (h2 : j < 1000) : P j = none := by
  unfold nx at h
  rw [List.find?_eq_none] at h
  have := h j (List.mem_range.mpr h2)
  simp only [Bool.and_eq_true, decide_eq_true_eq, not_and] at this
  have this := this h1
  cases hP : P j with
  | none => rfl
  | some e => rw [hP] at this; exact absurd rfl this
theorem nx_is {P : Nat → Option (Nat × Nat × Nat × Nat)} {m j : Nat} {e : Nat × Nat × Nat × Nat} (h1 : m < j) (h2 : j < 1000) (h3 : P j = some e) (h4 : ∀ i, m < i → i < j → P i = none) : nx P m = some j := by
  cases h : nx P m with
  | none => rw [nx_none h h1 h2] at h3; exact nomatch h3
  | some k =>
    obtain ⟨k1, k2, ⟨e', k3⟩, k4⟩ := nx_some h
    have hn1 : ¬ j < k := fun z => by rw [k4 j h1 z] at h3; exact nomatch h3
    have hn2 : ¬ k < j := fun z => by rw [h4 k k1 z] at k3; exact nomatch k3
    rw [show k = j by omega]
theorem nx_no {P : Nat → Option (Nat × Nat × Nat × Nat)} {m : Nat} (h : ∀ j, m < j → j < 1000 → P j = none) : nx P m = none := by
  cases g : nx P m with
  | none => rfl
  | some k =>
    obtain ⟨k1, k2, ⟨e', k3⟩, k4⟩ := nx_some g
    rw [h k k1 k2] at k3
    exact nomatch k3
/-- the Line of a number -/
def lnk (P : Nat → Option (Nat × Nat × Nat × Nat)) (r : Option Nat) : Option Nat := r.bind fun j => (P j).map (·.1)
/-- its slot -/
def slk (P : Nat → Option (Nat × Nat × Nat × Nat)) (r : Option Nat) : Int32 := match r.bind P with
  | some e => c32 e.2.2.1
  | none => -1
theorem slk_some {P : Nat → Option (Nat × Nat × Nat × Nat)} {j : Nat} {e : Nat × Nat × Nat × Nat} (h : P j = some e) : slk P (some j) = c32 e.2.2.1 := by
  unfold slk
  show (match P j with | some e => c32 e.2.2.1 | none => -1) = _
  rw [h]
theorem slk_no {P : Nat → Option (Nat × Nat × Nat × Nat)} {j : Nat} (h : P j = none) : slk P (some j) = -1 := by
  unfold slk
  show (match P j with | some e => c32 e.2.2.1 | none => -1) = _
  rw [h]
/-- the lines in the store -/
def PL (g : Nat → Option aE) (P : Nat → Option (Nat × Nat × Nat × Nat)) : Prop := ∀ j e, P j = some e → g e.1 = some (.inr (3, [.int (c32 j), .ref e.2.1, va_rf (lnk P (nx P j))]))
/-- the model's slots -/
def PN (N : Nat → Int32) (P : Nat → Option (Nat × Nat × Nat × Nat)) : Prop := (∀ j e, P j = some e → j < 1000 ∧ j ≠ 0 ∧ e.2.2.1 < 24 ∧ N e.2.2.1 = c32 j) ∧ ∀ k, k < 24 → N k = 0 ∨ ∃ j e, P j = some e ∧ e.2.2.1 = k
section PROG
variable {P : Nat → Option (Nat × Nat × Nat × Nat)} {σ : aS} {x n : Nat} {S : Nat → Nat} {st : bS}
theorem PN.inj {N : Nat → Int32} (h : PN N P) {k j : Nat} {e : Nat × Nat × Nat × Nat} (hk : k < 24) (he : P j = some e) (hN : N k = c32 j) : e.2.2.1 = k := by
  obtain ⟨h1, h2, h3, h4⟩ := h.1 j e he
  rcases h.2 k hk with g | ⟨j', e', g1, g2⟩
  · rw [g] at hN
    have := (c_eq (a := 0) (b := j) (by omega) (by omega)).mp hN
    omega
  · obtain ⟨i1, i2, i3, i4⟩ := h.1 j' e' g1
    rw [g2, hN] at i4
    have := (c_eq (a := j) (b := j') (by omega) (by omega)).mp i4
    subst this
    rw [he] at g1
    cases g1
    exact g2
theorem A_lonS (hL : PL σ.2.2 P) (hP : ∀ j, 1000 ≤ j → P j = none) {j : Nat} (hj : j < 1000) : ∀ (k m fu : Nat), m + k = 1000 → k < fu → (j ≤ m → P j = none) → af_X1_lineOrNull_S5 n S fu σ x (c32 j) (lnk P (nx P m)) = some (σ, (P j).map (·.1)) := by
  intro k
  induction k using Nat.strongRecOn with
  | ind k ih =>
    intro m fu hm hf hjm
    obtain ⟨fu, rfl⟩ : ∃ m, fu = m + 1 := ⟨fu - 1, by omega⟩
    show af_X1_lineOrNull_B5 n S _ σ x (c32 j) _ = _
    unfold af_X1_lineOrNull_B5
    cases hnx : nx P m with
    | none =>
      rw [if_pos (show lnk P none = none from rfl)]
      have : P j = none := by
        by_cases g : j ≤ m
        · exact hjm g
        · exact nx_none hnx (by omega) hj
      rw [this]
      rfl
    | some i =>
      obtain ⟨i1, i2, ⟨e, i3⟩, i4⟩ := nx_some hnx
      have hl : lnk P (some i) = some e.1 := by
        show (P i).map (·.1) = _
        rw [i3]
        rfl
      have hc := hL i e i3
      rw [hl, if_neg (fun z => nomatch z), ob (show some e.1 = some e.1 from rfl), ob (gI_of hc rfl)]
      by_cases g : i = j
      · subst g
        rw [if_pos rfl, i3]
        rfl
      · rw [if_neg (fun z => g ((c_eq (by omega) (by omega)).mp z)), ob (gR_of (v := lnk P (nx P i)) hc rfl)]
        refine ih (1000 - i) (by omega) i fu (by omega) (by omega) (fun hji => ?_)
        by_cases g2 : j ≤ m
        · exact hjm g2
        · exact i4 j (by omega) (by omega)
theorem A_lon {f : Nat → Value} (hx : σ.2.2 x = some (mc f)) (h3 : f 3 = va_rf (lnk P (nx P 0))) (h0 : P 0 = none) (hL : PL σ.2.2 P) (hP : ∀ j, 1000 ≤ j → P j = none) (hn : 2000 ≤ n) {j : Nat} (hj : j < 1000) : af_X1_lineOrNull n S σ x (c32 j) = some (σ, (P j).map (·.1)) := by
  unfold af_X1_lineOrNull
  rw [ob (m_R hx h3)]
  exact A_lonS hL hP hj 1000 0 n (by omega) (by omega) (fun z => by rw [show j = 0 by omega]; exact h0)
theorem b_slotS {N : Int32} : ∀ (k i fu : Nat), i + k = 24 → k < fu → (∀ q, q < i → st.2.1 10 q ≠ N) →
    (∃ q, q < 24 ∧ st.2.1 10 q = N ∧ bf_slotOf_S2 n fu st N (c32 i) = some (st, c32 q)) ∨ ((∀ q, q < 24 → st.2.1 10 q ≠ N) ∧ bf_slotOf_S2 n fu st N (c32 i) = some (st, -1)) := by
  intro k
  induction k with
  | zero =>
    intro i fu hi hf hq
    obtain ⟨fu, rfl⟩ : ∃ m, fu = m + 1 := ⟨fu - 1, by omega⟩
    refine Or.inr ⟨fun q hq2 => hq q (by omega), ?_⟩
    show bf_slotOf_B2 n _ st N _ = _
    unfold bf_slotOf_B2
    rw [if_pos (show (24 : Int32) ≤ c32 i from (c_le (a := 24) (by omega) (by omega)).mpr (by omega))]
  | succ k ih =>
    intro i fu hi hf hq
    obtain ⟨fu, rfl⟩ : ∃ m, fu = m + 1 := ⟨fu - 1, by omega⟩
    have e : bf_slotOf_S2 n (fu + 1) st N (c32 i) = if st.2.1 10 i = N then some (st, c32 i) else bf_slotOf_S2 n fu st N (c32 (i + 1)) := by
      show bf_slotOf_B2 n _ st N _ = _
      unfold bf_slotOf_B2
      rw [if_neg (fun z => by have := (c_le (a := 24) (b := i) (by omega) (by omega)).mp z; omega), ob (ld_A (show i < 25 by omega))]
      show (if st.2.1 10 i = N then some (st, c32 i) else bf_slotOf_S2 n fu st N (c32 i + c32 1)) = _
      rw [c_add]
    rw [e]
    by_cases g : st.2.1 10 i = N
    · exact Or.inl ⟨i, by omega, g, by rw [if_pos g]⟩
    · rw [if_neg g]
      exact ih (i + 1) fu (by omega) (by omega) (fun q hq2 => by
        by_cases g2 : q = i
        · rw [g2]; exact g
        · exact hq q (by omega))
theorem b_slotOf {N : Int32} (hn : 1000 ≤ n) : (∃ q, q < 24 ∧ st.2.1 10 q = N ∧ bf_slotOf n st N = some (st, c32 q)) ∨ ((∀ q, q < 24 → st.2.1 10 q ≠ N) ∧ bf_slotOf n st N = some (st, -1)) :=
  b_slotS 24 0 n (by omega) (by omega) (fun q hq => by omega)
/-- the slot of a number -/
theorem b_slot (hn : 1000 ≤ n) (hN : PN (st.2.1 10) P) {j : Nat} (h0 : j ≠ 0) (hj : j < 1000) : bf_slotOf n st (c32 j) = some (st, slk P (some j)) := by
  rcases b_slotOf (st := st) (N := c32 j) hn with ⟨q, q1, q2, q3⟩ | ⟨q1, q2⟩
  · rw [q3]
    rcases hN.2 q q1 with g | ⟨j', e', g1, g2⟩
    · rw [g] at q2
      have := (c_eq (a := 0) (b := j) (by omega) (by omega)).mp q2
      omega
    · obtain ⟨i1, i2, i3, i4⟩ := hN.1 j' e' g1
      rw [g2, q2] at i4
      have := (c_eq (a := j) (b := j') (by omega) (by omega)).mp i4
      subst this
      rw [slk_some g1, g2]
  · rw [q2]
    cases hP : P j with
    | none =>
      rw [slk_no hP]
    | some e =>
      obtain ⟨i1, i2, i3, i4⟩ := hN.1 j e hP
      exact absurd i4 (q1 _ i3)
theorem PN.num (hN : PN (st.2.1 10) P) {k : Nat} (hk : k < 24) : ∃ c, c < 1000 ∧ st.2.1 10 k = c32 c ∧ (c ≠ 0 → ∃ e, P c = some e ∧ e.2.2.1 = k) := by
  rcases hN.2 k hk with g | ⟨j, e, g1, g2⟩
  · exact ⟨0, by omega, g, fun z => absurd rfl z⟩
  · obtain ⟨i1, i2, i3, i4⟩ := hN.1 j e g1
    rw [g2] at i4
    exact ⟨j, i1, i4, fun _ => ⟨e, g1, g2⟩⟩
theorem ns_0 {k : Nat} {a b c : Int32} : bf_nextSlot_S4 n (k + 1) 0 st a b c = bf_nextSlot_B4 n (bf_nextSlot_S4 n k) st a b c := rfl
theorem ns_1 {k : Nat} {a b c : Int32} : bf_nextSlot_S4 n (k + 1) 1 st a b c = bf_nextSlot_S4 n k 2 st a c c := rfl
theorem ns_2 {k : Nat} {a b c : Int32} : bf_nextSlot_S4 n (k + 1) 2 st a b c = bf_nextSlot_S4 n k 0 st a b (c + c32 1) := rfl
/-- the slot that follows -/
theorem b_nextS (hN : PN (st.2.1 10) P) {m : Nat} (hm : m < 1000) : ∀ (k i fu : Nat) (x2 : Int32), i + k = 24 → 3 * k < fu →
    ((x2 = -1 ∧ ∀ q, q < i → ∀ c, c < 1000 → st.2.1 10 q = c32 c → c ≤ m) ∨ (∃ q b, q < i ∧ x2 = c32 q ∧ b < 1000 ∧ m < b ∧ st.2.1 10 q = c32 b ∧ ∀ q, q < i → ∀ c, c < 1000 → st.2.1 10 q = c32 c → m < c → b ≤ c)) →
    bf_nextSlot_S4 n fu 0 st (c32 m) x2 (c32 i) = some (st, slk P (nx P m)) := by
  intro k
  induction k with
  | zero =>
    intro i fu x2 hi hf hinv
    obtain ⟨fu, rfl⟩ : ∃ m, fu = m + 1 := ⟨fu - 1, by omega⟩
    rw [ns_0]
    unfold bf_nextSlot_B4
    rw [if_pos (show (24 : Int32) ≤ c32 i from (c_le (a := 24) (by omega) (by omega)).mpr (by omega))]
    have hi24 : i = 24 := by omega
    subst hi24
    rcases hinv with ⟨rfl, h2⟩ | ⟨q, b, h1, rfl, h3, h4, h5, h6⟩
    · have : nx P m = none := nx_no (fun j hj1 hj2 => by
        cases hP : P j with
        | none => rfl
        | some e =>
          obtain ⟨i1, i2, i3, i4⟩ := hN.1 j e hP
          have := h2 _ i3 j i1 i4
          omega)
      rw [this]
      rfl
    · obtain ⟨c, c1, c2, c3⟩ := hN.num h1
      rw [h5] at c2
      have := (c_eq (a := b) (b := c) (by omega) (by omega)).mp c2
      subst this
      obtain ⟨e, e1, e2⟩ := c3 (by omega)
      have : nx P m = some b := nx_is h4 h3 e1 (fun j hj1 hj2 => by
        cases hP : P j with
        | none => rfl
        | some e =>
          obtain ⟨i1, i2, i3, i4⟩ := hN.1 j e hP
          have := h6 _ i3 j i1 i4 hj1
          omega)
      rw [this]
      rw [slk_some e1, e2]
  | succ k ih =>
    intro i fu x2 hi hf hinv
    obtain ⟨fu, rfl⟩ : ∃ m, fu = m + 3 := ⟨fu - 3, by omega⟩
    obtain ⟨c, c1, c2, c3⟩ := hN.num (k := i) (by omega)
    have hnext : ∀ (g : Nat) (y : Int32), bf_nextSlot_S4 n (g + 1) 2 st (c32 m) y (c32 i) = bf_nextSlot_S4 n g 0 st (c32 m) y (c32 (i + 1)) := fun g y => by
      rw [ns_2, c_add]
    have hset : ∀ (g : Nat) (y : Int32), bf_nextSlot_S4 n (g + 2) 1 st (c32 m) y (c32 i) = bf_nextSlot_S4 n g 0 st (c32 m) (c32 i) (c32 (i + 1)) := fun g y => by
      rw [ns_1, hnext g]
    rw [ns_0]
    unfold bf_nextSlot_B4
    have e : ldA st 10 (c32 i) = some (c32 c) := by rw [ld_A (show i < 25 by omega), c2]
    rw [if_neg (fun z => by have := (c_le (a := 24) (b := i) (by omega) (by omega)).mp z; omega), ob e]
    by_cases g1 : c ≤ m
    · rw [if_pos ((c_le (by omega) (by omega)).mpr g1), hnext]
      refine ih (i + 1) _ x2 (by omega) (by omega) ?_
      rcases hinv with ⟨h1, h2⟩ | ⟨q, b, h1, h2, h3, h4, h5, h6⟩
      · refine Or.inl ⟨h1, fun q hq c' hc' hq2 => ?_⟩
        by_cases g2 : q = i
        · rw [g2, c2] at hq2
          have := (c_eq (a := c) (b := c') (by omega) (by omega)).mp hq2
          omega
        · exact h2 q (by omega) c' hc' hq2
      · refine Or.inr ⟨q, b, by omega, h2, h3, h4, h5, fun q hq c' hc' hq2 hmc => ?_⟩
        by_cases g2 : q = i
        · rw [g2, c2] at hq2
          have := (c_eq (a := c) (b := c') (by omega) (by omega)).mp hq2
          omega
        · exact h6 q (by omega) c' hc' hq2 hmc
    · rw [if_neg (fun z => g1 ((c_le (by omega) (by omega)).mp z))]
      rcases hinv with ⟨rfl, h2⟩ | ⟨q, b, h1, rfl, h3, h4, h5, h6⟩
      · rw [if_pos (by decide), hset]
        refine ih (i + 1) _ (c32 i) (by omega) (by omega) (Or.inr ⟨i, c, by omega, rfl, c1, by omega, c2, fun q hq c' hc' hq2 hmc => ?_⟩)
        by_cases g2 : q = i
        · rw [g2, c2] at hq2
          have := (c_eq (a := c) (b := c') (by omega) (by omega)).mp hq2
          omega
        · have := h2 q (by omega) c' hc' hq2
          omega
      · have e2 : ldA st 10 (c32 q) = some (c32 b) := by rw [ld_A (show q < 25 by omega), h5]
        rw [if_neg (c_nn (by omega)), ob e, ob e2]
        by_cases g3 : b ≤ c
        · rw [if_pos ((c_le (by omega) (by omega)).mpr g3), hnext]
          refine ih (i + 1) _ (c32 q) (by omega) (by omega) (Or.inr ⟨q, b, by omega, rfl, h3, h4, h5, fun q hq c' hc' hq2 hmc => ?_⟩)
          by_cases g2 : q = i
          · rw [g2, c2] at hq2
            have := (c_eq (a := c) (b := c') (by omega) (by omega)).mp hq2
            omega
          · exact h6 q (by omega) c' hc' hq2 hmc
        · rw [if_neg (fun z => g3 ((c_le (by omega) (by omega)).mp z)), hset]
          refine ih (i + 1) _ (c32 i) (by omega) (by omega) (Or.inr ⟨i, c, by omega, rfl, c1, by omega, c2, fun q hq c' hc' hq2 hmc => ?_⟩)
          by_cases g2 : q = i
          · rw [g2, c2] at hq2
            have := (c_eq (a := c) (b := c') (by omega) (by omega)).mp hq2
            omega
          · have := h6 q (by omega) c' hc' hq2 hmc
            omega
theorem b_next (hn : 1000 ≤ n) (hN : PN (st.2.1 10) P) {m : Nat} (hm : m < 1000) : bf_nextSlot n st (c32 m) = some (st, slk P (nx P m)) :=
  b_nextS hN hm 24 0 n (-1) (by omega) (by omega) (Or.inl ⟨rfl, fun q hq => by omega⟩)
/-- how many lines there are -/
def cnt (N : Nat → Int32) : Nat → Nat
  | 0 => 0
  | i + 1 => cnt N i + if N i = 0 then 0 else 1
theorem cnt_le (N : Nat → Int32) : ∀ i, cnt N i ≤ i
  | 0 => Nat.le_refl _
  | i + 1 => by
    have := cnt_le N i
    unfold cnt
    split <;> omega
theorem b_linesS : ∀ (k i fu : Nat), i + k = 24 → 2 * k < fu → bf_lines_S4 n fu 0 st (c32 (cnt (st.2.1 10) i)) (c32 i) = some (st, c32 (cnt (st.2.1 10) 24)) := by
  intro k
  induction k with
  | zero =>
    intro i fu hi hf
    obtain ⟨fu, rfl⟩ : ∃ m, fu = m + 1 := ⟨fu - 1, by omega⟩
    show bf_lines_B4 n _ st _ _ = _
    unfold bf_lines_B4
    rw [if_pos (show (24 : Int32) ≤ c32 i from (c_le (a := 24) (by omega) (by omega)).mpr (by omega)), show i = 24 by omega]
  | succ k ih =>
    intro i fu hi hf
    obtain ⟨fu, rfl⟩ : ∃ m, fu = m + 2 := ⟨fu - 2, by omega⟩
    have hnext : ∀ (y : Int32), bf_lines_S4 n (fu + 1) 1 st y (c32 i) = bf_lines_S4 n fu 0 st y (c32 (i + 1)) := fun y => by
      show bf_lines_S4 n fu 0 st y (c32 i + c32 1) = _
      rw [c_add]
    show bf_lines_B4 n _ st _ _ = _
    unfold bf_lines_B4
    rw [if_neg (fun z => by have := (c_le (a := 24) (b := i) (by omega) (by omega)).mp z; omega), ob (ld_A (show i < 25 by omega))]
    by_cases g : st.2.1 10 i = 0
    · rw [if_pos g, hnext]
      have := ih (i + 1) fu (by omega) (by omega)
      unfold cnt at this
      rw [if_pos g, Nat.add_zero] at this
      exact this
    · rw [if_neg g, hnext]
      have := ih (i + 1) fu (by omega) (by omega)
      rw [show cnt (st.2.1 10) (i + 1) = cnt (st.2.1 10) i + 1 by show cnt (st.2.1 10) i + (if st.2.1 10 i = 0 then 0 else 1) = _; rw [if_neg g], ← c_add] at this
      exact this
theorem b_lines (hn : 1000 ≤ n) : bf_lines n st = some (st, c32 (cnt (st.2.1 10) 24)) := b_linesS 24 0 n (by omega) (by omega)
end PROG
