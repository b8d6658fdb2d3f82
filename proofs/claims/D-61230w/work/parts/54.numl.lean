/-! THE PURE LAW: numerals -/
/-- up to k digits -/
def dgS (C : pC) : Nat → Nat → Nat → Nat × Nat
  | 0, v, p => (v, p)
  | k + 1, v, p => if dig (ch C p) then dgS C k (10 * v + ch C p - 48) (p + 1) else (v, p)
theorem dgS_s {C : pC} {k v p : Nat} (h : dig (ch C p)) : dgS C (k + 1) v p = dgS C k (10 * v + ch C p - 48) (p + 1) := if_pos h
theorem dgS_e {C : pC} {k v p : Nat} (h : ¬ dig (ch C p)) : dgS C (k + 1) v p = (v, p) := if_neg h
theorem dgS_le (C : pC) (B : Nat) : ∀ (k v p : Nat), (v + 1) * 10 ^ k ≤ B → p ≤ (dgS C k v p).2 ∧ (dgS C k v p).2 ≤ p + k ∧ (p ≤ C.N → (dgS C k v p).2 ≤ C.N) ∧ (dgS C k v p).1 < B ∧ (dig (ch C p) → 0 < k → p < (dgS C k v p).2) := by
  intro k
  induction k with
  | zero => intro v p h; exact ⟨Nat.le_refl _, Nat.le_refl _, id, by show v < B; omega, fun _ h => absurd h (by decide)⟩
  | succ k ih =>
    intro v p h
    unfold dgS
    by_cases g : dig (ch C p)
    · rw [if_pos g]
      obtain ⟨g1, g2⟩ := g
      have hi := ch_in (C := C) (i := p) (by omega)
      have h2 : (10 * v + ch C p - 48 + 1) * 10 ^ k ≤ B := by
        refine Nat.le_trans (Nat.mul_le_mul_right _ (show _ ≤ 10 * (v + 1) by omega)) ?_
        rw [Nat.pow_succ] at h
        have : 10 * (v + 1) * 10 ^ k = (v + 1) * (10 ^ k * 10) := by rw [Nat.mul_comm 10 (v + 1), Nat.mul_assoc, Nat.mul_comm 10 (10 ^ k)]
        omega
      obtain ⟨i1, i2, i3, i4, i5⟩ := ih _ (p + 1) h2
      exact ⟨by omega, by omega, fun _ => i3 (by omega), i4, fun _ _ => by omega⟩
    · rw [if_neg g]
      have h1 : v + 1 ≤ B := Nat.le_trans (Nat.le_mul_of_pos_right _ (Nat.pow_pos (by decide))) h
      exact ⟨Nat.le_refl _, by show p ≤ _; omega, id, by show v < B; omega, fun z => absurd z g⟩
/-- how the model reads a numeral: whether it is one, its digits, its places, where it ends -/
def nuS (C : pC) (p : Nat) : Bool × Nat × Nat × Nat :=
  if dig (ch C p) then
    if ch C (dgS C 6 0 p).2 = 46 then
      if dig (ch C ((dgS C 6 0 p).2 + 1)) then (true, (dgS C 3 (dgS C 6 0 p).1 ((dgS C 6 0 p).2 + 1)).1, (dgS C 3 (dgS C 6 0 p).1 ((dgS C 6 0 p).2 + 1)).2 - ((dgS C 6 0 p).2 + 1), (dgS C 3 (dgS C 6 0 p).1 ((dgS C 6 0 p).2 + 1)).2)
      else (false, 0, 0, (dgS C 6 0 p).2 + 1)
    else (true, (dgS C 6 0 p).1, 0, (dgS C 6 0 p).2)
  else (false, 0, 0, p)
theorem nuS_le {C : pC} {p : Nat} (hp : p ≤ C.N) : p ≤ (nuS C p).2.2.2 ∧ (nuS C p).2.2.2 ≤ C.N ∧ (nuS C p).2.1 < 1000000000 ∧ (nuS C p).2.2.1 ≤ 3 ∧ ((nuS C p).1 = true → p < (nuS C p).2.2.2) := by
  obtain ⟨a1, a2, a3, a4, a5⟩ := dgS_le C 1000000 6 0 p (by decide)
  unfold nuS
  by_cases g : dig (ch C p)
  · rw [if_pos g]
    by_cases g2 : ch C (dgS C 6 0 p).2 = 46
    · rw [if_pos g2]
      have hi := ch_in (C := C) (i := (dgS C 6 0 p).2) (by omega)
      obtain ⟨b1, b2, b3, b4, b5⟩ := dgS_le C 1000000000 3 (dgS C 6 0 p).1 ((dgS C 6 0 p).2 + 1) (by show _ * 1000 ≤ _; omega)
      by_cases g3 : dig (ch C ((dgS C 6 0 p).2 + 1))
      · rw [if_pos g3]
        exact ⟨by show p ≤ (dgS C 3 _ _).2; omega, b3 (by omega), b4, by show _ - _ ≤ 3; omega, fun _ => by show p < (dgS C 3 _ _).2; omega⟩
      · rw [if_neg g3]
        exact ⟨by show p ≤ _ + 1; omega, by show _ + 1 ≤ C.N; omega, by show 0 < _; decide, by show 0 ≤ 3; omega, fun h => nomatch h⟩
    · rw [if_neg g2]
      exact ⟨a1, a3 hp, by show (dgS C 6 0 p).1 < _; omega, by show 0 ≤ 3; omega, fun _ => a5 g (by decide)⟩
  · rw [if_neg g]
    exact ⟨Nat.le_refl _, hp, by show 0 < _; decide, by show 0 ≤ 3; omega, fun h => nomatch h⟩
section NUML
variable {C : pC} {op go n : Nat}
theorem A_dg1 (ok : pOk C) : ∀ (k v p f : Nat) (σ : aS), k ≤ 6 → PA C σ p op go → p ≤ C.N → k + 1 ≤ f →
    af_X3_numeral_S15 n C.S f σ C.P (c64 v) (c32 (6 - k)) = af_X3_numeral_L63 n C.S (ps C σ (dgS C k v p).2 op go) C.P (c64 (dgS C k v p).1) := by
  have hN := ok.1
  intro k
  induction k with
  | zero =>
    intro v p f σ hk h hp hf
    obtain ⟨f, rfl⟩ : ∃ f', f = f' + 1 := ⟨f - 1, by omega⟩
    rw [af_X3_numeral_S15, af_X3_numeral_B15, if_pos (by exact (c_le (a := 6) (b := 6) (by omega) (by omega)).mpr (by omega))]
    show _ = af_X3_numeral_L63 n C.S (ps C σ p op go) C.P (c64 v)
    rw [ps_self h]
  | succ k ih =>
    intro v p f σ hk h hp hf
    have hc := ch_lt ok p
    obtain ⟨f, rfl⟩ : ∃ f', f = f' + 1 := ⟨f - 1, by omega⟩
    rw [af_X3_numeral_S15, af_X3_numeral_B15, if_neg (fun z => by have := (c_le (a := 6) (b := 6 - (k + 1)) (by omega) (by omega)).mp z; omega), ob (A_cls h), oc (A_here ok h (by omega))]
    by_cases hd : dig (ch C p)
    · rw [oc (A_digit_t hd), if_neg (by first | decide | exact n10), ob (A_cls h), oc (A_here ok h (by omega)), dgS_s hd]
      obtain ⟨d1, d2⟩ := hd
      have hi := ch_in (C := C) (i := p) (by omega)
      show (gI σ C.P 2 2).bind _ = _
      rw [ob (A_at h)]
      show (pF σ C.P 2 2 (.int (c32 p + c32 1))).bind _ = _
      rw [c_add, ob (A_setAt h)]
      show af_X3_numeral_S15 n C.S f _ C.P ((c64 10 * c64 v + (c32 (ch C p)).toInt64) - c64 48) (c32 (6 - (k + 1)) + c32 1) = _
      rw [e_of (by omega), e_mul, e_add, e_sub (by omega), c_add, show 6 - (k + 1) + 1 = 6 - k by omega, ih _ (p + 1) f (ps C σ (p + 1) op go) (by omega) h.ps (by omega) (by omega), ps_ps]
    · rw [oc (A_digit_f (by omega) hd), if_pos rfl, dgS_e hd]
      show _ = af_X3_numeral_L63 n C.S (ps C σ p op go) C.P (c64 v)
      rw [ps_self h]
theorem A_dg2 (ok : pOk C) : ∀ (k v p f : Nat) (σ : aS), k ≤ 3 → PA C σ p op go → p ≤ C.N → k + 1 ≤ f →
    af_X3_numeral_S110 n C.S f σ C.P (c64 v) (c32 (3 - k)) (un (3 - k)) = af_X3_numeral_L165 n C.S (ps C σ (dgS C k v p).2 op go) C.P (c64 (dgS C k v p).1) (un (3 - k + ((dgS C k v p).2 - p))) := by
  have hN := ok.1
  intro k
  induction k with
  | zero =>
    intro v p f σ hk h hp hf
    obtain ⟨f, rfl⟩ : ∃ f', f = f' + 1 := ⟨f - 1, by omega⟩
    rw [af_X3_numeral_S110, af_X3_numeral_B110, if_pos (by exact (c_le (a := 3) (b := 3) (by omega) (by omega)).mpr (by omega))]
    show _ = af_X3_numeral_L165 n C.S (ps C σ p op go) C.P (c64 v) (un (3 - 0 + (p - p)))
    rw [ps_self h, Nat.sub_self]
  | succ k ih =>
    intro v p f σ hk h hp hf
    have hc := ch_lt ok p
    obtain ⟨f, rfl⟩ : ∃ f', f = f' + 1 := ⟨f - 1, by omega⟩
    rw [af_X3_numeral_S110, af_X3_numeral_B110, if_neg (fun z => by have := (c_le (a := 3) (b := 3 - (k + 1)) (by omega) (by omega)).mp z; omega), ob (A_cls h), oc (A_here ok h (by omega))]
    by_cases hd : dig (ch C p)
    · rw [oc (A_digit_t hd), if_neg (by first | decide | exact n10), ob (A_cls h), oc (A_here ok h (by omega)), dgS_s hd]
      obtain ⟨d1, d2⟩ := hd
      have hi := ch_in (C := C) (i := p) (by omega)
      show (nN (FP.dmul (un (3 - (k + 1))) 4621819117588971520)).bind _ = _
      rw [ob (nN_of (un_ok (by omega))), ob (A_at h)]
      show (pF σ C.P 2 2 (.int (c32 p + c32 1))).bind _ = _
      rw [c_add, ob (A_setAt h)]
      show af_X3_numeral_S110 n C.S f _ C.P ((c64 10 * c64 v + (c32 (ch C p)).toInt64) - c64 48) (c32 (3 - (k + 1)) + c32 1) (un (3 - (k + 1) + 1)) = _
      have hle := (dgS_le C ((10 * v + ch C p - 48 + 1) * 10 ^ k) k (10 * v + ch C p - 48) (p + 1) (Nat.le_refl _)).1
      rw [e_of (by omega), e_mul, e_add, e_sub (by omega), c_add, show 3 - (k + 1) + 1 = 3 - k by omega, ih _ (p + 1) f (ps C σ (p + 1) op go) (by omega) h.ps (by omega) (by omega), ps_ps, show 3 - k + ((dgS C k (10 * v + ch C p - 48) (p + 1)).2 - (p + 1)) = 3 - (k + 1) + ((dgS C k (10 * v + ch C p - 48) (p + 1)).2 - p) by omega]
    · rw [oc (A_digit_f (by omega) hd), if_pos rfl, dgS_e hd]
      show _ = af_X3_numeral_L165 n C.S (ps C σ p op go) C.P (c64 v) (un (3 - (k + 1) + (p - p)))
      rw [ps_self h, Nat.sub_self]
      rfl
theorem A_numeral_t {σ : aS} {p : Nat} (ok : pOk C) (h : PA C σ p op go) (hp : p ≤ C.N) (hn : 100 ≤ n) (hg : (nuS C p).1 = true) (hd : ¬ dig (ch C (nuS C p).2.2.2)) :
    af_X3_numeral n C.S σ C.P = some (ps C σ (nuS C p).2.2.2 op go, .inl (nuV (nuS C p).2.1 (nuS C p).2.2.1)) := by
  have hN := ok.1
  obtain ⟨a1, a2, a3, a4, a5⟩ := dgS_le C 1000000 6 0 p (by decide)
  have a3 := a3 hp
  unfold nuS at hg hd ⊢
  unfold af_X3_numeral
  rw [ob (A_cls h), oc (A_here ok h (by omega))]
  by_cases g : dig (ch C p)
  · rw [if_pos g] at hg hd ⊢
    rw [oc (A_digit_t g), ob (A_cls h), ox A_need_t]
    show af_X3_numeral_S15 n C.S n σ C.P (c64 0) (c32 (6 - 6)) = _
    rw [A_dg1 ok 6 0 p n σ (by omega) h hp (by omega)]
    have h1 : PA C (ps C σ (dgS C 6 0 p).2 op go) (dgS C 6 0 p).2 op go := h.ps
    unfold af_X3_numeral_L63
    rw [ob (A_cls h1)]
    have hc1 := ch_lt ok (dgS C 6 0 p).2
    by_cases g2 : ch C (dgS C 6 0 p).2 = 46
    · rw [if_pos g2] at hg hd ⊢
      have hi := ch_in (C := C) (i := (dgS C 6 0 p).2) (by omega)
      rw [oc (A_takes_t ok h1 (by omega) g2 (by decide)), if_neg (by first | decide | exact n10), ps_ps]
      have h2 : PA C (ps C σ ((dgS C 6 0 p).2 + 1) op go) ((dgS C 6 0 p).2 + 1) op go := h.ps
      rw [ob (A_cls h2), oc (A_here ok h2 (by omega))]
      by_cases g3 : dig (ch C ((dgS C 6 0 p).2 + 1))
      · rw [if_pos g3] at hg hd ⊢
        rw [oc (A_digit_t g3), ob (A_cls h2), ox A_need_t]
        show af_X3_numeral_S110 n C.S n _ C.P (c64 _) (c32 (3 - 3)) (un (3 - 3)) = _
        obtain ⟨b1, b2, b3, b4, b5⟩ := dgS_le C 1000000000 3 (dgS C 6 0 p).1 ((dgS C 6 0 p).2 + 1) (by show _ * 1000 ≤ _; omega)
        have b3 := b3 (by omega)
        rw [A_dg2 ok 3 _ _ n _ (by omega) h2 (by omega) (by omega), ps_ps, show 3 - 3 + ((dgS C 3 (dgS C 6 0 p).1 ((dgS C 6 0 p).2 + 1)).2 - ((dgS C 6 0 p).2 + 1)) = (dgS C 3 (dgS C 6 0 p).1 ((dgS C 6 0 p).2 + 1)).2 - ((dgS C 6 0 p).2 + 1) by omega]
        generalize dgS C 3 (dgS C 6 0 p).1 ((dgS C 6 0 p).2 + 1) = r at *
        have h3 : PA C (ps C σ r.2 op go) r.2 op go := h.ps
        have hc3 := ch_lt ok r.2
        have hd : ¬ dig (ch C r.2) := hd
        unfold af_X3_numeral_L165
        rw [ob (A_cls h3), oc (A_here ok h3 (by omega)), oc (A_digit_f (by omega) hd), if_pos rfl]
        unfold af_X3_numeral_L181
        rw [ob (A_cls h3), ox A_need_t, nuV_l (by omega), ob (nN_of (nuV_ok (by omega) (by omega)))]
      · rw [if_neg g3] at hg
        cases hg
    · rw [if_neg g2] at hg hd ⊢
      have hd : ¬ dig (ch C (dgS C 6 0 p).2) := hd
      rw [oc (A_takes_f ok h1 (by omega) (by omega) g2), if_pos rfl, ob (A_cls h1), oc (A_here ok h1 (by omega)), oc (A_digit_f (by omega) hd), if_pos rfl]
      unfold af_X3_numeral_L88
      rw [ob (A_cls h1), ox A_need_t, nuV_0 (by omega)]
  · rw [if_neg g] at hg
    cases hg
theorem A_numeral_f {σ : aS} {p : Nat} (ok : pOk C) (h : PA C σ p op go) (hp : p ≤ C.N) (hn : 100 ≤ n) (hg : (nuS C p).1 = false ∨ dig (ch C (nuS C p).2.2.2)) :
    af_X3_numeral n C.S σ C.P = some (aTh (ps C σ (nuS C p).2.2.2 op go), .inr 0) := by
  have hN := ok.1
  have hc0 := ch_lt ok p
  obtain ⟨a1, a2, a3, a4, a5⟩ := dgS_le C 1000000 6 0 p (by decide)
  have a3 := a3 hp
  unfold nuS at hg ⊢
  unfold af_X3_numeral
  rw [ob (A_cls h), oc (A_here ok h (by omega))]
  by_cases g : dig (ch C p)
  · rw [if_pos g] at hg ⊢
    rw [oc (A_digit_t g), ob (A_cls h), ox A_need_t]
    show af_X3_numeral_S15 n C.S n σ C.P (c64 0) (c32 (6 - 6)) = _
    rw [A_dg1 ok 6 0 p n σ (by omega) h hp (by omega)]
    have h1 : PA C (ps C σ (dgS C 6 0 p).2 op go) (dgS C 6 0 p).2 op go := h.ps
    unfold af_X3_numeral_L63
    rw [ob (A_cls h1)]
    have hc1 := ch_lt ok (dgS C 6 0 p).2
    by_cases g2 : ch C (dgS C 6 0 p).2 = 46
    · rw [if_pos g2] at hg ⊢
      have hi := ch_in (C := C) (i := (dgS C 6 0 p).2) (by omega)
      rw [oc (A_takes_t ok h1 (by omega) g2 (by decide)), if_neg (by first | decide | exact n10), ps_ps]
      have h2 : PA C (ps C σ ((dgS C 6 0 p).2 + 1) op go) ((dgS C 6 0 p).2 + 1) op go := h.ps
      have hc2 := ch_lt ok ((dgS C 6 0 p).2 + 1)
      rw [ob (A_cls h2), oc (A_here ok h2 (by omega))]
      by_cases g3 : dig (ch C ((dgS C 6 0 p).2 + 1))
      · rw [if_pos g3] at hg ⊢
        rw [oc (A_digit_t g3), ob (A_cls h2), ox A_need_t]
        show af_X3_numeral_S110 n C.S n _ C.P (c64 _) (c32 (3 - 3)) (un (3 - 3)) = _
        obtain ⟨b1, b2, b3, b4, b5⟩ := dgS_le C 1000000000 3 (dgS C 6 0 p).1 ((dgS C 6 0 p).2 + 1) (by show _ * 1000 ≤ _; omega)
        have b3 := b3 (by omega)
        rw [A_dg2 ok 3 _ _ n _ (by omega) h2 (by omega) (by omega), ps_ps]
        generalize dgS C 3 (dgS C 6 0 p).1 ((dgS C 6 0 p).2 + 1) = r at *
        have h3 : PA C (ps C σ r.2 op go) r.2 op go := h.ps
        have hd : dig (ch C r.2) := hg.resolve_left (fun z => nomatch z)
        unfold af_X3_numeral_L165
        rw [ob (A_cls h3), oc (A_here ok h3 (by omega)), oc (A_digit_t hd), if_neg (by first | decide | exact n10)]
        unfold af_X3_numeral_L181
        rw [ob (A_cls h3), oxr A_need_f]
      · rw [if_neg g3]
        rw [oc (A_digit_f (by omega) g3), ob (A_cls h2), oxr A_need_f]
    · rw [if_neg g2] at hg ⊢
      have hd : dig (ch C (dgS C 6 0 p).2) := hg.resolve_left (fun z => nomatch z)
      rw [oc (A_takes_f ok h1 (by omega) (by omega) g2), if_pos rfl, ob (A_cls h1), oc (A_here ok h1 (by omega)), oc (A_digit_t hd), if_neg (by first | decide | exact n10)]
      unfold af_X3_numeral_L88
      rw [ob (A_cls h1), oxr A_need_f]
  · rw [if_neg g]
    rw [oc (A_digit_f (by omega) g), ob (A_cls h), oxr A_need_f]
    show _ = some (aTh (ps C σ p op go), _)
    rw [ps_self h]
/-! the model's -/
theorem B_dg1 (ok : pOk C) : ∀ (k v p f : Nat) (st : bS) (x3 : Int32), k ≤ 6 → BP C st p op 0 → p ≤ C.N → k + 1 ≤ f →
    bf_numeral_S18 n f st (c32 v) (c32 (6 - k)) x3 = bf_numeral_L67 n (sI st 4 (c32 (dgS C k v p).2)) (c32 (dgS C k v p).1) x3 := by
  have hN := ok.1
  intro k
  induction k with
  | zero =>
    intro v p f st x3 hk h hp hf
    obtain ⟨f, rfl⟩ : ∃ f', f = f' + 1 := ⟨f - 1, by omega⟩
    rw [bf_numeral_S18, bf_numeral_B18, if_pos (by exact h.2.2.2.2)]
    show _ = bf_numeral_L67 n (sI st 4 (c32 p)) (c32 v) x3
    rw [sI_self h.2.2.1]
    by_cases hd : dig (ch C p)
    · rw [ob (b_isDigit_t ok h (by omega) hd), if_neg (by first | decide | exact n10), if_pos (by exact (c_le (a := 6) (b := 6) (by omega) (by omega)).mpr (by omega))]
    · rw [ob (b_isDigit_f ok h (by omega) hd), if_pos rfl]
  | succ k ih =>
    intro v p f st x3 hk h hp hf
    have hc := ch_lt ok p
    obtain ⟨f, rfl⟩ : ∃ f', f = f' + 1 := ⟨f - 1, by omega⟩
    rw [bf_numeral_S18, bf_numeral_B18, if_pos (by exact h.2.2.2.2)]
    by_cases hd : dig (ch C p)
    · rw [ob (b_isDigit_t ok h (by omega) hd), if_neg (by first | decide | exact n10), if_neg (fun z => by have := (c_le (a := 6) (b := 6 - (k + 1)) (by omega) (by omega)).mp z; omega), ob (b_look ok h (by omega)), dgS_s hd]
      obtain ⟨d1, d2⟩ := hd
      have hi := ch_in (C := C) (i := p) (by omega)
      show bf_numeral_S18 n f (sI st 4 (st.1 4 + c32 1)) ((c32 v * c32 10 + c32 (ch C p)) - c32 48) (c32 (6 - (k + 1)) + c32 1) x3 = _
      rw [h.2.2.1, c_add, c_mul, c_add, c_sub (by omega), c_add, show 6 - (k + 1) + 1 = 6 - k by omega, Nat.mul_comm v 10, ih _ (p + 1) f _ x3 (by omega) h.p (by omega) (by omega), sI_sI]
    · rw [ob (b_isDigit_f ok h (by omega) hd), if_pos rfl, dgS_e hd]
      show _ = bf_numeral_L67 n (sI st 4 (c32 p)) (c32 v) x3
      rw [sI_self h.2.2.1]
theorem B_dg2 (ok : pOk C) : ∀ (k v p f : Nat) (st : bS), k ≤ 3 → BP C st p op 0 → p ≤ C.N → k + 1 ≤ f →
    bf_numeral_S88 n f st (c32 v) (c32 (3 - k)) = bf_numeral_L136 n (sI st 4 (c32 (dgS C k v p).2)) (c32 (dgS C k v p).1) (c32 (3 - k + ((dgS C k v p).2 - p))) := by
  have hN := ok.1
  intro k
  induction k with
  | zero =>
    intro v p f st hk h hp hf
    obtain ⟨f, rfl⟩ : ∃ f', f = f' + 1 := ⟨f - 1, by omega⟩
    rw [bf_numeral_S88, bf_numeral_B88, if_pos (by exact h.2.2.2.2)]
    show _ = bf_numeral_L136 n (sI st 4 (c32 p)) (c32 v) (c32 (3 - 0 + (p - p)))
    rw [sI_self h.2.2.1, Nat.sub_self]
    by_cases hd : dig (ch C p)
    · rw [ob (b_isDigit_t ok h (by omega) hd), if_neg (by first | decide | exact n10), if_pos (by exact (c_le (a := 3) (b := 3) (by omega) (by omega)).mpr (by omega))]
    · rw [ob (b_isDigit_f ok h (by omega) hd), if_pos rfl]
  | succ k ih =>
    intro v p f st hk h hp hf
    have hc := ch_lt ok p
    obtain ⟨f, rfl⟩ : ∃ f', f = f' + 1 := ⟨f - 1, by omega⟩
    rw [bf_numeral_S88, bf_numeral_B88, if_pos (by exact h.2.2.2.2)]
    by_cases hd : dig (ch C p)
    · rw [ob (b_isDigit_t ok h (by omega) hd), if_neg (by first | decide | exact n10), if_neg (fun z => by have := (c_le (a := 3) (b := 3 - (k + 1)) (by omega) (by omega)).mp z; omega), ob (b_look ok h (by omega)), dgS_s hd]
      obtain ⟨d1, d2⟩ := hd
      have hi := ch_in (C := C) (i := p) (by omega)
      have hle := (dgS_le C ((10 * v + ch C p - 48 + 1) * 10 ^ k) k (10 * v + ch C p - 48) (p + 1) (Nat.le_refl _)).1
      show bf_numeral_S88 n f (sI st 4 (st.1 4 + c32 1)) ((c32 v * c32 10 + c32 (ch C p)) - c32 48) (c32 (3 - (k + 1)) + c32 1) = _
      rw [h.2.2.1, c_add, c_mul, c_add, c_sub (by omega), c_add, show 3 - (k + 1) + 1 = 3 - k by omega, Nat.mul_comm v 10, ih _ (p + 1) f _ (by omega) h.p (by omega) (by omega), sI_sI, show 3 - k + ((dgS C k (10 * v + ch C p - 48) (p + 1)).2 - (p + 1)) = 3 - (k + 1) + ((dgS C k (10 * v + ch C p - 48) (p + 1)).2 - p) by omega]
    · rw [ob (b_isDigit_f ok h (by omega) hd), if_pos rfl, dgS_e hd]
      show _ = bf_numeral_L136 n (sI st 4 (c32 p)) (c32 v) (c32 (3 - (k + 1) + (p - p)))
      rw [sI_self h.2.2.1, Nat.sub_self]
      rfl
theorem B_L136 {st : bS} {m : Nat} {v w : Int32} (h6 : st.1 6 = c32 m) (hm : m + 3 ≤ 160) : bf_numeral_L136 n st v w = some (mk (mk (mk st m 0) (m + 1) v) (m + 2) w, ()) := by
  unfold bf_numeral_L136
  rw [ob (b_make h6 (by omega)), ob (b_make mk_6 (by omega)), ob (b_make mk_6 (by omega))]
theorem B_L67b {st : bS} {p m : Nat} {v w : Int32} (h : BP C st p op 1) (h6 : st.1 6 = c32 m) (hm : m + 3 ≤ 160) : bf_numeral_L67 n st v w = some (mk (mk (mk st m 0) (m + 1) v) (m + 2) w, ()) := by
  unfold bf_numeral_L67
  rw [ob (b_take_b h), if_pos rfl, B_L136 (m := m) (by exact h6) hm]
theorem B_numeral_t {st : bS} {p m : Nat} (ok : pOk C) (h : BP C st p op 0) (hp : p ≤ C.N) (hn : 100 ≤ n) (h6 : st.1 6 = c32 m) (hm : m + 3 ≤ 160) (hg : (nuS C p).1 = true) :
    bf_numeral n st = some (mk (mk (mk (sI st 4 (c32 (nuS C p).2.2.2)) m (c32 0)) (m + 1) (c32 (nuS C p).2.1)) (m + 2) (c32 (nuS C p).2.2.1), ()) := by
  have hN := ok.1
  obtain ⟨a1, a2, a3, a4, a5⟩ := dgS_le C 1000000 6 0 p (by decide)
  have a3 := a3 hp
  unfold nuS at hg ⊢
  unfold bf_numeral
  by_cases g : dig (ch C p)
  · rw [if_pos g] at hg ⊢
    rw [ob (b_isDigit_t ok h (by omega) g), if_neg (by first | decide | exact n10)]
    show bf_numeral_S18 n n st (c32 0) (c32 (6 - 6)) (c32 0) = _
    rw [B_dg1 ok 6 0 p n st _ (by omega) h hp (by omega)]
    have h1 : BP C (sI st 4 (c32 (dgS C 6 0 p).2)) (dgS C 6 0 p).2 op 0 := h.p
    unfold bf_numeral_L67
    have hc1 := ch_lt ok (dgS C 6 0 p).2
    by_cases g2 : ch C (dgS C 6 0 p).2 = 46
    · rw [if_pos g2] at hg ⊢
      have hi := ch_in (C := C) (i := (dgS C 6 0 p).2) (by omega)
      rw [ob (b_take_t ok h1 (by omega) g2), if_neg (by first | decide | exact n10), sI_sI]
      have h2 : BP C (sI st 4 (c32 ((dgS C 6 0 p).2 + 1))) ((dgS C 6 0 p).2 + 1) op 0 := h.p
      by_cases g3 : dig (ch C ((dgS C 6 0 p).2 + 1))
      · rw [if_pos g3] at hg ⊢
        rw [ob (b_isDigit_t ok h2 (by omega) g3), if_neg (by first | decide | exact n10)]
        show bf_numeral_S88 n n _ _ (c32 (3 - 3)) = _
        rw [B_dg2 ok 3 _ _ n _ (by omega) h2 (by omega) (by omega), sI_sI, B_L136 (m := m) (by exact h6) hm, show 3 - 3 + ((dgS C 3 (dgS C 6 0 p).1 ((dgS C 6 0 p).2 + 1)).2 - ((dgS C 6 0 p).2 + 1)) = (dgS C 3 (dgS C 6 0 p).1 ((dgS C 6 0 p).2 + 1)).2 - ((dgS C 6 0 p).2 + 1) by omega]
        rfl
      · rw [if_neg g3] at hg
        cases hg
    · rw [if_neg g2] at hg ⊢
      rw [ob (b_take_f ok h1 (by omega) (by omega) g2), if_pos rfl, B_L136 (m := m) (by exact h6) hm]
      rfl
  · rw [if_neg g] at hg
    cases hg
theorem B_numeral_f {st : bS} {p m : Nat} (ok : pOk C) (h : BP C st p op 0) (hp : p ≤ C.N) (hn : 100 ≤ n) (h6 : st.1 6 = c32 m) (hm : m + 3 ≤ 160) (hg : (nuS C p).1 = false) :
    ∃ st', bf_numeral n st = some (st', ()) ∧ BP C st' (nuS C p).2.2.2 op 1 ∧ BE st st' ∧ st'.2.1 15 = st.2.1 15 ∧ st'.1 6 = c32 (m + 3) := by
  have hN := ok.1
  obtain ⟨a1, a2, a3, a4, a5⟩ := dgS_le C 1000000 6 0 p (by decide)
  have a3 := a3 hp
  unfold nuS at hg ⊢
  unfold bf_numeral
  have hw : ∀ (s : bS) (v w : Int32), (mk (mk (mk s m 0) (m + 1) v) (m + 2) w).2.1 15 = s.2.1 15 := by
    intro s v w
    unfold mk
    show (sA _ 14 _ _).2.1 15 = _
    rw [sA_ne _ (by decide)]
    show (sA _ 14 _ _).2.1 15 = _
    rw [sA_ne _ (by decide)]
    show (sA _ 14 _ _).2.1 15 = _
    rw [sA_ne _ (by decide)]
  by_cases g : dig (ch C p)
  · rw [if_pos g] at hg ⊢
    rw [ob (b_isDigit_t ok h (by omega) g), if_neg (by first | decide | exact n10)]
    have e1 : bf_numeral_S18 n n st (0 : Int32) (0 : Int32) (0 : Int32) = _ := B_dg1 (n := n) ok 6 0 p n st (c32 0) (by omega) h hp (by omega)
    rw [e1]
    have h1 : BP C (sI st 4 (c32 (dgS C 6 0 p).2)) (dgS C 6 0 p).2 op 0 := h.p
    unfold bf_numeral_L67
    by_cases g2 : ch C (dgS C 6 0 p).2 = 46
    · rw [if_pos g2] at hg ⊢
      have hi := ch_in (C := C) (i := (dgS C 6 0 p).2) (by omega)
      have e2 : bf_take n (sI st 4 (c32 (dgS C 6 0 p).2)) (46 : Int32) = _ := b_take_t (n := n) ok h1 (by omega) g2
      rw [ob e2, if_neg (by first | decide | exact n10), sI_sI]
      have h2 : BP C (sI st 4 (c32 ((dgS C 6 0 p).2 + 1))) ((dgS C 6 0 p).2 + 1) op 0 := h.p
      by_cases g3 : dig (ch C ((dgS C 6 0 p).2 + 1))
      · rw [if_pos g3] at hg
        cases hg
      · rw [if_neg g3]
        rw [ob (b_isDigit_f ok h2 (by omega) g3), if_pos rfl]
        obtain ⟨f, hf⟩ : ∃ f', n = f' + 1 := ⟨n - 1, by omega⟩
        refine ⟨mk (mk (mk (sI (sI st 4 (c32 ((dgS C 6 0 p).2 + 1))) 7 1) m 0) (m + 1) (c32 (dgS C 6 0 p).1)) (m + 2) (c32 0), ?_, (h2.b (b := 1)).mk.mk.mk, ((BE.i4).trans (BE.i7)).trans ((BE.mk.trans BE.mk).trans BE.mk), hw _ _ _, rfl⟩
        show bf_numeral_S88 n n (sI (sI st 4 (c32 ((dgS C 6 0 p).2 + 1))) 7 1) _ _ = _
        have e4 : ∀ v w, bf_numeral_S88 n n (sI (sI st 4 (c32 ((dgS C 6 0 p).2 + 1))) 7 1) v w = bf_numeral_L136 n (sI (sI st 4 (c32 ((dgS C 6 0 p).2 + 1))) 7 1) v w := by
          intro v w
          have : bf_numeral_S88 n (f + 1) (sI (sI st 4 (c32 ((dgS C 6 0 p).2 + 1))) 7 1) v w = bf_numeral_L136 n (sI (sI st 4 (c32 ((dgS C 6 0 p).2 + 1))) 7 1) v w := by
            rw [bf_numeral_S88, bf_numeral_B88, if_neg (by first | decide | exact n10)]
          rw [← hf] at this
          exact this
        rw [e4, B_L136 (m := m) (by exact h6) hm]
    · rw [if_neg g2] at hg
      cases hg
  · rw [if_neg g]
    rw [ob (b_isDigit_f ok h (by omega) g), if_pos rfl]
    obtain ⟨f, hf⟩ : ∃ f', n = f' + 1 := ⟨n - 1, by omega⟩
    refine ⟨mk (mk (mk (sI st 7 1) m 0) (m + 1) 0) (m + 2) 0, ?_, (h.b (b := 1)).mk.mk.mk, (BE.i7).trans ((BE.mk.trans BE.mk).trans BE.mk), hw _ _ _, rfl⟩
    show bf_numeral_S18 n n (sI st 7 1) _ _ _ = _
    have e4 : ∀ v w x, bf_numeral_S18 n n (sI st 7 1) v w x = bf_numeral_L67 n (sI st 7 1) v x := by
      intro v w x
      have : bf_numeral_S18 n (f + 1) (sI st 7 1) v w x = bf_numeral_L67 n (sI st 7 1) v x := by
        rw [bf_numeral_S18, bf_numeral_B18, if_neg (by first | decide | exact n10)]
      rw [← hf] at this
      exact this
    rw [e4, B_L67b (m := m) h.b (by exact h6) hm]
theorem B_numeral_b {st : bS} {p m : Nat} (ok : pOk C) (h : BP C st p op 1) (hp : p ≤ 60) (hn : 100 ≤ n) (h6 : st.1 6 = c32 m) (hm : m + 3 ≤ 160) :
    ∃ st', bf_numeral n st = some (st', ()) ∧ BP C st' p op 1 ∧ BE st st' ∧ st'.1 6 = c32 (m + 3) := by
  unfold bf_numeral
  obtain ⟨f, hf⟩ : ∃ f', n = f' + 1 := ⟨n - 1, by omega⟩
  have e4 : ∀ s v w x, BP C s p op 1 → bf_numeral_S18 n n s v w x = bf_numeral_L67 n s v x := by
    intro s v w x hs
    have : bf_numeral_S18 n (f + 1) s v w x = bf_numeral_L67 n s v x := by
      rw [bf_numeral_S18, bf_numeral_B18, if_neg (by rw [hs.2.2.2.2]; decide)]
    rw [← hf] at this
    exact this
  by_cases g : dig (ch C p)
  · rw [ob (b_isDigit_t ok h hp g), if_neg (by first | decide | exact n10)]
    refine ⟨mk (mk (mk st m 0) (m + 1) 0) (m + 2) 0, ?_, h.mk.mk.mk, (BE.mk.trans BE.mk).trans BE.mk, rfl⟩
    rw [e4 _ _ _ _ h, B_L67b (m := m) h (by exact h6) hm]
  · rw [ob (b_isDigit_f ok h hp g), if_pos rfl]
    refine ⟨mk (mk (mk (sI st 7 1) m 0) (m + 1) 0) (m + 2) 0, ?_, (h.b (b := 1)).mk.mk.mk, (BE.i7).trans ((BE.mk.trans BE.mk).trans BE.mk), rfl⟩
    show bf_numeral_S18 n n (sI st 7 1) _ _ _ = _
    rw [e4 _ _ _ _ h.b, B_L67b (m := m) h.b (by exact h6) hm]
end NUML
