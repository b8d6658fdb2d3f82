/-! THE PURE LAW: a line's number, and numerals -/
theorem ps_self {C : pC} {σ : aS} {at_ op go : Nat} (h : PA C σ at_ op go) : ps C σ at_ op go = σ := by
  show (σ.1, σ.2.1, va_up σ.2.2 C.P (some (pcell C at_ op go))) = σ
  have : va_up σ.2.2 C.P (some (pcell C at_ op go)) = σ.2.2 := by
    funext q
    by_cases g : q = C.P
    · subst g; rw [va_up_self, h.1]
    · rw [va_up_ne _ _ g]
  rw [this]
theorem mv_mv (σ : aS) (a : Nat) (e e' : aE) : mv (mv σ a e) a e' = mv σ a e' := by
  show (σ.1, σ.2.1, va_up (va_up σ.2.2 a (some e)) a (some e')) = (σ.1, σ.2.1, va_up σ.2.2 a (some e'))
  have : va_up (va_up σ.2.2 a (some e)) a (some e') = va_up σ.2.2 a (some e') := by
    funext q
    by_cases g : q = a
    · subst g; rw [va_up_self, va_up_self]
    · rw [va_up_ne _ _ g, va_up_ne _ _ g, va_up_ne _ _ g]
  rw [this]
theorem ps_ps (C : pC) (σ : aS) (a b c a' b' c' : Nat) : ps C (ps C σ a b c) a' b' c' = ps C σ a' b' c' := mv_mv _ _ _ _
theorem sI_self {st : bS} {k : Nat} {v : Int32} (h : st.1 k = v) : sI st k v = st := by
  show (upd st.1 k v, st.2.1, st.2.2) = st
  have : upd st.1 k v = st.1 := by
    funext q
    show (if q = k then v else st.1 q) = _
    by_cases g : q = k
    · subst g; rw [if_pos rfl, h]
    · rw [if_neg g]
  rw [this]
theorem sI_sI (st : bS) (k : Nat) (v w : Int32) : sI (sI st k v) k w = sI st k w := by
  show (upd (upd st.1 k v) k w, st.2.1, st.2.2) = (upd st.1 k w, st.2.1, st.2.2)
  have : upd (upd st.1 k v) k w = upd st.1 k w := by
    funext q
    show (if q = k then w else (if q = k then v else st.1 q)) = if q = k then w else st.1 q
    by_cases g : q = k
    · rw [if_pos g, if_pos g]
    · rw [if_neg g, if_neg g, if_neg g]
  rw [this]
/-- up to k digits of a line's number -/
def nmS (C : pC) : Nat → Nat → Nat → Nat × Nat
  | 0, v, p => (v, p)
  | k + 1, v, p => if dig (ch C p) ∧ ¬ (k = 0 ∧ v = 0 ∧ ch C p = 48) then nmS C k (10 * v + ch C p - 48) (p + 1) else (v, p)
theorem nmS_le (C : pC) : ∀ (k v p : Nat), (v + 1) * 10 ^ k ≤ 1000 → p ≤ (nmS C k v p).2 ∧ (nmS C k v p).2 ≤ p + k ∧ (p ≤ C.N → (nmS C k v p).2 ≤ C.N) ∧ (nmS C k v p).1 < 1000 ∧ (v ≠ 0 → (nmS C k v p).1 ≠ 0) ∧ ((nmS C k v p).1 ≠ 0 → v ≠ 0 ∨ p < (nmS C k v p).2) := by
  intro k
  induction k with
  | zero => intro v p h; exact ⟨Nat.le_refl _, Nat.le_refl _, id, by show v < 1000; omega, id, Or.inl⟩
  | succ k ih =>
    intro v p h
    unfold nmS
    by_cases g : dig (ch C p) ∧ ¬ (k = 0 ∧ v = 0 ∧ ch C p = 48)
    · rw [if_pos g]
      obtain ⟨⟨g1, g2⟩, g3⟩ := g
      have hi := ch_in (C := C) (i := p) (by omega)
      have h2 : (10 * v + ch C p - 48 + 1) * 10 ^ k ≤ 1000 := by
        refine Nat.le_trans (Nat.mul_le_mul_right _ (show _ ≤ 10 * (v + 1) by omega)) ?_
        rw [Nat.pow_succ] at h
        have : 10 * (v + 1) * 10 ^ k = (v + 1) * (10 ^ k * 10) := by rw [Nat.mul_comm 10 (v + 1), Nat.mul_assoc, Nat.mul_comm 10 (10 ^ k)]
        omega
      obtain ⟨i1, i2, i3, i4, i5, i6⟩ := ih _ (p + 1) h2
      exact ⟨by omega, by omega, fun _ => i3 (by omega), i4, fun hv => i5 (by omega), fun _ => Or.inr (by omega)⟩
    · rw [if_neg g]
      have h1 : v + 1 ≤ 1000 := Nat.le_trans (Nat.le_mul_of_pos_right _ (Nat.pow_pos (by decide))) h
      exact ⟨Nat.le_refl _, by show p ≤ _; omega, id, by show v < 1000; omega, id, Or.inl⟩
theorem nmS_s {C : pC} {k v p : Nat} (h : dig (ch C p) ∧ ¬ (k = 0 ∧ v = 0 ∧ ch C p = 48)) : nmS C (k + 1) v p = nmS C k (10 * v + ch C p - 48) (p + 1) := if_pos h
theorem nmS_e {C : pC} {k v p : Nat} (h : ¬ (dig (ch C p) ∧ ¬ (k = 0 ∧ v = 0 ∧ ch C p = 48))) : nmS C (k + 1) v p = (v, p) := if_neg h
def nmA (C : pC) (σ : aS) (op go : Nat) (r : Nat × Nat) : Option (aS × (Int32 ⊕ Nat)) := if r.1 = 0 then some (aTh (ps C σ r.2 op go), .inr 0) else some (ps C σ r.2 op go, .inl (c32 r.1))
def nmB (st : bS) (r : Nat × Nat) : Option (bS × Int32) := if r.1 = 0 then some (sI (sI st 4 (c32 r.2)) 7 1, 0) else some (sI st 4 (c32 r.2), c32 r.1)
theorem nm_pow {v c k : Nat} (hc : c ≤ 57) (h : (v + 1) * 10 ^ (k + 1) ≤ 1000) : (10 * v + c - 48 + 1) * 10 ^ k ≤ 1000 := by
  refine Nat.le_trans (Nat.mul_le_mul_right _ (show _ ≤ 10 * (v + 1) by omega)) ?_
  rw [Nat.pow_succ] at h
  have : 10 * (v + 1) * 10 ^ k = (v + 1) * (10 ^ k * 10) := by rw [Nat.mul_comm 10 (v + 1), Nat.mul_assoc, Nat.mul_comm 10 (10 ^ k)]
  omega
theorem nm_v {v k : Nat} (h : (v + 1) * 10 ^ k ≤ 1000) : v < 1000 := by
  have : v + 1 ≤ 1000 := Nat.le_trans (Nat.le_mul_of_pos_right _ (Nat.pow_pos (by decide))) h
  omega
section NUMS
variable {C : pC} {op go n : Nat}
theorem A_L66 {σ : aS} {p v m : Nat} (h : PA C σ p op go) (hm : m = 0 → v = 0) (hb : v < 100000) (hb2 : m < 100000) : af_X3_number_L66 n C.S σ C.P (c32 v) (c32 m) = nmA C σ op go (v, p) := by
  unfold af_X3_number_L66 af_X3_number_L79 af_X3_number_L80 nmA
  by_cases g : v = 0
  · rw [if_pos (show (v, p).1 = 0 from g)]
    show _ = some (aTh (ps C σ p op go), _)
    rw [ps_self h]
    by_cases g2 : m = 0
    · rw [if_pos (by exact (c_le (a := m) (b := 0) (by omega) (by omega)).mpr (by omega)), ob (A_cls h), oxr A_need_f]
    · rw [if_neg (fun z => by have := (c_le (a := m) (b := 0) (by omega) (by omega)).mp z; omega), if_pos (by exact (c_le (a := v) (b := 0) (by omega) (by omega)).mpr (by omega)), ob (A_cls h), oxr A_need_f]
  · rw [if_neg (show ¬ (v, p).1 = 0 from g)]
    show _ = some (ps C σ p op go, _)
    rw [ps_self h, if_neg (fun z => by have := (c_le (a := m) (b := 0) (by omega) (by omega)).mp z; exact g (hm (by omega))), if_neg (fun z => by have := (c_le (a := v) (b := 0) (by omega) (by omega)).mp z; omega), ob (A_cls h), ox A_need_t]
theorem A_numS (ok : pOk C) : ∀ (k v p f : Nat) (σ : aS) (z : Int32), k ≤ 3 → PA C σ p op go → p ≤ C.N → (v + 1) * 10 ^ k ≤ 1000 → (k = 3 → v = 0) → 3 * k + 1 ≤ f →
    af_X3_number_S4 n C.S f 0 σ C.P (c32 v) (c32 (3 - k)) z = nmA C σ op go (nmS C k v p) := by
  have hN := ok.1
  intro k
  induction k with
  | zero =>
    intro v p f σ z hk h hpN hv hv3 hf
    obtain ⟨f, rfl⟩ : ∃ f', f = f' + 1 := ⟨f - 1, by omega⟩
    rw [af_X3_number_S4, if_pos rfl, af_X3_number_B4, if_pos (by exact (c_le (a := 3) (b := 3) (by omega) (by omega)).mpr (by omega))]
    exact A_L66 h (by omega) (by have := nm_v hv; omega) (by omega)
  | succ k ih =>
    intro v p f σ z hk h hpN hv hv3 hf
    have hc := ch_lt ok p
    have hv1 := nm_v hv
    obtain ⟨f, rfl⟩ : ∃ f', f = f' + 1 + 1 + 1 := ⟨f - 3, by omega⟩
    rw [af_X3_number_S4, if_pos rfl, af_X3_number_B4, if_neg (fun z => by have := (c_le (a := 3) (b := 3 - (k + 1)) (by omega) (by omega)).mp z; omega), ob (A_cls h), oc (A_here ok h (by omega))]
    by_cases hd : dig (ch C p)
    · rw [oc (A_digit_t hd), if_neg (by exact n10), ob (A_cls h), oc (A_here ok h (by omega))]
      have hd' := hd
      obtain ⟨d1, d2⟩ := hd
      have hi := ch_in (C := C) (i := p) (by omega)
      have ev : ((((10 : Int32) * c32 v) + c32 (ch C p)) - (48 : Int32)) = c32 (10 * v + ch C p - 48) := by
        show (c32 10 * c32 v + c32 (ch C p)) - c32 48 = _
        rw [c_mul, c_add, c_sub (by omega)]
      rw [ev]
      show (if 0 < c32 (10 * v + ch C p - 48) then _ else _) = _
      have e3 : af_X3_number_S4 n C.S (f + 1 + 1) 1 σ C.P (c32 (10 * v + ch C p - 48)) (c32 (3 - (k + 1))) 0 = nmA C σ op go (nmS C k (10 * v + ch C p - 48) (p + 1)) := by
        rw [af_X3_number_S4, if_neg (by decide), if_pos rfl, af_X3_number_B42, af_X3_number_S4, if_neg (by decide), if_neg (by decide), af_X3_number_B47, ob (A_cls h), ox A_need_t, ob (A_at h)]
        show (pF σ C.P 2 2 (.int (c32 p + c32 1))).bind _ = _
        rw [c_add, ob (A_setAt h)]
        show af_X3_number_S4 n C.S f 0 _ C.P _ (c32 (3 - (k + 1)) + c32 1) 0 = _
        rw [c_add, show 3 - (k + 1) + 1 = 3 - k by omega, ih (10 * v + ch C p - 48) (p + 1) f (ps C σ (p + 1) op go) 0 (by omega) h.ps (by omega) (nm_pow d2 hv) (by omega) (by omega)]
        unfold nmA
        rw [ps_ps]
      by_cases hs : k = 0 ∧ v = 0 ∧ ch C p = 48
      · rw [nmS_e (fun z => z.2 hs)]
        obtain ⟨rfl, rfl, h48⟩ := hs
        rw [h48, if_neg (by decide), if_pos (by decide), af_X3_number_S4, if_neg (by decide), if_neg (by decide), af_X3_number_B47, ob (A_cls h), oxr A_need_f]
        unfold nmA
        rw [if_pos rfl]
        show _ = some (aTh (ps C σ p op go), _)
        rw [ps_self h]
      · rw [nmS_s ⟨hd', hs⟩]
        by_cases hz : 0 < 10 * v + ch C p - 48
        · rw [if_pos (by exact (c_lt (a := 0) (b := 10 * v + ch C p - 48) (by omega) (by omega)).mpr hz)]
          exact e3
        · rw [if_neg (fun z => hz (by exact (c_lt (a := 0) (b := 10 * v + ch C p - 48) (by omega) (by omega)).mp z)), if_neg (fun z => by have := (c_le (a := 2) (b := 3 - (k + 1)) (by omega) (by omega)).mp z; omega)]
          exact e3
    · rw [oc (A_digit_f (by omega) hd), if_pos rfl, nmS_e (fun z => hd z.1)]
      exact A_L66 h (fun z => hv3 (by omega)) (by omega) (by omega)
abbrev sNum (C : pC) (p : Nat) : Nat × Nat := nmS C 3 0 p
theorem sNum_le (C : pC) (p : Nat) : p ≤ (sNum C p).2 ∧ (sNum C p).2 ≤ p + 3 ∧ (p ≤ C.N → (sNum C p).2 ≤ C.N) ∧ (sNum C p).1 < 1000 ∧ ((sNum C p).1 ≠ 0 → p < (sNum C p).2) := by
  obtain ⟨h1, h2, h3, h4, h5, h6⟩ := nmS_le C 3 0 p (by decide)
  exact ⟨h1, h2, h3, h4, fun h => (h6 h).resolve_left (fun z => z rfl)⟩
theorem A_number_t {σ : aS} {p : Nat} (ok : pOk C) (h : PA C σ p op go) (hp : p ≤ C.N) (hn : 100 ≤ n) (hv : (sNum C p).1 ≠ 0) : af_X3_number n C.S σ C.P = some (ps C σ (sNum C p).2 op go, .inl (c32 (sNum C p).1)) :=
  (A_numS ok 3 0 p n σ 0 (by omega) h hp (by decide) (fun _ => rfl) (by omega)).trans (if_neg hv)
theorem A_number_f {σ : aS} {p : Nat} (ok : pOk C) (h : PA C σ p op go) (hp : p ≤ C.N) (hn : 100 ≤ n) (hv : (sNum C p).1 = 0) : af_X3_number n C.S σ C.P = some (aTh (ps C σ (sNum C p).2 op go), .inr 0) :=
  (A_numS ok 3 0 p n σ 0 (by omega) h hp (by decide) (fun _ => rfl) (by omega)).trans (if_pos hv)
/-! the model's -/
theorem B_L72 {st : bS} {v p op : Nat} (h : BP C st p op 0) (hb : v < 100000) : bf_lineNumber_L72 n st (c32 v) = nmB st (v, p) := by
  unfold bf_lineNumber_L72 nmB
  by_cases g : v = 0
  · rw [if_pos (show (v, p).1 = 0 from g)]
    show _ = some (sI (sI st 4 (c32 p)) 7 1, 0)
    subst g
    rw [sI_self h.2.2.1]
    rfl
  · rw [if_neg (show ¬ (v, p).1 = 0 from g)]
    show _ = some (sI st 4 (c32 p), c32 v)
    rw [sI_self h.2.2.1, if_neg (fun z => g (by exact (c_eq (a := v) (b := 0) (by omega) (by omega)).mp z))]
theorem B_numS (ok : pOk C) : ∀ (k v p f : Nat) (st : bS), k ≤ 3 → BP C st p op 0 → p ≤ C.N → (v + 1) * 10 ^ k ≤ 1000 → 2 * k + 1 ≤ f →
    bf_lineNumber_S13 n f 0 st (c32 v) (c32 (3 - k)) = nmB st (nmS C k v p) := by
  have hN := ok.1
  intro k
  induction k with
  | zero =>
    intro v p f st hk h hpN hv hf
    obtain ⟨f, rfl⟩ : ∃ f', f = f' + 1 := ⟨f - 1, by omega⟩
    rw [bf_lineNumber_S13, if_pos rfl, bf_lineNumber_B13, if_pos (by exact (c_le (a := 3) (b := 3) (by omega) (by omega)).mpr (by omega))]
    exact B_L72 h (by have := nm_v hv; omega)
  | succ k ih =>
    intro v p f st hk h hpN hv hf
    have hc := ch_lt ok p
    have hv1 := nm_v hv
    obtain ⟨f, rfl⟩ : ∃ f', f = f' + 1 + 1 := ⟨f - 2, by omega⟩
    rw [bf_lineNumber_S13, if_pos rfl, bf_lineNumber_B13, if_neg (fun z => by have := (c_le (a := 3) (b := 3 - (k + 1)) (by omega) (by omega)).mp z; omega)]
    by_cases hd : dig (ch C p)
    · have hd' := hd
      obtain ⟨d1, d2⟩ := hd
      have hi := ch_in (C := C) (i := p) (by omega)
      rw [ob (b_isDigit_t ok h (by omega) hd'), if_neg (by exact n10)]
      have e3 : bf_lineNumber_S13 n (f + 1) 1 st (c32 v) (c32 (3 - (k + 1))) = nmB st (nmS C k (10 * v + ch C p - 48) (p + 1)) := by
        rw [bf_lineNumber_S13, if_neg (by decide), bf_lineNumber_B43, ob (b_look ok h (by omega))]
        show bf_lineNumber_S13 n f 0 (sI st 4 (st.1 4 + c32 1)) ((c32 v * c32 10 + c32 (ch C p)) - c32 48) (c32 (3 - (k + 1)) + c32 1) = _
        rw [h.2.2.1, c_add, c_mul, c_add, c_sub (by omega), c_add, show 3 - (k + 1) + 1 = 3 - k by omega, Nat.mul_comm v 10, ih (10 * v + ch C p - 48) (p + 1) f (sI st 4 (c32 (p + 1))) (by omega) h.p (by omega) (nm_pow d2 hv) (by omega)]
        unfold nmB
        rw [sI_sI]
      by_cases hs : k = 0 ∧ v = 0 ∧ ch C p = 48
      · rw [nmS_e (fun z => z.2 hs)]
        obtain ⟨rfl, rfl, h48⟩ := hs
        rw [if_pos (by rfl), if_pos (by rfl), ob (b_look ok h (by omega)), h48, if_pos (by rfl)]
        exact B_L72 h (by omega)
      · rw [nmS_s ⟨hd', hs⟩]
        by_cases k0 : k = 0
        · rw [if_pos (by rw [k0]; rfl)]
          by_cases v0 : v = 0
          · rw [if_pos (by rw [v0]; rfl), ob (b_look ok h (by omega)), if_neg (fun z => hs ⟨k0, v0, by exact (c_eq (a := ch C p) (b := 48) (by omega) (by omega)).mp z⟩)]
            exact e3
          · rw [if_neg (fun z => v0 (by exact (c_eq (a := v) (b := 0) (by omega) (by omega)).mp z))]
            exact e3
        · rw [if_neg (fun z => by have := (c_eq (a := 3 - (k + 1)) (b := 2) (by omega) (by omega)).mp z; omega)]
          exact e3
    · rw [ob (b_isDigit_f ok h (by omega) hd), if_pos rfl, nmS_e (fun z => hd z.1)]
      exact B_L72 h (by omega)
theorem B_number_t {st : bS} {p : Nat} (ok : pOk C) (h : BP C st p op 0) (hp : p ≤ C.N) (hn : 100 ≤ n) (hv : (sNum C p).1 ≠ 0) : bf_lineNumber n st = some (sI st 4 (c32 (sNum C p).2), c32 (sNum C p).1) := by
  unfold bf_lineNumber
  rw [if_pos (by exact h.2.2.2.2)]
  exact (B_numS ok 3 0 p n st (by omega) h hp (by decide) (by omega)).trans (if_neg hv)
theorem B_number_f {st : bS} {p : Nat} (ok : pOk C) (h : BP C st p op 0) (hp : p ≤ C.N) (hn : 100 ≤ n) (hv : (sNum C p).1 = 0) : bf_lineNumber n st = some (sI (sI st 4 (c32 (sNum C p).2)) 7 1, 0) := by
  unfold bf_lineNumber
  rw [if_pos (by exact h.2.2.2.2)]
  exact (B_numS ok 3 0 p n st (by omega) h hp (by decide) (by omega)).trans (if_pos hv)
theorem B_number_b {st : bS} {p : Nat} (h : BP C st p op 1) : bf_lineNumber n st = some (st, 0) := by
  unfold bf_lineNumber
  rw [if_neg (by rw [h.2.2.2.2]; decide)]
end NUMS
