/-! THE PURE LAW: the model's words -/
def lgt : Nat → Int64 → Option Nat
  | 0, _ => none
  | j + 1, x => if x = 0 then some 0 else (lgt j (x >>> 8)).map (fun m => m + 1)
theorem wv_len : ∀ i : Fin 28, lgt 9 (wv i.val) = some (wb i.val).length := by decide +kernel
theorem wv_at : ∀ (i : Fin 28) (k : Fin 7), k.val < (wb i.val).length → (wv i.val >>> (((8 : Int32) * ((c32 (wb i.val).length - (1 : Int32)) - c32 k.val)).toInt64 &&& 63)) &&& (255 : Int64) = c64 ((wb i.val).getD k.val 0) := by decide +kernel
theorem e_eq {a b : Nat} (ha : a < 2147483648) (hb : b < 2147483648) : c64 a = c64 b ↔ a = b :=
  ⟨fun h => by
    have h2 := congrArg Int64.toInt h
    have e1 : (c64 a).toInt = a := Int64.toInt_ofNat_of_lt (by omega)
    have e2 : (c64 b).toInt = b := Int64.toInt_ofNat_of_lt (by omega)
    rw [e1, e2] at h2
    omega, fun h => by rw [h]⟩
section BWORD
variable {C : pC} {op n : Nat} {st : bS}
theorem b_word {i : Nat} (hi : i < 28) : bf_word n st (c32 i) = some (st, wv i) := by
  match i, hi with
  | 0, _ => rfl
  | 1, _ => rfl
  | 2, _ => rfl
  | 3, _ => rfl
  | 4, _ => rfl
  | 5, _ => rfl
  | 6, _ => rfl
  | 7, _ => rfl
  | 8, _ => rfl
  | 9, _ => rfl
  | 10, _ => rfl
  | 11, _ => rfl
  | 12, _ => rfl
  | 13, _ => rfl
  | 14, _ => rfl
  | 15, _ => rfl
  | 16, _ => rfl
  | 17, _ => rfl
  | 18, _ => rfl
  | 19, _ => rfl
  | 20, _ => rfl
  | 21, _ => rfl
  | 22, _ => rfl
  | 23, _ => rfl
  | 24, _ => rfl
  | 25, _ => rfl
  | 26, _ => rfl
  | 27, _ => rfl
  | k + 28, h => exact absurd h (by omega)
theorem b_letS : ∀ (j : Nat) (x : Int64) (m f a : Nat), lgt j x = some m → j ≤ f → bf_letters_S5 n f st (c32 a) x = some (st, c32 (a + m)) := by
  intro j
  induction j with
  | zero => intro x m f a h _; cases h
  | succ j ih =>
    intro x m f a h hf
    obtain ⟨f, rfl⟩ : ∃ f', f = f' + 1 := ⟨f - 1, by omega⟩
    unfold lgt at h
    rw [bf_letters_S5, bf_letters_B5]
    by_cases g : x = 0
    · rw [if_pos g] at h
      cases h
      rw [if_pos (by exact (lg_cmp_eq x 0).mpr g)]
      rfl
    · rw [if_neg g] at h
      rw [if_neg (fun z => g (by exact (lg_cmp_eq x 0).mp z))]
      cases hl : lgt j (x >>> 8) with
      | none => rw [hl] at h; cases h
      | some m' =>
        rw [hl] at h
        have h : m' + 1 = m := Option.some.inj h
        subst h
        show bf_letters_S5 n f st (c32 a + c32 1) (x >>> 8) = _
        rw [c_add, ih (x >>> 8) m' f (a + 1) hl (by omega), show a + 1 + m' = a + (m' + 1) by omega]
theorem b_letters {i : Nat} (hi : i < 28) (hn : 100 ≤ n) : bf_letters n st (wv i) = some (st, c32 (wb i).length) := by
  have := b_letS (n := n) (st := st) 9 (wv i) (wb i).length n 0 (wv_len ⟨i, hi⟩) (by omega)
  rw [Nat.zero_add] at this
  exact this
theorem b_beginsS (ok : pOk C) {i p m : Nat} {bad : Int32} (hi : i < 28) (h : BP C st p op bad) (hp : p ≤ 60) (hm : m ≤ (wb i).length) : ∀ (u : List Nat) (k f : Nat), (wb i).drop k = u → k ≤ m → u.length + 1 ≤ f →
    bf_begins_S24 n f st (c32 m) (wv i) (c32 (wb i).length) (c32 k) = some (st, if m ≤ k + mt C u (p + k) then 1 else 0) := by
  have h7 : (wb i).length ≤ 7 := (wb_ok ⟨i, hi⟩).2.2
  have hz := (wb_ok ⟨i, hi⟩).1
  intro u
  induction u with
  | nil =>
    intro k f hu hk hf
    obtain ⟨f, rfl⟩ : ∃ f', f = f' + 1 := ⟨f - 1, by omega⟩
    have hl : (wb i).length ≤ k := List.drop_eq_nil_iff.mp hu
    rw [bf_begins_S24, bf_begins_B24, if_pos (by exact (c_le (by omega) (by omega)).mpr (by omega)), if_pos (by omega)]
  | cons c u ih =>
    intro k f hu hk hf
    rw [List.length_cons] at hf
    obtain ⟨f, rfl⟩ : ∃ f', f = f' + 1 := ⟨f - 1, by omega⟩
    rw [bf_begins_S24, bf_begins_B24]
    by_cases g : m ≤ k
    · rw [if_pos (by exact (c_le (by omega) (by omega)).mpr g), if_pos (by omega)]
    · have hkl : k < (wb i).length := by omega
      have hkc : (wb i)[k]? = some c := by
        have := congrArg List.head? hu
        rw [List.head?_drop] at this
        exact this
      have hcm := hz c (List.mem_of_getElem? hkc)
      have hu2 : (wb i).drop (k + 1) = u := by
        have := congrArg List.tail hu
        rw [List.tail_drop] at this
        exact this
      have hlt := ch_lt ok (p + k)
      have hgd : (wb i).getD k 0 = c := by rw [List.getD_eq_getElem?_getD, hkc]; rfl
      have hat := wv_at ⟨i, hi⟩ ⟨k, by omega⟩ hkl
      have hat : (wv i >>> (((8 : Int32) * ((c32 (wb i).length - (1 : Int32)) - c32 k)).toInt64 &&& 63)) &&& (255 : Int64) = c64 ((wb i).getD k 0) := hat
      rw [if_neg (fun z => by have := (c_le (by omega) (by omega)).mp z; omega), ob (b_lookAt (k := k) ok h (by omega))]
      dsimp only
      rw [hat, hgd, e_of (by omega)]
      unfold mt
      by_cases g2 : ch C (p + k) = c
      · rw [if_pos (by exact (lg_cmp_eq _ _).mpr (by rw [g2])), if_pos g2]
        show bf_begins_S24 n f st (c32 m) (wv i) (c32 (wb i).length) (c32 k + c32 1) = _
        rw [c_add, ih (k + 1) f hu2 (by omega) (by omega), show k + 1 + mt C u (p + (k + 1)) = k + (mt C u (p + k + 1) + 1) by rw [Nat.add_assoc p k 1]; omega]
      · rw [if_neg (fun z => g2 (by exact ((e_eq (by omega) (by omega)).mp ((lg_cmp_eq _ _).mp z)).symm)), if_neg g2, if_neg (by omega)]
theorem b_begins (ok : pOk C) {i p m : Nat} {bad : Int32} (hi : i < 28) (h : BP C st p op bad) (hp : p ≤ 60) (hm : m < 100) (hn : 100 ≤ n) : bf_begins n st (c32 i) (c32 m) = some (st, if m ≤ mt C (wb i) p then 1 else 0) := by
  have h7 : (wb i).length ≤ 7 := (wb_ok ⟨i, hi⟩).2.2
  have hl := mt_le C (wb i) p
  unfold bf_begins
  rw [ob (b_word hi), ob (b_letters hi hn)]
  by_cases g : m ≤ (wb i).length
  · rw [if_pos (by exact (c_le (by omega) (by omega)).mpr g)]
    have := b_beginsS (n := n) ok hi h hp g (wb i) 0 n rfl (by omega) (by omega)
    rw [Nat.zero_add] at this
    exact this
  · rw [if_neg (fun z => by have := (c_le (by omega) (by omega)).mp z; omega), if_neg (by omega)]
/-- one look at all the words from lo on, of m letters; none of them is whole with just m -/
theorem b_pass (ok : pOk C) {p lo hi_ m : Nat} (h : BP C st p op 0) (hp : p ≤ 60) (hhi : hi_ < 28) (hm : m < 100) (hn : 100 ≤ n) : ∀ (c k f x4 : Nat), k + c = hi_ + 1 → lo ≤ k → (∀ i, k ≤ i → i ≤ hi_ → ¬ (m ≤ mt C (wb i) p ∧ (wb i).length = m)) → 2 * c + 1 ≤ f → x4 ≤ 1 →
    ∃ f', f' + 2 * c = f ∧ ∃ x4', x4' ≤ 1 ∧ (x4' = 1 ↔ x4 = 1 ∨ ∃ i, k ≤ i ∧ i ≤ hi_ ∧ m ≤ mt C (wb i) p) ∧ bf_takeWord_S2 n f 1 st (c32 lo) (c32 hi_) (c32 m) (c32 x4) (c32 k) = bf_takeWord_S2 n f' 1 st (c32 lo) (c32 hi_) (c32 m) (c32 x4') (c32 (hi_ + 1)) := by
  intro c
  induction c with
  | zero =>
    intro k f x4 hk hlo hno hf hx
    have : k = hi_ + 1 := by omega
    subst this
    exact ⟨f, by omega, x4, hx, ⟨Or.inl, fun z => z.elim id (fun ⟨i, h1, h2, _⟩ => by omega)⟩, rfl⟩
  | succ c ih =>
    intro k f x4 hk hlo hno hf hx
    obtain ⟨f, rfl⟩ : ∃ f', f = f' + 1 + 1 := ⟨f - 2, by omega⟩
    have hk28 : k < 28 := by omega
    have h7 : (wb k).length ≤ 7 := (wb_ok ⟨k, hk28⟩).2.2
    have hnk := hno k (Nat.le_refl _) (by omega)
    have e1 : bf_takeWord_S2 n (f + 1 + 1) 1 st (c32 lo) (c32 hi_) (c32 m) (c32 x4) (c32 k) = bf_takeWord_S2 n f 1 st (c32 lo) (c32 hi_) (c32 m) (if m ≤ mt C (wb k) p then c32 1 else c32 x4) (c32 (k + 1)) := by
      rw [bf_takeWord_S2, if_neg (by first | decide | exact n10), if_pos rfl, bf_takeWord_B15, if_neg (fun z => by have := (c_lt (by omega) (by omega)).mp z; omega), ob (b_begins ok hk28 h hp hm hn)]
      by_cases g : m ≤ mt C (wb k) p
      · rw [if_pos g]
        show (if (1 : Int32) = 0 then _ else (bf_word n st (c32 k)).bind _) = _
        rw [if_neg (by first | decide | exact n10), ob (b_word hk28), ob (b_letters hk28 hn), if_neg (fun z => hnk ⟨g, (c_eq (by omega) (by omega)).mp z⟩), if_pos g, bf_takeWord_S2, if_neg (by first | decide | exact n10), if_neg (by first | decide | exact n10), if_pos rfl, bf_takeWord_B64]
        show bf_takeWord_S2 n f 1 st _ _ _ (c32 1) (c32 k + c32 1) = _
        rw [c_add]
      · rw [if_neg g]
        show (if (0 : Int32) = 0 then _ else (bf_word n st (c32 k)).bind _) = _
        rw [if_pos rfl, if_neg g, bf_takeWord_S2, if_neg (by first | decide | exact n10), if_neg (by first | decide | exact n10), if_pos rfl, bf_takeWord_B64]
        show bf_takeWord_S2 n f 1 st _ _ _ _ (c32 k + c32 1) = _
        rw [c_add]
    have hno' : ∀ i, k + 1 ≤ i → i ≤ hi_ → ¬ (m ≤ mt C (wb i) p ∧ (wb i).length = m) := fun i h1 h2 => hno i (by omega) h2
    by_cases g : m ≤ mt C (wb k) p
    · obtain ⟨f', hf', x', hx', hiff, e⟩ := ih (k + 1) f 1 (by omega) (by omega) hno' (by omega) (by omega)
      refine ⟨f', by omega, x', hx', ⟨fun _ => Or.inr ⟨k, Nat.le_refl _, by omega, g⟩, fun _ => hiff.mpr (Or.inl rfl)⟩, ?_⟩
      rw [e1, if_pos g]
      exact e
    · obtain ⟨f', hf', x', hx', hiff, e⟩ := ih (k + 1) f x4 (by omega) (by omega) hno' (by omega) hx
      refine ⟨f', by omega, x', hx', ⟨fun z => (hiff.mp z).imp id (fun ⟨i, h1, h2, h3⟩ => ⟨i, by omega, h2, h3⟩), fun z => hiff.mpr (z.imp id (fun ⟨i, h1, h2, h3⟩ => ⟨i, by
        apply Classical.byContradiction
        intro hik
        have : i = k := by omega
        subst this
        exact g h3, h2, h3⟩))⟩, ?_⟩
      rw [e1, if_neg g]
      exact e
/-- none of the words stands here -/
theorem b_wordF (ok : pOk C) {p lo c : Nat} (h : BP C st p op 0) (hp : p ≤ C.N) (hhi : lo + c ≤ 28) (hc : 1 ≤ c) (hno : ∀ k, k < c → mt C (wb (lo + k)) p ≠ (wb (lo + k)).length) (hn : 1000 ≤ n) : ∀ (m j f : Nat) (x4 x5 : Int32), 1 ≤ j → j + m = mx C p lo c + 1 → 70 * m + 70 ≤ f →
    bf_takeWord_S2 n f 0 st (c32 lo) (c32 (lo + c - 1)) (c32 j) x4 x5 = some (sI (sI st 4 (c32 (p + mx C p lo c))) 7 1, -1) := by
  have hmx := mx_le C p lo hp c hhi
  have hN := ok.1
  intro m
  induction m with
  | zero =>
    intro j f x4 x5 hj1 hj hf
    obtain ⟨f, rfl⟩ : ∃ f', f = f' + 1 := ⟨f - 1, by omega⟩
    rw [bf_takeWord_S2, if_pos rfl, bf_takeWord_B2, if_pos (by exact h.2.2.2.2)]
    obtain ⟨f', hf', x', hx', hiff, e⟩ := b_pass (n := n) ok (lo := lo) (hi_ := lo + c - 1) (m := j) h (by omega) (by omega) (by omega) (by omega) c lo f 0 (by omega) (by omega) (fun i h1 h2 z => by
      have h3 := mx_ge C p lo c (i - lo) (by omega)
      rw [show lo + (i - lo) = i by omega] at h3
      omega) (by omega) (by omega)
    have e0 : bf_takeWord_S2 n f 1 st (c32 lo) (c32 (lo + c - 1)) (c32 j) (0 : Int32) (c32 lo) = _ := e
    rw [e0]
    have hx0 : x' = 0 := by
      apply Classical.byContradiction
      intro z
      have hx1 : x' = 1 := by omega
      rcases hiff.mp hx1 with z | ⟨i, h1, h2, h3⟩
      · omega
      · have h4 := mx_ge C p lo c (i - lo) (by omega)
        rw [show lo + (i - lo) = i by omega] at h4
        omega
    subst hx0
    obtain ⟨f2, rfl⟩ : ∃ f2, f' = f2 + 1 + 1 + 1 := ⟨f' - 3, by omega⟩
    rw [bf_takeWord_S2, if_neg (by first | decide | exact n10), if_pos rfl, bf_takeWord_B15, if_pos (by exact (c_lt (by omega) (by omega)).mpr (by omega)), if_pos (by rfl)]
    show bf_takeWord_S2 n (f2 + 1 + 1) 3 (sI (sI st 4 (st.1 4 + (c32 j - c32 1))) 7 1) (c32 lo) (c32 (lo + c - 1)) (c32 j) 0 0 = _
    rw [h.2.2.1, c_sub hj1, c_add, show p + (j - 1) = p + mx C p lo c by omega, bf_takeWord_S2, if_neg (by first | decide | exact n10), if_neg (by first | decide | exact n10), if_neg (by first | decide | exact n10), bf_takeWord_B92, bf_takeWord_S2, if_pos rfl, bf_takeWord_B2, if_neg (by first | decide | exact n10)]
  | succ m ih =>
    intro j f x4 x5 hj1 hj hf
    obtain ⟨f, rfl⟩ : ∃ f', f = f' + 1 := ⟨f - 1, by omega⟩
    rw [bf_takeWord_S2, if_pos rfl, bf_takeWord_B2, if_pos (by exact h.2.2.2.2)]
    obtain ⟨f', hf', x', hx', hiff, e⟩ := b_pass (n := n) ok (lo := lo) (hi_ := lo + c - 1) (m := j) h (by omega) (by omega) (by omega) (by omega) c lo f 0 (by omega) (by omega) (fun i h1 h2 z => by
      have h3 := hno (i - lo) (by omega)
      rw [show lo + (i - lo) = i by omega] at h3
      have := mt_le C (wb i) p
      omega) (by omega) (by omega)
    have e0 : bf_takeWord_S2 n f 1 st (c32 lo) (c32 (lo + c - 1)) (c32 j) (0 : Int32) (c32 lo) = _ := e
    rw [e0]
    have hx1 : x' = 1 := by
      obtain ⟨k, h1, h2⟩ := mx_at C p lo c (j - 1) (by omega)
      exact hiff.mpr (Or.inr ⟨lo + k, by omega, by omega, by omega⟩)
    subst hx1
    obtain ⟨f2, rfl⟩ : ∃ f2, f' = f2 + 1 + 1 := ⟨f' - 2, by omega⟩
    rw [bf_takeWord_S2, if_neg (by first | decide | exact n10), if_pos rfl, bf_takeWord_B15, if_pos (by exact (c_lt (by omega) (by omega)).mpr (by omega)), if_neg (by first | decide | exact n10), bf_takeWord_S2, if_neg (by first | decide | exact n10), if_neg (by first | decide | exact n10), if_neg (by first | decide | exact n10), bf_takeWord_B92]
    show bf_takeWord_S2 n f2 0 st _ _ (c32 j + c32 1) _ _ = _
    rw [c_add, ih (j + 1) f2 _ _ (by omega) (by omega) (by omega)]
theorem b_takeWord_f (ok : pOk C) {p lo c : Nat} (h : BP C st p op 0) (hp : p ≤ C.N) (hhi : lo + c ≤ 28) (hc : 1 ≤ c) (hno : ∀ k, k < c → mt C (wb (lo + k)) p ≠ (wb (lo + k)).length) (hn : 1000 ≤ n) {x y : Int32} (hx : x = c32 lo := by rfl) (hy : y = c32 (lo + c - 1) := by rfl) : bf_takeWord n st x y = some (sI (sI st 4 (c32 (p + mx C p lo c))) 7 1, -1) := by
  subst hx hy
  have hmx := mx_le C p lo hp c hhi
  exact b_wordF (n := n) ok h hp hhi hc hno hn (mx C p lo c) 1 n 0 0 (by omega) (by omega) (by omega)
/-- word i stands here -/
theorem b_takeWord_t (ok : pOk C) {p lo c i : Nat} (h : BP C st p op 0) (hp : p ≤ C.N) (hhi : lo + c ≤ 28) (hi1 : lo ≤ i) (hi2 : i < lo + c) (hfu : mt C (wb i) p = (wb i).length) (hn : 1000 ≤ n) {x y : Int32} (hx : x = c32 lo := by rfl) (hy : y = c32 (lo + c - 1) := by rfl) : bf_takeWord n st x y = some (sI st 4 (c32 (p + (wb i).length)), c32 i) := by
  subst hx hy
  have hN := ok.1
  have h7 : 2 ≤ (wb i).length ∧ (wb i).length ≤ 7 := (wb_ok ⟨i, by omega⟩).2
  have huniq : ∀ k, lo ≤ k → k ≤ lo + c - 1 → ∀ m, (m ≤ mt C (wb k) p ∧ (wb k).length = m) → k = i := by
    intro k h1 h2 m ⟨h3, h4⟩
    have := mt_le C (wb k) p
    exact full_1 (by omega) (by omega) (show mt C (wb k) p = (wb k).length by omega) hfu
  have last : ∀ (m k f : Nat) (x4 : Int32), k + m = i → lo ≤ k → 2 * m + 2 ≤ f → bf_takeWord_S2 n f 1 st (c32 lo) (c32 (lo + c - 1)) (c32 (wb i).length) x4 (c32 k) = some (sI st 4 (c32 (p + (wb i).length)), c32 i) := by
    intro m
    induction m with
    | zero =>
      intro k f x4 hk hlo hf
      have hki : k = i := by omega
      subst hki
      obtain ⟨f, rfl⟩ : ∃ f', f = f' + 1 := ⟨f - 1, by omega⟩
      rw [bf_takeWord_S2, if_neg (by first | decide | exact n10), if_pos rfl, bf_takeWord_B15, if_neg (fun z => by have := (c_lt (by omega) (by omega)).mp z; omega), ob (b_begins ok (by omega) h (by omega) (by omega) (by omega)), if_pos (Nat.le_of_eq hfu.symm)]
      show (if (1 : Int32) = 0 then _ else (bf_word n st (c32 k)).bind _) = _
      rw [if_neg (by first | decide | exact n10), ob (b_word (by omega)), ob (b_letters (by omega) (by omega)), if_pos rfl]
      show some (sI st 4 (st.1 4 + c32 (wb k).length), c32 k) = _
      rw [h.2.2.1, c_add]
    | succ m ih =>
      intro k f x4 hk hlo hf
      obtain ⟨f, rfl⟩ : ∃ f', f = f' + 1 + 1 := ⟨f - 2, by omega⟩
      have e9 : ∀ y, bf_takeWord_S2 n (f + 1) 2 st (c32 lo) (c32 (lo + c - 1)) (c32 (wb i).length) y (c32 k) = some (sI st 4 (c32 (p + (wb i).length)), c32 i) := by
        intro y
        rw [bf_takeWord_S2, if_neg (by first | decide | exact n10), if_neg (by first | decide | exact n10), if_pos rfl, bf_takeWord_B64]
        show bf_takeWord_S2 n f 1 st _ _ _ y (c32 k + c32 1) = _
        rw [c_add]
        exact ih (k + 1) f y (by omega) (by omega) (by omega)
      have h7k : (wb k).length ≤ 7 := (wb_ok ⟨k, by omega⟩).2.2
      rw [bf_takeWord_S2, if_neg (by first | decide | exact n10), if_pos rfl, bf_takeWord_B15, if_neg (fun z => by have := (c_lt (by omega) (by omega)).mp z; omega), ob (b_begins ok (by omega) h (by omega) (by omega) (by omega))]
      by_cases g : (wb i).length ≤ mt C (wb k) p
      · rw [if_pos g]
        show (if (1 : Int32) = 0 then _ else (bf_word n st (c32 k)).bind _) = _
        rw [if_neg (by first | decide | exact n10), ob (b_word (by omega)), ob (b_letters (by omega) (by omega)), if_neg (fun z => by
          have := huniq k hlo (by omega) (wb i).length ⟨g, (c_eq (by omega) (by omega)).mp z⟩
          omega)]
        exact e9 _
      · rw [if_neg g]
        show (if (0 : Int32) = 0 then _ else (bf_word n st (c32 k)).bind _) = _
        rw [if_pos rfl]
        exact e9 _
  have key : ∀ (m j f : Nat) (x4 x5 : Int32), 1 ≤ j → j + m = (wb i).length → 70 * m + 70 ≤ f → bf_takeWord_S2 n f 0 st (c32 lo) (c32 (lo + c - 1)) (c32 j) x4 x5 = some (sI st 4 (c32 (p + (wb i).length)), c32 i) := by
    intro m
    induction m with
    | zero =>
      intro j f x4 x5 hj1 hj hf
      have hje : j = (wb i).length := by omega
      subst hje
      obtain ⟨f, rfl⟩ : ∃ f', f = f' + 1 := ⟨f - 1, by omega⟩
      rw [bf_takeWord_S2, if_pos rfl, bf_takeWord_B2, if_pos (by exact h.2.2.2.2)]
      exact last (i - lo) lo f _ (by omega) (by omega) (by omega)
    | succ m ih =>
      intro j f x4 x5 hj1 hj hf
      obtain ⟨f, rfl⟩ : ∃ f', f = f' + 1 := ⟨f - 1, by omega⟩
      rw [bf_takeWord_S2, if_pos rfl, bf_takeWord_B2, if_pos (by exact h.2.2.2.2)]
      obtain ⟨f', hf', x', hx', hiff, e⟩ := b_pass (n := n) ok (lo := lo) (hi_ := lo + c - 1) (m := j) h (by omega) (by omega) (by omega) (by omega) c lo f 0 (by omega) (by omega) (fun k h1 h2 z => by
        have h3 := huniq k h1 h2 j z
        subst h3
        omega) (by omega) (by omega)
      have e0 : bf_takeWord_S2 n f 1 st (c32 lo) (c32 (lo + c - 1)) (c32 j) (0 : Int32) (c32 lo) = _ := e
      rw [e0]
      have hx1 : x' = 1 := hiff.mpr (Or.inr ⟨i, hi1, by omega, by omega⟩)
      subst hx1
      obtain ⟨f2, rfl⟩ : ∃ f2, f' = f2 + 1 + 1 := ⟨f' - 2, by omega⟩
      rw [bf_takeWord_S2, if_neg (by first | decide | exact n10), if_pos rfl, bf_takeWord_B15, if_pos (by exact (c_lt (by omega) (by omega)).mpr (by omega)), if_neg (by first | decide | exact n10), bf_takeWord_S2, if_neg (by first | decide | exact n10), if_neg (by first | decide | exact n10), if_neg (by first | decide | exact n10), bf_takeWord_B92]
      show bf_takeWord_S2 n f2 0 st _ _ (c32 j + c32 1) _ _ = _
      rw [c_add, ih (j + 1) f2 _ _ (by omega) (by omega) (by omega)]
  exact key ((wb i).length - 1) 1 n 0 0 (by omega) (by omega) (by omega)
theorem b_takeWord_b {p : Nat} {lo hi_ : Int32} (h : BP C st p op 1) (hn : 1000 ≤ n) : bf_takeWord n st lo hi_ = some (st, -1) := by
  unfold bf_takeWord
  obtain ⟨f, hff⟩ : ∃ f', n = f' + 1 := ⟨n - 1, by omega⟩
  have : bf_takeWord_S2 n (f + 1) 0 st lo hi_ 1 0 0 = some (st, -1) := by
    rw [bf_takeWord_S2, if_pos rfl, bf_takeWord_B2, if_neg (by rw [h.2.2.2.2]; decide)]
  rw [← hff] at this
  exact this
end BWORD
