/-! THE PURE LAW: words -/
def wd (i : Nat) : List Nat := (aSb i).map (fun v => v.toNatClampNeg)
def wbL : List (List Nat) := [[76, 69, 84], [80, 82, 73, 78, 84], [73, 70], [71, 79, 84, 79], [79, 78], [71, 79, 83, 85, 66], [82, 69, 84, 85, 82, 78], [70, 79, 82], [78, 69, 88, 84], [82, 69, 65, 68], [68, 65, 84, 65], [82, 69, 83, 84, 79, 82, 69], [68, 73, 77], [68, 69, 70], [77, 65, 84], [82, 69, 77], [69, 78, 68], [84, 72, 69, 78], [84, 79], [83, 84, 69, 80], [90, 69, 82], [67, 79, 78], [73, 68, 78], [84, 82, 78], [65, 66, 83], [73, 78, 84], [83, 71, 78], [70, 78]]
def wb (i : Nat) : List Nat := wbL.getD i []
def wvL : List Int64 := [4998484, 344977919572, 18758, 1196381263, 20302, 306273539394, 90457721098830, 4607826, 1313167444, 1380270404, 1145132097, 23157172289360453, 4475213, 4474182, 5062996, 5391693, 4542020, 1414022478, 21583, 1398031696, 5915986, 4411214, 4801614, 5526094, 4276819, 4804180, 5457742, 17998]
def wv (i : Nat) : Int64 := wvL.getD i 0
theorem wd_map : ∀ i : Fin 28, aSb i.val = (wd i.val).map c32 := by decide +kernel
theorem wd_wb : ∀ i : Fin 17, wd i.val = wb i.val := by decide +kernel
theorem wb_ok : ∀ i : Fin 28, (∀ c ∈ wb i.val, c ≠ 0 ∧ c < 128) ∧ 2 ≤ (wb i.val).length ∧ (wb i.val).length ≤ 7 := by decide +kernel
theorem wd_ok : ∀ i : Fin 28, (∀ c ∈ wd i.val, c ≠ 0 ∧ c < 128) ∧ 2 ≤ (wd i.val).length ∧ (wd i.val).length ≤ 7 := by decide +kernel
theorem wb_pre : ∀ i j : Fin 28, i ≠ j → ¬ (wb i.val <+: wb j.val) := by decide +kernel
/-- how many letters of a word stand here -/
def mt (C : pC) : List Nat → Nat → Nat
  | [], _ => 0
  | c :: w, p => if ch C p = c then mt C w (p + 1) + 1 else 0
theorem mt_le (C : pC) : ∀ (w : List Nat) (p : Nat), mt C w p ≤ w.length := by
  intro w
  induction w with
  | nil => intro p; exact Nat.le_refl _
  | cons c w ih =>
    intro p
    unfold mt
    have := ih (p + 1)
    rw [List.length_cons]
    split <;> omega
theorem mt_in (C : pC) : ∀ (w : List Nat) (p : Nat), (∀ c ∈ w, c ≠ 0) → p ≤ C.N → p + mt C w p ≤ C.N := by
  intro w
  induction w with
  | nil => intro p _ h; exact h
  | cons c w ih =>
    intro p hw h
    unfold mt
    by_cases g : ch C p = c
    · rw [if_pos g]
      have hi := ch_in (C := C) (i := p) (by rw [g]; exact hw c (List.mem_cons_self ..))
      have := ih (p + 1) (fun c hc => hw c (List.mem_cons_of_mem _ hc)) (by omega)
      omega
    · rw [if_neg g]
      exact h
theorem mt_pre (C : pC) : ∀ (w u : List Nat) (p : Nat), mt C w p = w.length → mt C u p = u.length → w.length ≤ u.length → w <+: u := by
  intro w
  induction w with
  | nil => intro u p _ _ _; exact List.nil_prefix
  | cons c w ih =>
    intro u p hw hu hl
    cases u with
    | nil => exact absurd hl (by simp)
    | cons d u =>
      unfold mt at hw hu
      rw [List.length_cons] at hw hu
      by_cases g : ch C p = c
      · rw [if_pos g] at hw
        by_cases g2 : ch C p = d
        · rw [if_pos g2] at hu
          rw [← g, ← g2, List.prefix_cons_inj]
          exact ih u (p + 1) (by omega) (by omega) (by simpa using hl)
        · rw [if_neg g2] at hu
          omega
      · rw [if_neg g] at hw
        omega
theorem full_1 {C : pC} {p i j : Nat} (hi : i < 28) (hj : j < 28) (h1 : mt C (wb i) p = (wb i).length) (h2 : mt C (wb j) p = (wb j).length) : i = j := by
  apply Classical.byContradiction
  intro hne
  rcases Nat.le_total (wb i).length (wb j).length with h | h
  · exact wb_pre ⟨i, hi⟩ ⟨j, hj⟩ (fun z => hne (congrArg Fin.val z)) (mt_pre C _ _ p h1 h2 h)
  · exact wb_pre ⟨j, hj⟩ ⟨i, hi⟩ (fun z => hne (congrArg Fin.val z).symm) (mt_pre C _ _ p h2 h1 h)
/-! the machine's -/
def sInj (S : Nat → Nat) : Prop := ∀ i j, i < 28 → j < 28 → S i = S j → i = j
theorem sIx_of {S : Nat → Nat} {i : Nat} (hS : sInj S) (hi : i < 28) : sIx S (S i) = some i := by
  unfold sIx
  rw [List.find?_range_eq_some]
  refine ⟨by simp, List.mem_range.mpr hi, fun j hj => ?_⟩
  simp only [Bool.not_eq_true', decide_eq_false_iff_not]
  intro z
  have := hS j i (by omega) hi z
  omega
theorem sLen_of {S : Nat → Nat} {i : Nat} (hS : sInj S) (hi : i < 28) : sLen S (S i) = some (c32 (wd i).length) := by
  unfold sLen
  rw [ob (sIx_of hS hi), wd_map ⟨i, hi⟩, List.length_map]
  rfl
theorem sAt_of {S : Nat → Nat} {i k c : Nat} (hS : sInj S) (hi : i < 28) (hk : (wd i)[k]? = some c) : sAt S (S i) (c32 k) = some (c32 c) := by
  have h7 := (wd_ok ⟨i, hi⟩).2.2
  have hk2 := (List.getElem?_eq_some_iff.mp hk).1
  have h7 : (wd i).length ≤ 7 := h7
  unfold sAt
  rw [ob (sIx_of hS hi), if_neg (fun z => by
    have := (c_in (by omega)).mp z
    rw [wd_map ⟨i, hi⟩, List.length_map] at this
    have : (wd i).length ≤ k := this
    omega), c_nat (by omega), wd_map ⟨i, hi⟩]
  show some (((wd i).map c32).getD k 0) = _
  rw [List.getD_eq_getElem?_getD, List.getElem?_map, hk]
  rfl
section WORD
variable {C : pC} {op go n : Nat}
theorem A_same (ok : pOk C) (hS : sInj C.S) {i from_ : Nat} (hi : i < 28) (hfr : from_ ≤ 60) : ∀ (u : List Nat) (k f : Nat) (σ : aS) (at_ : Nat), PA C σ at_ op go → (wd i).drop k = u → k ≤ (wd i).length → u.length + 1 ≤ f →
    af_X3_same_S2 n C.S f σ C.P (some (C.S i)) (c32 from_) (c32 k) = some (σ, c32 (k + mt C u (from_ + k))) := by
  have hN := ok.1
  have h7 : (wd i).length ≤ 7 := (wd_ok ⟨i, hi⟩).2.2
  have hz := (wd_ok ⟨i, hi⟩).1
  intro u
  induction u with
  | nil =>
    intro k f σ at_ h hu hk hf
    obtain ⟨f, rfl⟩ : ∃ f', f = f' + 1 := ⟨f - 1, by omega⟩
    have hl : (wd i).length ≤ k := List.drop_eq_nil_iff.mp hu
    rw [af_X3_same_S2, af_X3_same_B2]
    show (sLen C.S (C.S i)).bind _ = _
    rw [ob (sLen_of hS hi), if_pos (by exact (c_le (by omega) (by omega)).mpr hl)]
    rfl
  | cons c u ih =>
    intro k f σ at_ h hu hk hf
    rw [List.length_cons] at hf
    obtain ⟨f, rfl⟩ : ∃ f', f = f' + 1 := ⟨f - 1, by omega⟩
    have hkl : k < (wd i).length := by
      apply Classical.byContradiction
      intro z
      rw [List.drop_eq_nil_iff.mpr (by omega)] at hu
      cases hu
    have hkc : (wd i)[k]? = some c := by
      have := congrArg List.head? hu
      rw [List.head?_drop] at this
      exact this
    have hcm := hz c (List.mem_of_getElem? hkc)
    have hu2 : (wd i).drop (k + 1) = u := by
      have := congrArg List.tail hu
      rw [List.tail_drop] at this
      exact this
    rw [af_X3_same_S2, af_X3_same_B2]
    show (sLen C.S (C.S i)).bind _ = _
    rw [ob (sLen_of hS hi), if_neg (fun z => by have := (c_le (by omega) (by omega)).mp z; omega), ob (A_len h), c_add]
    unfold mt
    by_cases g : from_ + k < C.N
    · rw [if_neg (fun z => by have := (c_le (by omega) (by omega)).mp z; omega), ob (A_txt h)]
      show (lI σ C.X 0 (c32 (from_ + k))).bind _ = _
      have hcT : ch C (from_ + k) = C.T (from_ + k) := by unfold ch; rw [if_pos g]
      have hlt := ch_lt ok (from_ + k)
      rw [ob (A_chr h (by omega)), ob (sAt_of hS hi hkc), ← hcT]
      by_cases g2 : ch C (from_ + k) = c
      · rw [if_pos (by rw [g2]), if_pos g2]
        show af_X3_same_S2 n C.S f σ C.P (some (C.S i)) (c32 from_) (c32 k + c32 1) = _
        rw [c_add, ih (k + 1) f σ at_ h hu2 (by omega) (by omega), show k + 1 + mt C u (from_ + (k + 1)) = k + (mt C u (from_ + k + 1) + 1) by rw [Nat.add_assoc from_ k 1]; omega]
      · rw [if_neg (fun z => g2 (by exact (c_eq (by omega) (by omega)).mp z)), if_neg g2]
        rfl
    · rw [if_pos (by exact (c_le (by omega) (by omega)).mpr (by omega)), if_neg (by rw [ch_end (by omega)]; exact fun z => hcm.1 z.symm)]
      rfl
theorem A_take2S (ok : pOk C) (hS : sInj C.S) {i : Nat} (hi : i < 28) : ∀ (u : List Nat) (k p f : Nat) (σ : aS), PA C σ p op go → p ≤ C.N → (wd i).drop k = u → k ≤ (wd i).length → u.length + 1 ≤ f →
    (mt C u p = u.length → af_X3_take_2_S2 n C.S f σ C.P (some (C.S i)) (c32 k) = some (ps C σ (p + mt C u p) op go, .inl ())) ∧
    (mt C u p ≠ u.length → af_X3_take_2_S2 n C.S f σ C.P (some (C.S i)) (c32 k) = some (aTh (ps C σ (p + mt C u p) op go), .inr 0)) := by
  have hN := ok.1
  have h7 : (wd i).length ≤ 7 := (wd_ok ⟨i, hi⟩).2.2
  have hz := (wd_ok ⟨i, hi⟩).1
  intro u
  induction u with
  | nil =>
    intro k p f σ h hp hu hk hf
    obtain ⟨f, rfl⟩ : ∃ f', f = f' + 1 := ⟨f - 1, by omega⟩
    have hl : (wd i).length ≤ k := List.drop_eq_nil_iff.mp hu
    refine ⟨fun _ => ?_, fun z => absurd rfl z⟩
    rw [af_X3_take_2_S2, af_X3_take_2_B2]
    show (sLen C.S (C.S i)).bind _ = some (ps C σ p op go, _)
    rw [ob (sLen_of hS hi), if_pos (by exact (c_le (by omega) (by omega)).mpr hl), ps_self h]
  | cons c u ih =>
    intro k p f σ h hp hu hk hf
    rw [List.length_cons] at hf
    obtain ⟨f, rfl⟩ : ∃ f', f = f' + 1 := ⟨f - 1, by omega⟩
    have hkl : k < (wd i).length := by
      apply Classical.byContradiction
      intro z
      rw [List.drop_eq_nil_iff.mpr (by omega)] at hu
      cases hu
    have hkc : (wd i)[k]? = some c := by
      have := congrArg List.head? hu
      rw [List.head?_drop] at this
      exact this
    have hcm := hz c (List.mem_of_getElem? hkc)
    have hu2 : (wd i).drop (k + 1) = u := by
      have := congrArg List.tail hu
      rw [List.tail_drop] at this
      exact this
    have e1 : af_X3_take_2_S2 n C.S (f + 1) σ C.P (some (C.S i)) (c32 k) = xb (af_X3_take n C.S σ C.P (c32 c)) fun st_5 _ => af_X3_take_2_S2 n C.S f st_5 C.P (some (C.S i)) (c32 (k + 1)) := by
      rw [af_X3_take_2_S2, af_X3_take_2_B2]
      show (sLen C.S (C.S i)).bind _ = _
      rw [ob (sLen_of hS hi), if_neg (fun z => by have := (c_le (by omega) (by omega)).mp z; omega), ob (sAt_of hS hi hkc), ob (A_cls h)]
      show xb _ (fun st_5 _ => af_X3_take_2_S2 n C.S f st_5 C.P (some (C.S i)) (c32 k + c32 1)) = _
      rw [c_add]
    rw [e1, List.length_cons]
    unfold mt
    by_cases g : ch C p = c
    · have hi2 := ch_in (C := C) (i := p) (by rw [g]; exact hcm.1)
      rw [if_pos g, ox (A_take_t ok h (by omega) g)]
      have i2 := ih (k + 1) (p + 1) f (ps C σ (p + 1) op go) h.ps (by omega) hu2 (by omega) (by omega)
      rw [ps_ps] at i2
      refine ⟨fun z => ?_, fun z => ?_⟩
      · rw [i2.1 (by omega), show p + 1 + mt C u (p + 1) = p + (mt C u (p + 1) + 1) by omega]
      · rw [i2.2 (by omega), show p + 1 + mt C u (p + 1) = p + (mt C u (p + 1) + 1) by omega]
    · rw [if_neg g, oxr (A_take_f ok h (by omega) hcm.2 g)]
      refine ⟨fun z => absurd z (by omega), fun _ => ?_⟩
      show _ = some (aTh (ps C σ p op go), _)
      rw [ps_self h]
theorem A_take2_t (ok : pOk C) (hS : sInj C.S) {i p : Nat} {σ : aS} (hi : i < 28) (h : PA C σ p op go) (hp : p ≤ C.N) (hn : 100 ≤ n) (hm : mt C (wd i) p = (wd i).length) : af_X3_take_2 n C.S σ C.P (some (C.S i)) = some (ps C σ (p + (wd i).length) op go, .inl ()) := by
  have h7 : (wd i).length ≤ 7 := (wd_ok ⟨i, hi⟩).2.2
  have := (A_take2S (n := n) ok hS hi (wd i) 0 p n σ h hp rfl (by omega) (by omega)).1 hm
  rw [hm] at this
  exact this
theorem A_take2_f (ok : pOk C) (hS : sInj C.S) {i p : Nat} {σ : aS} (hi : i < 28) (h : PA C σ p op go) (hp : p ≤ C.N) (hn : 100 ≤ n) (hm : mt C (wd i) p ≠ (wd i).length) : af_X3_take_2 n C.S σ C.P (some (C.S i)) = some (aTh (ps C σ (p + mt C (wd i) p) op go), .inr 0) := by
  have h7 : (wd i).length ≤ 7 := (wd_ok ⟨i, hi⟩).2.2
  exact (A_take2S (n := n) ok hS hi (wd i) 0 p n σ h hp rfl (by omega) (by omega)).2 hm
/-- the longest part of the words lo .. hi - 1 that stands here -/
def mx (C : pC) (p lo : Nat) : Nat → Nat
  | 0 => 0
  | k + 1 => max (mx C p lo k) (mt C (wb (lo + k)) p)
theorem mx_ge (C : pC) (p lo : Nat) : ∀ (m k : Nat), k < m → mt C (wb (lo + k)) p ≤ mx C p lo m := by
  intro m
  induction m with
  | zero => intro k h; omega
  | succ m ih =>
    intro k h
    unfold mx
    by_cases g : k = m
    · subst g; omega
    · have := ih k (by omega); omega
theorem mx_at (C : pC) (p lo : Nat) : ∀ (m j : Nat), j < mx C p lo m → ∃ k, k < m ∧ j < mt C (wb (lo + k)) p := by
  intro m
  induction m with
  | zero => intro j h; exact absurd h (by show ¬ j < 0; omega)
  | succ m ih =>
    intro j h
    unfold mx at h
    by_cases g : j < mx C p lo m
    · obtain ⟨k, h1, h2⟩ := ih j g
      exact ⟨k, by omega, h2⟩
    · exact ⟨m, by omega, by omega⟩
theorem mx_le (C : pC) (p lo : Nat) (hp : p ≤ C.N) : ∀ (m : Nat), lo + m ≤ 28 → p + mx C p lo m ≤ C.N ∧ mx C p lo m ≤ 7 := by
  intro m
  induction m with
  | zero => intro _; exact ⟨hp, by show 0 ≤ 7; omega⟩
  | succ m ih =>
    intro h
    have h1 := ih (by omega)
    have h2 := mt_in C (wb (lo + m)) p (fun c hc => ((wb_ok ⟨lo + m, by omega⟩).1 c hc).1) hp
    have h3 := mt_le C (wb (lo + m)) p
    have h4 : (wb (lo + m)).length ≤ 7 := (wb_ok ⟨lo + m, by omega⟩).2.2
    unfold mx
    omega
theorem A_wds_at {σ : aS} {at_ k : Nat} (h : PA C σ at_ op go) (hk : k < 17) : lR σ C.W 8 (c32 k) = some (some (C.S k)) := by
  rw [lR_of h.2.2.1 hk (by omega), if_pos hk]
/-- one look at all the words -/
theorem A_pass (ok : pOk C) (hS : sInj C.S) {p j : Nat} (hp : p ≤ C.N) (hj : p + j ≤ C.N) (hno : ∀ k, k < 17 → mt C (wb k) p ≠ (wb k).length) (hn : 100 ≤ n) : ∀ (m k f : Nat) (σ : aS) (x2 : Nat), k + m = 17 → PA C σ (p + j) op go → 2 * m + 1 ≤ f → x2 ≤ 1 →
    ∃ f', f' + 2 * m = f ∧ ∃ x2', x2' ≤ 1 ∧ (x2' = 1 ↔ x2 = 1 ∨ ∃ i, k ≤ i ∧ i < 17 ∧ j < mt C (wb i) p) ∧ af_X3_word_S5 n C.S f 1 σ C.P (c32 p) (c32 x2) (c32 k) = af_X3_word_S5 n C.S f' 1 σ C.P (c32 p) (c32 x2') (c32 17) := by
  have hN := ok.1
  intro m
  induction m with
  | zero =>
    intro k f σ x2 hk h hf hx
    have : k = 17 := by omega
    subst this
    exact ⟨f, by omega, x2, hx, ⟨Or.inl, fun z => z.elim id (fun ⟨i, h1, h2, _⟩ => by omega)⟩, rfl⟩
  | succ m ih =>
    intro k f σ x2 hk h hf hx
    obtain ⟨f, rfl⟩ : ∃ f', f = f' + 1 + 1 := ⟨f - 2, by omega⟩
    have hk17 : k < 17 := by omega
    have e7 : wd k = wb k := wd_wb ⟨k, hk17⟩
    have h7 : (wd k).length ≤ 7 := (wd_ok ⟨k, by omega⟩).2.2
    have hsame : af_X3_same n C.S σ C.P (some (C.S k)) (c32 p) = some (σ, c32 (mt C (wb k) p)) := by
      have := A_same (n := n) (op := op) (go := go) ok hS (i := k) (from_ := p) (by omega) (by omega) (wd k) 0 n σ (p + j) h rfl (by omega) (by omega)
      rw [Nat.zero_add] at this
      rw [← e7]
      exact this
    have hml := mt_le C (wb k) p
    rw [← e7] at hml
    have hnk := hno k hk17
    rw [← e7] at hnk
    have e1 : ∀ x2 : Nat, af_X3_word_S5 n C.S (f + 1 + 1) 1 σ C.P (c32 p) (c32 x2) (c32 k) = af_X3_word_S5 n C.S f 1 σ C.P (c32 p) (if j < mt C (wb k) p then 1 else c32 x2) (c32 (k + 1)) := by
      intro x2
      rw [af_X3_word_S5, if_neg (by first | decide | exact n10), if_pos rfl, af_X3_word_B9, ob (A_wds h)]
      show (aLen σ C.W).bind _ = _
      have hal : aLen σ C.W = some (c32 17) := by
        unfold aLen
        rw [h.2.2.1]
        rfl
      rw [ob hal, if_neg (fun z => by have := (c_le (a := 17) (b := k) (by omega) (by omega)).mp z; omega), ob (A_wds h)]
      show (lR σ C.W 8 (c32 k)).bind _ = _
      rw [ob (A_wds_at h hk17), ob (A_cls h), oc hsame, ob (A_wds h)]
      show (lR σ C.W 8 (c32 k)).bind _ = _
      rw [ob (A_wds_at h hk17)]
      show (sLen C.S (C.S k)).bind _ = _
      rw [ob (sLen_of hS (by omega)), if_neg (fun z => by have := (c_eq (by rw [← e7]; omega) (by omega)).mp z; rw [← e7] at this; exact hnk this), ob (A_at h)]
      show (if c32 (mt C (wb k) p) ≤ c32 (p + j) - c32 p then _ else _) = _
      rw [c_sub (by omega), show p + j - p = j by omega, ← e7]
      by_cases g : j < mt C (wd k) p
      · rw [if_neg (fun z => by have := (c_le (by omega) (by omega)).mp z; omega), if_pos g, af_X3_word_S5, if_neg (by first | decide | exact n10), if_neg (by first | decide | exact n10), af_X3_word_B73]
        show af_X3_word_S5 n C.S f 1 σ C.P (c32 p) 1 (c32 k + c32 1) = _
        rw [c_add]
      · rw [if_pos (by exact (c_le (by omega) (by omega)).mpr (by omega)), if_neg g, af_X3_word_S5, if_neg (by first | decide | exact n10), if_neg (by first | decide | exact n10), af_X3_word_B73]
        show af_X3_word_S5 n C.S f 1 σ C.P (c32 p) (c32 x2) (c32 k + c32 1) = _
        rw [c_add]
    by_cases g : j < mt C (wb k) p
    · obtain ⟨f', hf', x', hx', hiff, e⟩ := ih (k + 1) f σ 1 (by omega) h (by omega) (by omega)
      refine ⟨f', by omega, x', hx', ⟨fun _ => Or.inr ⟨k, Nat.le_refl _, hk17, g⟩, fun _ => hiff.mpr (Or.inl rfl)⟩, ?_⟩
      rw [e1, if_pos g]
      exact e
    · obtain ⟨f', hf', x', hx', hiff, e⟩ := ih (k + 1) f σ x2 (by omega) h (by omega) hx
      refine ⟨f', by omega, x', hx', ⟨fun z => (hiff.mp z).imp id (fun ⟨i, h1, h2, h3⟩ => ⟨i, by omega, h2, h3⟩), fun z => hiff.mpr (z.imp id (fun ⟨i, h1, h2, h3⟩ => ⟨i, by
        apply Classical.byContradiction
        intro hik
        have : i = k := by omega
        subst this
        exact g h3, h2, h3⟩))⟩, ?_⟩
      rw [e1, if_neg g]
      exact e
theorem A_wordF (ok : pOk C) (hS : sInj C.S) {p : Nat} (hp : p ≤ C.N) (hno : ∀ k, k < 17 → mt C (wb k) p ≠ (wb k).length) (hn : 1000 ≤ n) : ∀ (m j f : Nat) (σ : aS) (x2 x3 : Int32), j + m = mx C p 0 17 → PA C σ (p + j) op go → 40 * m + 40 ≤ f →
    af_X3_word_S5 n C.S f 0 σ C.P (c32 p) x2 x3 = some (aTh (ps C σ (p + mx C p 0 17) op go), .inr 0) := by
  have hmx := mx_le C p 0 hp 17 (by omega)
  have hN := ok.1
  intro m
  induction m with
  | zero =>
    intro j f σ x2 x3 hj h hf
    obtain ⟨f, rfl⟩ : ∃ f', f = f' + 1 := ⟨f - 1, by omega⟩
    rw [af_X3_word_S5, if_pos rfl, af_X3_word_B5]
    obtain ⟨f', hf', x', hx', hiff, e⟩ := A_pass (n := n) (op := op) (go := go) ok hS hp (j := j) (by omega) hno (by omega) 17 0 f σ 0 (by omega) h (by omega) (by omega)
    have e0 : af_X3_word_S5 n C.S f 1 σ C.P (c32 p) 0 0 = _ := e
    rw [e0]
    have hx0 : x' = 0 := by
      apply Classical.byContradiction
      intro z
      have hx1 : x' = 1 := by omega
      rcases hiff.mp hx1 with z | ⟨i, _, h2, h3⟩
      · omega
      · have := mx_ge C p 0 17 i h2
        rw [Nat.zero_add] at this
        omega
    subst hx0
    obtain ⟨f'', rfl⟩ : ∃ f'', f' = f'' + 1 := ⟨f' - 1, by omega⟩
    rw [af_X3_word_S5, if_neg (by first | decide | exact n10), if_pos rfl, af_X3_word_B9, ob (A_wds h)]
    show (aLen σ C.W).bind _ = _
    have hal : aLen σ C.W = some (c32 17) := by
      unfold aLen
      rw [h.2.2.1]
      rfl
    rw [ob hal, if_pos (by exact (c_le (a := 17) (b := 17) (by omega) (by omega)).mpr (by omega)), ob (A_cls h)]
    show xb (af_X3_need n C.S σ C.P 0) _ = _
    rw [oxr A_need_f, show p + mx C p 0 17 = p + j by omega, ps_self h]
  | succ m ih =>
    intro j f σ x2 x3 hj h hf
    obtain ⟨f, rfl⟩ : ∃ f', f = f' + 1 := ⟨f - 1, by omega⟩
    rw [af_X3_word_S5, if_pos rfl, af_X3_word_B5]
    obtain ⟨f', hf', x', hx', hiff, e⟩ := A_pass (n := n) (op := op) (go := go) ok hS hp (j := j) (by omega) hno (by omega) 17 0 f σ 0 (by omega) h (by omega) (by omega)
    have e0 : af_X3_word_S5 n C.S f 1 σ C.P (c32 p) 0 0 = _ := e
    rw [e0]
    have hx1 : x' = 1 := by
      obtain ⟨k, h1, h2⟩ := mx_at C p 0 17 j (by omega)
      rw [Nat.zero_add] at h2
      exact hiff.mpr (Or.inr ⟨k, Nat.zero_le _, h1, h2⟩)
    subst hx1
    obtain ⟨f'', rfl⟩ : ∃ f'', f' = f'' + 1 := ⟨f' - 1, by omega⟩
    rw [af_X3_word_S5, if_neg (by first | decide | exact n10), if_pos rfl, af_X3_word_B9, ob (A_wds h)]
    show (aLen σ C.W).bind _ = _
    have hal : aLen σ C.W = some (c32 17) := by
      unfold aLen
      rw [h.2.2.1]
      rfl
    rw [ob hal, if_pos (by exact (c_le (a := 17) (b := 17) (by omega) (by omega)).mpr (by omega)), ob (A_cls h)]
    show xb (af_X3_need n C.S σ C.P 1) _ = _
    rw [ox A_need_t, ob (A_at h)]
    show (pF σ C.P 2 2 (.int (c32 (p + j) + c32 1))).bind _ = _
    rw [c_add, ob (A_setAt h), Nat.add_assoc, ih (j + 1) f'' (ps C σ (p + (j + 1)) op go) _ _ (by omega) h.ps (by omega), ps_ps]
theorem A_word_f (ok : pOk C) (hS : sInj C.S) {p : Nat} {σ : aS} (hp : p ≤ C.N) (h : PA C σ p op go) (hno : ∀ k, k < 17 → mt C (wb k) p ≠ (wb k).length) (hn : 1000 ≤ n) : af_X3_word n C.S σ C.P = some (aTh (ps C σ (p + mx C p 0 17) op go), .inr 0) := by
  have hmx := mx_le C p 0 hp 17 (by omega)
  unfold af_X3_word
  rw [ob (A_at h), A_wordF (n := n) ok hS hp hno hn (mx C p 0 17) 0 n σ 0 0 (by omega) h (by omega)]
theorem A_word_t (ok : pOk C) (hS : sInj C.S) {p i : Nat} {σ : aS} (hp : p ≤ C.N) (h : PA C σ p op go) (hi : i < 17) (hf : mt C (wb i) p = (wb i).length) (hn : 1000 ≤ n) : af_X3_word n C.S σ C.P = some (ps C σ (p + (wb i).length) op go, .inl (some (C.S i))) := by
  have hN := ok.1
  unfold af_X3_word
  rw [ob (A_at h)]
  have key : ∀ (m k f : Nat) (x2 : Int32), k + m = i → 2 * m + 2 ≤ f → af_X3_word_S5 n C.S f 1 σ C.P (c32 p) x2 (c32 k) = some (ps C σ (p + (wb i).length) op go, .inl (some (C.S i))) := by
    intro m
    induction m with
    | zero =>
      intro k f x2 hk hff
      have hki : k = i := by omega
      subst hki
      obtain ⟨f, rfl⟩ : ∃ f', f = f' + 1 := ⟨f - 1, by omega⟩
      have e7 : wd k = wb k := wd_wb ⟨k, hi⟩
      have h7 : (wd k).length ≤ 7 := (wd_ok ⟨k, by omega⟩).2.2
      have hsame : af_X3_same n C.S σ C.P (some (C.S k)) (c32 p) = some (σ, c32 (wb k).length) := by
        have := A_same (n := n) (op := op) (go := go) ok hS (i := k) (from_ := p) (by omega) (by omega) (wd k) 0 n σ p h rfl (by omega) (by omega)
        rw [Nat.zero_add] at this
        rw [← hf, ← e7]
        exact this
      rw [af_X3_word_S5, if_neg (by first | decide | exact n10), if_pos rfl, af_X3_word_B9, ob (A_wds h)]
      show (aLen σ C.W).bind _ = _
      have hal : aLen σ C.W = some (c32 17) := by
        unfold aLen
        rw [h.2.2.1]
        rfl
      rw [ob hal, if_neg (fun z => by have := (c_le (a := 17) (b := k) (by omega) (by omega)).mp z; omega), ob (A_wds h)]
      show (lR σ C.W 8 (c32 k)).bind _ = _
      rw [ob (A_wds_at h hi), ob (A_cls h), oc hsame, ob (A_wds h)]
      show (lR σ C.W 8 (c32 k)).bind _ = _
      rw [ob (A_wds_at h hi)]
      show (sLen C.S (C.S k)).bind _ = _
      rw [ob (sLen_of hS (by omega)), if_pos (by rw [e7]), c_add, ob (A_setAt h), ob (A_wds h.ps)]
      show (lR _ C.W 8 (c32 k)).bind _ = _
      rw [ob (A_wds_at h.ps hi)]
    | succ m ih =>
      intro k f x2 hk hff
      obtain ⟨f, rfl⟩ : ∃ f', f = f' + 1 + 1 := ⟨f - 2, by omega⟩
      have e7 : wd k = wb k := wd_wb ⟨k, by omega⟩
      have h7 : (wd k).length ≤ 7 := (wd_ok ⟨k, by omega⟩).2.2
      have hsame : af_X3_same n C.S σ C.P (some (C.S k)) (c32 p) = some (σ, c32 (mt C (wb k) p)) := by
        have := A_same (n := n) (op := op) (go := go) ok hS (i := k) (from_ := p) (by omega) (by omega) (wd k) 0 n σ p h rfl (by omega) (by omega)
        rw [Nat.zero_add] at this
        rw [← e7]
        exact this
      have hml := mt_le C (wb k) p
      rw [← e7] at hml
      have hnk : mt C (wd k) p ≠ (wd k).length := fun z => by
        rw [e7] at z
        have := full_1 (by omega) (by omega) z hf
        omega
      rw [af_X3_word_S5, if_neg (by first | decide | exact n10), if_pos rfl, af_X3_word_B9, ob (A_wds h)]
      show (aLen σ C.W).bind _ = _
      have hal : aLen σ C.W = some (c32 17) := by
        unfold aLen
        rw [h.2.2.1]
        rfl
      rw [ob hal, if_neg (fun z => by have := (c_le (a := 17) (b := k) (by omega) (by omega)).mp z; omega), ob (A_wds h)]
      show (lR σ C.W 8 (c32 k)).bind _ = _
      rw [ob (A_wds_at h (by omega)), ob (A_cls h), oc hsame, ob (A_wds h)]
      show (lR σ C.W 8 (c32 k)).bind _ = _
      rw [ob (A_wds_at h (by omega))]
      show (sLen C.S (C.S k)).bind _ = _
      rw [ob (sLen_of hS (by omega)), if_neg (fun z => by have := (c_eq (by rw [← e7]; omega) (by omega)).mp z; rw [← e7] at this; exact hnk this), ob (A_at h)]
      have e9 : ∀ y, af_X3_word_S5 n C.S (f + 1) 2 σ C.P (c32 p) y (c32 k) = some (ps C σ (p + (wb i).length) op go, .inl (some (C.S i))) := by
        intro y
        rw [af_X3_word_S5, if_neg (by first | decide | exact n10), if_neg (by first | decide | exact n10), af_X3_word_B73]
        show af_X3_word_S5 n C.S f 1 σ C.P (c32 p) y (c32 k + c32 1) = _
        rw [c_add]
        exact ih (k + 1) f y (by omega) (by omega)
      split
      · exact e9 _
      · exact e9 _
  obtain ⟨f, hff⟩ : ∃ f', n = f' + 1 := ⟨n - 1, by omega⟩
  have : af_X3_word_S5 n C.S (f + 1) 0 σ C.P (c32 p) 0 0 = some (ps C σ (p + (wb i).length) op go, .inl (some (C.S i))) := by
    rw [af_X3_word_S5, if_pos rfl, af_X3_word_B5]
    exact key i 0 f _ (by omega) (by omega)
  rw [← hff] at this
  exact this
end WORD
