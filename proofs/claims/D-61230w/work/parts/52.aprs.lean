/-! THE PURE LAW: the machine's parser, its small steps -/
theorem oc {α β : Type} {z : Option (aS × α)} {f : aS → α → Option β} {σ : aS} {a : α} (h : z = some (σ, a)) : cb z f = f σ a := by rw [h]; rfl
theorem ox {α β : Type} {z : Option (aS × (α ⊕ Nat))} {f : aS → α → Option (aS × (β ⊕ Nat))} {σ : aS} {a : α} (h : z = some (σ, .inl a)) : xb z f = f σ a := by rw [h]; rfl
theorem oxr {α β : Type} {z : Option (aS × (α ⊕ Nat))} {f : aS → α → Option (aS × (β ⊕ Nat))} {σ : aS} {k : Nat} (h : z = some (σ, .inr k)) : xb z f = some (σ, .inr k) := by rw [h]; rfl
def mv (σ : aS) (a : Nat) (e : aE) : aS := (σ.1, σ.2.1, va_up σ.2.2 a (some e))
theorem mv_at (σ : aS) (a : Nat) (e : aE) : (mv σ a e).2.2 a = some e := va_up_self _ _ _
theorem mv_ne (σ : aS) {a q : Nat} (e : aE) (h : q ≠ a) : (mv σ a e).2.2 q = σ.2.2 q := va_up_ne _ _ h
theorem gF_of {σ : aS} {a ci k : Nat} {fs : List Value} (h : σ.2.2 a = some (.inr (ci, fs))) : gF σ a ci k = fs[k]? := by
  unfold gF
  rw [h]
  exact if_pos rfl
theorem gI_of {σ : aS} {a ci k : Nat} {fs : List Value} {v : Int32} (h : σ.2.2 a = some (.inr (ci, fs))) (g : fs[k]? = some (.int v)) : gI σ a ci k = some v := by
  unfold gI
  rw [gF_of h, g]
theorem gD_of {σ : aS} {a ci k : Nat} {fs : List Value} {v : UInt64} (h : σ.2.2 a = some (.inr (ci, fs))) (g : fs[k]? = some (.double v)) : gD σ a ci k = some v := by
  unfold gD
  rw [gF_of h, g]
theorem gR_of {σ : aS} {a ci k : Nat} {fs : List Value} {v : Option Nat} (h : σ.2.2 a = some (.inr (ci, fs))) (g : fs[k]? = some (va_rf v)) : gR σ a ci k = some v := by
  unfold gR
  rw [gF_of h, g]
  cases v <;> rfl
theorem gC_of {σ : aS} {a ci : Nat} {fs : List Value} (h : σ.2.2 a = some (.inr (ci, fs))) : gC σ a ci = some () := by
  unfold gC
  rw [h]
  exact if_pos rfl
theorem pF_of {σ : aS} {a ci k : Nat} {fs : List Value} {v : Value} (h : σ.2.2 a = some (.inr (ci, fs))) (g : k < fs.length) : pF σ a ci k v = some (mv σ a (.inr (ci, fs.set k v))) := by
  unfold pF
  rw [h]
  exact if_pos ⟨rfl, g⟩
theorem lI_of {σ : aS} {a t m i : Nat} {f : Nat → Int32} (h : σ.2.2 a = some (.inl (t, m, .inl f))) (hi : i < m) (hb : i < 2147483648) : lI σ a t (c32 i) = some (f i) := by
  unfold lI
  rw [h]
  show (if t = t ∧ ¬ (c32 i < 0 ∨ m ≤ (c32 i).toNatClampNeg) then _ else _) = _
  rw [if_pos ⟨rfl, fun z => by have := (c_in hb).mp z; omega⟩, c_nat hb]
theorem lD_of {σ : aS} {a m i : Nat} {f : Nat → UInt64} (h : σ.2.2 a = some (.inl (2, m, .inr (.inr (.inr (.inl f)))))) (hi : i < m) (hb : i < 2147483648) : lD σ a (c32 i) = some (f i) := by
  unfold lD
  rw [h]
  show (if 2 = 2 ∧ ¬ (c32 i < 0 ∨ m ≤ (c32 i).toNatClampNeg) then _ else _) = _
  rw [if_pos ⟨rfl, fun z => by have := (c_in hb).mp z; omega⟩, c_nat hb]
theorem lR_of {σ : aS} {a t m i : Nat} {f : Nat → Option Nat} (h : σ.2.2 a = some (.inl (t, m, .inr (.inr (.inr (.inr f)))))) (hi : i < m) (hb : i < 2147483648) : lR σ a t (c32 i) = some (f i) := by
  unfold lR
  rw [h]
  show (if t = t ∧ ¬ (c32 i < 0 ∨ m ≤ (c32 i).toNatClampNeg) then _ else _) = _
  rw [if_pos ⟨rfl, fun z => by have := (c_in hb).mp z; omega⟩, c_nat hb]
theorem wI_of {σ : aS} {a t m i : Nat} {v : Int32} {f : Nat → Int32} (h : σ.2.2 a = some (.inl (t, m, .inl f))) (hi : i < m) (hb : i < 2147483648) : wI σ a t (c32 i) v = some (mv σ a (.inl (t, m, .inl (upd f i v)))) := by
  unfold wI
  rw [h]
  show (if t = t ∧ ¬ (c32 i < 0 ∨ m ≤ (c32 i).toNatClampNeg) then _ else _) = _
  rw [if_pos ⟨rfl, fun z => by have := (c_in hb).mp z; omega⟩, c_nat hb]
  rfl
theorem wD_of {σ : aS} {a m i : Nat} {v : UInt64} {f : Nat → UInt64} (h : σ.2.2 a = some (.inl (2, m, .inr (.inr (.inr (.inl f)))))) (hi : i < m) (hb : i < 2147483648) : wD σ a (c32 i) v = some (mv σ a (.inl (2, m, .inr (.inr (.inr (.inl (vf_upd f i v))))))) := by
  unfold wD
  rw [h]
  show (if 2 = 2 ∧ ¬ (c32 i < 0 ∨ m ≤ (c32 i).toNatClampNeg) then _ else _) = _
  rw [if_pos ⟨rfl, fun z => by have := (c_in hb).mp z; omega⟩, c_nat hb]
  rfl
theorem wR_of {σ : aS} {a t m i : Nat} {v : Option Nat} {f : Nat → Option Nat} (h : σ.2.2 a = some (.inl (t, m, .inr (.inr (.inr (.inr f)))))) (hi : i < m) (hb : i < 2147483648) : wR σ a t (c32 i) v = some (mv σ a (.inl (t, m, .inr (.inr (.inr (.inr (va_up f i v))))))) := by
  unfold wR
  rw [h]
  show (if t = t ∧ ¬ (c32 i < 0 ∨ m ≤ (c32 i).toNatClampNeg) then _ else _) = _
  rw [if_pos ⟨rfl, fun z => by have := (c_in hb).mp z; omega⟩, c_nat hb]
  rfl
theorem cz_of {a : Nat} (h : a < 65536) : cz (c32 a) = some (c32 a) := by
  unfold cz
  refine if_pos ?_
  have h1 : (c32 a).toUInt32 = UInt32.ofNat a := rfl
  rw [h1]
  apply Int32.toInt_inj.mp
  rw [c_toInt (by omega)]
  have h2 : (UInt32.ofNat a % 65536) = UInt32.ofNat a := by
    apply UInt32.toNat_inj.mp
    rw [UInt32.toNat_mod]
    have : (UInt32.ofNat a).toNat = a := UInt32.toNat_ofNat_of_lt (by show a < 4294967296; omega)
    rw [this]
    show a % 65536 = a
    omega
  rw [h2]
  exact c_toInt (a := a) (by omega)
/-- the parser's cell -/
def pcell (C : pC) (at_ op go : Nat) : aE := .inr (2, [.ref C.X, .int (c32 C.N), .int (c32 at_), .int (c32 op), .int (c32 go), .ref C.W])
def wcell (C : pC) : aE := .inl (8, 17, .inr (.inr (.inr (.inr (fun i => if i < 17 then some (C.S i) else none)))))
def tcell (C : pC) : aE := .inl (0, 60, .inl (fun i => c32 (C.T i)))
/-- the machine's store while a line is read -/
def PA (C : pC) (σ : aS) (at_ op go : Nat) : Prop := σ.2.2 C.P = some (pcell C at_ op go) ∧ σ.2.2 C.X = some (tcell C) ∧ σ.2.2 C.W = some (wcell C) ∧ C.P < σ.1 ∧ C.X < σ.1 ∧ C.W < σ.1
abbrev ps (C : pC) (σ : aS) (at_ op go : Nat) : aS := mv σ C.P (pcell C at_ op go)
theorem PA.neX {C : pC} {σ : aS} {at_ op go : Nat} (h : PA C σ at_ op go) : C.X ≠ C.P := by
  intro e
  have h1 := h.1
  have h2 := h.2.1
  rw [e, h1] at h2
  cases h2
theorem PA.neW {C : pC} {σ : aS} {at_ op go : Nat} (h : PA C σ at_ op go) : C.W ≠ C.P := by
  intro e
  have h1 := h.1
  have h2 := h.2.2.1
  rw [e, h1] at h2
  cases h2
theorem PA.ps {C : pC} {σ : aS} {at_ op go a' o' g' : Nat} (h : PA C σ at_ op go) : PA C (ps C σ a' o' g') a' o' g' :=
  ⟨mv_at _ _ _, by rw [mv_ne _ _ h.neX]; exact h.2.1, by rw [mv_ne _ _ h.neW]; exact h.2.2.1, h.2.2.2⟩
section APRS
variable {C : pC} {σ : aS} {at_ op go n : Nat}
theorem A_at (h : PA C σ at_ op go) : gI σ C.P 2 2 = some (c32 at_) := gI_of h.1 rfl
theorem A_len (h : PA C σ at_ op go) : gI σ C.P 2 1 = some (c32 C.N) := gI_of h.1 rfl
theorem A_op (h : PA C σ at_ op go) : gI σ C.P 2 3 = some (c32 op) := gI_of h.1 rfl
theorem A_go (h : PA C σ at_ op go) : gI σ C.P 2 4 = some (c32 go) := gI_of h.1 rfl
theorem A_txt (h : PA C σ at_ op go) : gR σ C.P 2 0 = some (some C.X) := gR_of h.1 rfl
theorem A_wds (h : PA C σ at_ op go) : gR σ C.P 2 5 = some (some C.W) := gR_of h.1 rfl
theorem A_cls (h : PA C σ at_ op go) : gC σ C.P 2 = some () := gC_of h.1
theorem A_chr {i : Nat} (h : PA C σ at_ op go) (hi : i < 60) : lI σ C.X 0 (c32 i) = some (c32 (C.T i)) := lI_of h.2.1 hi (by omega)
theorem A_setAt {k : Nat} (h : PA C σ at_ op go) : pF σ C.P 2 2 (.int (c32 k)) = some (ps C σ k op go) := pF_of h.1 (by show 2 < 6; omega)
theorem A_setOp {k : Nat} (h : PA C σ at_ op go) : pF σ C.P 2 3 (.int (c32 k)) = some (ps C σ at_ k go) := pF_of h.1 (by show 3 < 6; omega)
theorem A_setGo {k : Nat} (h : PA C σ at_ op go) : pF σ C.P 2 4 (.int (c32 k)) = some (ps C σ at_ op k) := pF_of h.1 (by show 4 < 6; omega)
theorem A_here (ok : pOk C) (h : PA C σ at_ op go) (hp : at_ ≤ 60) : af_X3_here n C.S σ C.P = some (σ, c32 (ch C at_)) := by
  have hN := ok.1
  have hc := ch_lt ok at_
  unfold af_X3_here
  rw [ob (A_at h), ob (A_len h)]
  by_cases g : at_ < C.N
  · rw [if_neg (fun z => by have := (c_le (by omega) (by omega)).mp z; omega), ob (A_txt h), ob (A_at h)]
    show (lI σ C.X 0 (c32 at_)).bind _ = _
    have hcT : ch C at_ = C.T at_ := by unfold ch; rw [if_pos g]
    rw [ob (A_chr h (by omega)), ← hcT, ob (cz_of (by omega))]
  · rw [if_pos (by exact (c_le (by omega) (by omega)).mpr (by omega)), ch_end (by omega)]
    rfl
theorem A_behind (ok : pOk C) (h : PA C σ at_ op go) (hp : at_ ≤ 60) : af_X3_behind n C.S σ C.P = some (σ, c32 (ch C (at_ + 1))) := by
  have hN := ok.1
  have hc := ch_lt ok (at_ + 1)
  unfold af_X3_behind
  rw [ob (A_at h), ob (A_len h)]
  show (if c32 C.N ≤ c32 at_ + c32 1 then _ else _) = _
  rw [c_add]
  by_cases g : at_ + 1 < C.N
  · rw [if_neg (fun z => by have := (c_le (by omega) (by omega)).mp z; omega), ob (A_txt h), ob (A_at h)]
    show (lI σ C.X 0 (c32 at_ + c32 1)).bind _ = _
    have hcT : ch C (at_ + 1) = C.T (at_ + 1) := by unfold ch; rw [if_pos g]
    rw [c_add, ob (A_chr h (by omega)), ← hcT, ob (cz_of (by omega))]
  · rw [if_pos (by exact (c_le (by omega) (by omega)).mpr (by omega)), ch_end (by omega)]
    rfl
theorem A_need_t : af_X3_need n C.S σ C.P 1 = some (σ, .inl ()) := rfl
theorem A_need_f : af_X3_need n C.S σ C.P 0 = some (aTh σ, .inr 0) := rfl
theorem A_digit_t {c : Nat} (hc : dig c) : af_X3_digit n C.S σ (c32 c) = some (σ, 1) := by
  obtain ⟨h1, h2⟩ := hc
  unfold af_X3_digit
  rw [if_neg (fun z => by have := (c_lt (a := c) (b := 48) (by omega) (by omega)).mp z; omega), if_neg (fun z => by have := (c_lt (a := 57) (b := c) (by omega) (by omega)).mp z; omega)]
theorem A_digit_f {c : Nat} (hb : c < 1000) (hc : ¬ dig c) : af_X3_digit n C.S σ (c32 c) = some (σ, 0) := by
  unfold af_X3_digit
  by_cases g : c < 48
  · rw [if_pos (by exact (c_lt (a := c) (b := 48) (by omega) (by omega)).mpr g)]
  · rw [if_neg (fun z => by have := (c_lt (a := c) (b := 48) (by omega) (by omega)).mp z; omega), if_pos (by exact (c_lt (a := 57) (b := c) (by omega) (by omega)).mpr (by unfold dig at hc; omega))]
theorem A_isMatrix_t {c : Nat} (hc : isM c) : af_X3_isMatrix n C.S σ (c32 c) = some (σ, 1) := by
  obtain ⟨h1, h2⟩ := hc
  unfold af_X3_isMatrix
  rw [if_neg (fun z => by have := (c_lt (a := c) (b := 80) (by omega) (by omega)).mp z; omega), if_neg (fun z => by have := (c_lt (a := 82) (b := c) (by omega) (by omega)).mp z; omega)]
theorem A_isMatrix_f {c : Nat} (hb : c < 1000) (hc : ¬ isM c) : af_X3_isMatrix n C.S σ (c32 c) = some (σ, 0) := by
  unfold af_X3_isMatrix
  by_cases g : c < 80
  · rw [if_pos (by exact (c_lt (a := c) (b := 80) (by omega) (by omega)).mpr g)]
  · rw [if_neg (fun z => by have := (c_lt (a := c) (b := 80) (by omega) (by omega)).mp z; omega), if_pos (by exact (c_lt (a := 82) (b := c) (by omega) (by omega)).mpr (by unfold isM at hc; omega))]
theorem A_isVariable_t {c : Nat} (hc : isV c) : af_X3_isVariable n C.S σ (c32 c) = some (σ, 1) := by
  obtain ⟨h1, h2, h3⟩ := hc
  unfold af_X3_isVariable
  rw [if_neg (fun z => by have := (c_lt (a := c) (b := 65) (by omega) (by omega)).mp z; omega), if_neg (fun z => by have := (c_lt (a := 90) (b := c) (by omega) (by omega)).mp z; omega), oc (A_isMatrix_f (by omega) h3), if_pos rfl]
theorem A_isVariable_f {c : Nat} (hb : c < 1000) (hc : ¬ isV c) : af_X3_isVariable n C.S σ (c32 c) = some (σ, 0) := by
  unfold af_X3_isVariable
  by_cases g1 : c < 65
  · rw [if_pos (by exact (c_lt (a := c) (b := 65) (by omega) (by omega)).mpr g1)]
  · rw [if_neg (fun z => by have := (c_lt (a := c) (b := 65) (by omega) (by omega)).mp z; omega)]
    by_cases g2 : 90 < c
    · rw [if_pos (by exact (c_lt (a := 90) (b := c) (by omega) (by omega)).mpr g2)]
    · rw [if_neg (fun z => by have := (c_lt (a := 90) (b := c) (by omega) (by omega)).mp z; omega)]
      have hm : isM c := by
        apply Classical.byContradiction
        intro hm
        exact hc ⟨by omega, by omega, hm⟩
      rw [oc (A_isMatrix_t hm), if_neg (by first | decide | exact n10)]
theorem A_takes_t {c : Nat} {v : Int32} (ok : pOk C) (h : PA C σ at_ op go) (hp : at_ ≤ 60) (hc : ch C at_ = c) (h0 : c ≠ 0) (hv : v = c32 c := by rfl) : af_X3_takes n C.S σ C.P v = some (ps C σ (at_ + 1) op go, 1) := by
  subst hv
  have hN := ok.1
  have hi := ch_in (C := C) (i := at_) (by rw [hc]; exact h0)
  unfold af_X3_takes
  rw [ob (A_cls h), oc (A_here ok h hp), if_pos (by rw [hc]), ob (A_at h), ob (A_len h), if_pos (by exact (c_lt (by omega) (by omega)).mpr hi), ob (A_at h)]
  show (pF σ C.P 2 2 (.int (c32 at_ + c32 1))).bind _ = _
  rw [c_add, ob (A_setAt h)]
theorem A_takes_f {c : Nat} {v : Int32} (ok : pOk C) (h : PA C σ at_ op go) (hp : at_ ≤ 60) (hb : c < 128) (hc : ch C at_ ≠ c) (hv : v = c32 c := by rfl) : af_X3_takes n C.S σ C.P v = some (σ, 0) := by
  subst hv
  have := ch_lt ok at_
  unfold af_X3_takes
  rw [ob (A_cls h), oc (A_here ok h hp), if_neg (fun z => hc (by exact (c_eq (by omega) (by omega)).mp z))]
theorem A_take_t {c : Nat} {v : Int32} (ok : pOk C) (h : PA C σ at_ op go) (hp : at_ ≤ 60) (hc : ch C at_ = c) (hv : v = c32 c := by rfl) : af_X3_take n C.S σ C.P v = some (ps C σ (at_ + 1) op go, .inl ()) := by
  subst hv
  unfold af_X3_take
  rw [ob (A_cls h), oc (A_here ok h hp), if_pos (by rw [hc])]
  unfold af_X3_take_L14
  rw [ob (A_cls h), ox A_need_t, ob (A_at h)]
  show (pF σ C.P 2 2 (.int (c32 at_ + c32 1))).bind _ = _
  rw [c_add, ob (A_setAt h)]
theorem A_take_f {c : Nat} {v : Int32} (ok : pOk C) (h : PA C σ at_ op go) (hp : at_ ≤ 60) (hb : c < 128) (hc : ch C at_ ≠ c) (hv : v = c32 c := by rfl) : af_X3_take n C.S σ C.P v = some (aTh σ, .inr 0) := by
  subst hv
  have := ch_lt ok at_
  unfold af_X3_take
  rw [ob (A_cls h), oc (A_here ok h hp), if_neg (fun z => hc (by exact (c_eq (by omega) (by omega)).mp z))]
  unfold af_X3_take_L14
  rw [ob (A_cls h), oxr A_need_f]
theorem A_chr1 (ok : pOk C) (h : PA C σ (at_ + 1) op go) (hi : at_ < C.N) : lI σ C.X 0 (c32 (at_ + 1) - c32 1) = some (c32 (ch C at_)) := by
  have hN := ok.1
  rw [c_sub (by omega), Nat.add_sub_cancel, A_chr h (by omega)]
  unfold ch
  rw [if_pos hi]
theorem A_variable_t (ok : pOk C) (h : PA C σ at_ op go) (hp : at_ ≤ 60) (hc : isV (ch C at_)) : af_X3_variable n C.S σ C.P = some (ps C σ (at_ + 1) op go, .inl (c32 (ch C at_ - 65))) := by
  have hi := ch_in (C := C) (i := at_) (by have := hc.1; omega)
  unfold af_X3_variable
  rw [ob (A_cls h), oc (A_here ok h hp), oc (A_isVariable_t hc), ob (A_cls h), ox A_need_t, ob (A_at h)]
  show (pF σ C.P 2 2 (.int (c32 at_ + c32 1))).bind _ = _
  rw [c_add, ob (A_setAt h), ob (A_txt h.ps), ob (A_at h.ps)]
  show (lI _ C.X 0 (c32 (at_ + 1) - c32 1)).bind _ = _
  rw [ob (A_chr1 ok h.ps hi)]
  show some (_, Sum.inl (c32 (ch C at_) - c32 65)) = _
  rw [c_sub hc.1]
theorem A_variable_f (ok : pOk C) (h : PA C σ at_ op go) (hp : at_ ≤ 60) (hc : ¬ isV (ch C at_)) : af_X3_variable n C.S σ C.P = some (aTh σ, .inr 0) := by
  have := ch_lt ok at_
  unfold af_X3_variable
  rw [ob (A_cls h), oc (A_here ok h hp), oc (A_isVariable_f (by omega) hc), ob (A_cls h), oxr A_need_f]
theorem A_matrix_t (ok : pOk C) (h : PA C σ at_ op go) (hp : at_ ≤ 60) (hc : isM (ch C at_)) : af_X3_matrix n C.S σ C.P = some (ps C σ (at_ + 1) op go, .inl (c32 (ch C at_ - 80))) := by
  have hi := ch_in (C := C) (i := at_) (by have := hc.1; omega)
  unfold af_X3_matrix
  rw [ob (A_cls h), oc (A_here ok h hp), oc (A_isMatrix_t hc), ob (A_cls h), ox A_need_t, ob (A_at h)]
  show (pF σ C.P 2 2 (.int (c32 at_ + c32 1))).bind _ = _
  rw [c_add, ob (A_setAt h), ob (A_txt h.ps), ob (A_at h.ps)]
  show (lI _ C.X 0 (c32 (at_ + 1) - c32 1)).bind _ = _
  rw [ob (A_chr1 ok h.ps hi)]
  show some (_, Sum.inl (c32 (ch C at_) - c32 80)) = _
  rw [c_sub hc.1]
theorem A_matrix_f (ok : pOk C) (h : PA C σ at_ op go) (hp : at_ ≤ 60) (hc : ¬ isM (ch C at_)) : af_X3_matrix n C.S σ C.P = some (aTh σ, .inr 0) := by
  have := ch_lt ok at_
  unfold af_X3_matrix
  rw [ob (A_cls h), oc (A_here ok h hp), oc (A_isMatrix_f (by omega) hc), ob (A_cls h), oxr A_need_f]
theorem A_size_t (ok : pOk C) (h : PA C σ at_ op go) (hp : at_ ≤ 60) (hc : 49 ≤ ch C at_ ∧ ch C at_ ≤ 54) : af_X3_size n C.S σ C.P = some (ps C σ (at_ + 1) op go, .inl (c32 (ch C at_ - 48))) := by
  have hi := ch_in (C := C) (i := at_) (by omega)
  have := ch_lt ok at_
  unfold af_X3_size
  rw [ob (A_cls h), oc (A_here ok h hp), if_neg (fun z => by have := (c_lt (a := ch C at_) (b := 49) (by omega) (by omega)).mp z; omega), ob (A_cls h), oc (A_here ok h hp), if_neg (fun z => by have := (c_lt (a := 54) (b := ch C at_) (by omega) (by omega)).mp z; omega)]
  unfold af_X3_size_L24
  rw [ob (A_cls h), ox A_need_t, ob (A_at h)]
  show (pF σ C.P 2 2 (.int (c32 at_ + c32 1))).bind _ = _
  rw [c_add, ob (A_setAt h), ob (A_txt h.ps), ob (A_at h.ps)]
  show (lI _ C.X 0 (c32 (at_ + 1) - c32 1)).bind _ = _
  rw [ob (A_chr1 ok h.ps hi)]
  show some (_, Sum.inl (c32 (ch C at_) - c32 48)) = _
  rw [c_sub (by omega)]
theorem A_size_f (ok : pOk C) (h : PA C σ at_ op go) (hp : at_ ≤ 60) (hc : ¬ (49 ≤ ch C at_ ∧ ch C at_ ≤ 54)) : af_X3_size n C.S σ C.P = some (aTh σ, .inr 0) := by
  have := ch_lt ok at_
  unfold af_X3_size
  rw [ob (A_cls h), oc (A_here ok h hp)]
  by_cases g : ch C at_ < 49
  · rw [if_pos (by exact (c_lt (a := ch C at_) (b := 49) (by omega) (by omega)).mpr g)]
    unfold af_X3_size_L23 af_X3_size_L24
    rw [ob (A_cls h), oxr A_need_f]
  · rw [if_neg (fun z => by have := (c_lt (a := ch C at_) (b := 49) (by omega) (by omega)).mp z; omega), ob (A_cls h), oc (A_here ok h hp), if_pos (by exact (c_lt (a := 54) (b := ch C at_) (by omega) (by omega)).mpr (by omega))]
    unfold af_X3_size_L23 af_X3_size_L24
    rw [ob (A_cls h), oxr A_need_f]
theorem A_fname_t (ok : pOk C) (h : PA C σ at_ op go) (hp : at_ ≤ 60) (hc : 65 ≤ ch C at_ ∧ ch C at_ ≤ 67) : af_X3_functionName n C.S σ C.P = some (ps C σ (at_ + 1) op go, .inl (c32 (ch C at_ - 65))) := by
  have hi := ch_in (C := C) (i := at_) (by omega)
  have := ch_lt ok at_
  unfold af_X3_functionName
  rw [ob (A_cls h), oc (A_here ok h hp), if_neg (fun z => by have := (c_lt (a := ch C at_) (b := 65) (by omega) (by omega)).mp z; omega), ob (A_cls h), oc (A_here ok h hp), if_neg (fun z => by have := (c_lt (a := 67) (b := ch C at_) (by omega) (by omega)).mp z; omega)]
  unfold af_X3_functionName_L24
  rw [ob (A_cls h), ox A_need_t, ob (A_at h)]
  show (pF σ C.P 2 2 (.int (c32 at_ + c32 1))).bind _ = _
  rw [c_add, ob (A_setAt h), ob (A_txt h.ps), ob (A_at h.ps)]
  show (lI _ C.X 0 (c32 (at_ + 1) - c32 1)).bind _ = _
  rw [ob (A_chr1 ok h.ps hi)]
  show some (_, Sum.inl (c32 (ch C at_) - c32 65)) = _
  rw [c_sub (by omega)]
theorem A_fname_f (ok : pOk C) (h : PA C σ at_ op go) (hp : at_ ≤ 60) (hc : ¬ (65 ≤ ch C at_ ∧ ch C at_ ≤ 67)) : af_X3_functionName n C.S σ C.P = some (aTh σ, .inr 0) := by
  have := ch_lt ok at_
  unfold af_X3_functionName
  rw [ob (A_cls h), oc (A_here ok h hp)]
  by_cases g : ch C at_ < 65
  · rw [if_pos (by exact (c_lt (a := ch C at_) (b := 65) (by omega) (by omega)).mpr g)]
    unfold af_X3_functionName_L23 af_X3_functionName_L24
    rw [ob (A_cls h), oxr A_need_f]
  · rw [if_neg (fun z => by have := (c_lt (a := ch C at_) (b := 65) (by omega) (by omega)).mp z; omega), ob (A_cls h), oc (A_here ok h hp), if_pos (by exact (c_lt (a := 67) (b := ch C at_) (by omega) (by omega)).mpr (by omega))]
    unfold af_X3_functionName_L23 af_X3_functionName_L24
    rw [ob (A_cls h), oxr A_need_f]
theorem A_open_t (ok : pOk C) (h : PA C σ at_ op go) (hp : at_ ≤ 60) (hc : ch C at_ = 40) : af_X3_openBracket n C.S σ C.P = some (ps C (ps C σ (at_ + 1) op go) (at_ + 1) (op + 1) go, .inl ()) := by
  unfold af_X3_openBracket
  rw [ob (A_cls h), ox (A_take_t (c := 40) ok h hp hc), ob (A_op h.ps)]
  show (pF _ C.P 2 3 (.int (c32 op + c32 1))).bind _ = _
  rw [c_add, ob (A_setOp h.ps)]
theorem A_open_f (ok : pOk C) (h : PA C σ at_ op go) (hp : at_ ≤ 60) (hc : ch C at_ ≠ 40) : af_X3_openBracket n C.S σ C.P = some (aTh σ, .inr 0) := by
  unfold af_X3_openBracket
  rw [ob (A_cls h), oxr (A_take_f (c := 40) ok h hp (by omega) hc)]
theorem A_close_t (ok : pOk C) (h : PA C σ at_ op go) (hp : at_ ≤ 60) (ho : 1 ≤ op) (hc : ch C at_ = 41) : af_X3_closeBracket n C.S σ C.P = some (ps C (ps C σ (at_ + 1) op go) (at_ + 1) (op - 1) go, .inl ()) := by
  unfold af_X3_closeBracket
  rw [ob (A_cls h), ox (A_take_t (c := 41) ok h hp hc), ob (A_op h.ps)]
  show (pF _ C.P 2 3 (.int (c32 op - c32 1))).bind _ = _
  rw [c_sub ho, ob (A_setOp h.ps)]
theorem A_close_f (ok : pOk C) (h : PA C σ at_ op go) (hp : at_ ≤ 60) (hc : ch C at_ ≠ 41) : af_X3_closeBracket n C.S σ C.P = some (aTh σ, .inr 0) := by
  unfold af_X3_closeBracket
  rw [ob (A_cls h), oxr (A_take_f (c := 41) ok h hp (by omega) hc)]
end APRS
