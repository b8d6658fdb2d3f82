/-! THE PURE LAW: expressions in the store and as codes -/
def hle (h h' : Nat → Option aE) : Prop := ∀ q e, h q = some e → h' q = some e
/-- what was made since the store had b cells -/
def hi (b : Nat) (σ : aS) : Nat → Option aE := fun q => if b ≤ q ∧ q < σ.1 then σ.2.2 q else none
def Ext (P : Nat) (σ σ' : aS) : Prop := σ.1 ≤ σ'.1 ∧ ∀ q, q < σ.1 → q ≠ P → σ'.2.2 q = σ.2.2 q
theorem Ext.rfl_ {P : Nat} {σ : aS} : Ext P σ σ := ⟨Nat.le_refl _, fun _ _ _ => rfl⟩
theorem Ext.trans {P : Nat} {a b c : aS} (h : Ext P a b) (g : Ext P b c) : Ext P a c :=
  ⟨Nat.le_trans h.1 g.1, fun q h1 h2 => (g.2 q (Nat.lt_of_lt_of_le h1 h.1) h2).trans (h.2 q h1 h2)⟩
theorem Ext.mvP {P : Nat} {σ : aS} {e : aE} : Ext P σ (mv σ P e) := ⟨Nat.le_refl _, fun _ _ h2 => mv_ne _ _ h2⟩
theorem Ext.new {P a : Nat} {σ σ' : aS} {e : aE} (h : Ext P σ σ') (ha : σ.1 ≤ a) : Ext P σ (mv σ' a e) :=
  ⟨h.1, fun q h1 h2 => (mv_ne _ _ (by omega)).trans (h.2 q h1 h2)⟩
theorem Ext.th {P : Nat} {σ σ' : aS} (h : Ext P σ σ') : Ext P σ (aTh σ') := ⟨Nat.le_trans h.1 (Nat.le_succ _), h.2⟩
/-- a new cell -/
def nw (σ : aS) (e : aE) (k : Nat) : aS := (σ.1 + 1, σ.2.1 + k, va_up σ.2.2 σ.1 (some e))
theorem nw_at (σ : aS) (e : aE) (k : Nat) : (nw σ e k).2.2 σ.1 = some e := va_up_self _ _ _
theorem nw_ne (σ : aS) {q : Nat} (e : aE) (k : Nat) (h : q ≠ σ.1) : (nw σ e k).2.2 q = σ.2.2 q := va_up_ne _ _ h
theorem nO_eq (σ : aS) (ci : Nat) (fs : List Value) (n : Nat) : nO σ ci fs n = some (nw σ (.inr (ci, fs)) n) := rfl
theorem Ext.nwc {P : Nat} {σ : aS} {e : aE} {k : Nat} : Ext P σ (nw σ e k) := ⟨Nat.le_succ _, fun _ h1 _ => nw_ne _ _ _ (by omega)⟩
theorem hi_le {P b b' : Nat} {σ σ' : aS} (h : Ext P σ σ') (hP : P < b) (hb : b' ≤ b) : hle (hi b σ) (hi b' σ') := by
  intro q e hq
  unfold hi at hq ⊢
  by_cases g : b ≤ q ∧ q < σ.1
  · rw [if_pos g] at hq
    rw [if_pos ⟨by omega, by have := h.1; omega⟩, h.2 q g.2 (by omega)]
    exact hq
  · rw [if_neg g] at hq
    cases hq
theorem hi_at {b q : Nat} {σ : aS} {e : aE} (h : σ.2.2 q = some e) (h1 : b ≤ q) (h2 : q < σ.1) : hi b σ q = some e := by
  unfold hi
  rw [if_pos ⟨h1, h2⟩]
  exact h
theorem PA.ext {C : pC} {σ σ' : aS} {at_ op go : Nat} (h : PA C σ at_ op go) (hE : Ext C.P σ σ') (hP : σ'.2.2 C.P = some (pcell C at_ op go)) : PA C σ' at_ op go :=
  ⟨hP, by rw [hE.2 _ h.2.2.2.2.1 h.neX]; exact h.2.1, by rw [hE.2 _ h.2.2.2.2.2 h.neW]; exact h.2.2.1, by have := h.2.2.2.1; have := hE.1; omega, by have := h.2.2.2.2.1; have := hE.1; omega, by have := h.2.2.2.2.2; have := hE.1; omega⟩
theorem PA.nwc {C : pC} {σ : aS} {at_ op go k : Nat} {e : aE} (h : PA C σ at_ op go) : PA C (nw σ e k) at_ op go :=
  h.ext Ext.nwc (by rw [nw_ne _ _ _ (by have := h.2.2.2.1; omega)]; exact h.1)
theorem PA.mvq {C : pC} {σ : aS} {at_ op go a : Nat} {e : aE} (h : PA C σ at_ op go) (h1 : a ≠ C.P) (h2 : a ≠ C.X) (h3 : a ≠ C.W) : PA C (mv σ a e) at_ op go :=
  ⟨by rw [mv_ne _ _ h1.symm]; exact h.1, by rw [mv_ne _ _ h2.symm]; exact h.2.1, by rw [mv_ne _ _ h3.symm]; exact h.2.2.1, h.2.2.2⟩
theorem PA.th {C : pC} {σ : aS} {at_ op go : Nat} (h : PA C σ at_ op go) : PA C (aTh σ) at_ op go :=
  ⟨h.1, h.2.1, h.2.2.1, by have := h.2.2.2.1; show _ < σ.1 + 1; omega, by have := h.2.2.2.2.1; show _ < σ.1 + 1; omega, by have := h.2.2.2.2.2; show _ < σ.1 + 1; omega⟩
def osg (o : Nat) : Nat := if o = 3 then 43 else if o = 4 then 45 else if o = 5 then 42 else if o = 6 then 47 else 94
def usg (o : Nat) : Nat := if o = 8 then 45 else if o = 9 then 65 else if o = 10 then 73 else 83
/-- the object at a is an expression of at most so many levels, whose codes are l -/
def ex : Nat → (Nat → Option aE) → Nat → List Nat → Prop
  | 0, _, _, _ => False
  | d + 1, h, a, l =>
    (∃ w pl, h a = some (.inr (5, [.double (nuV w pl)])) ∧ w < 1000000000 ∧ pl < 4 ∧ l = [0, w, pl]) ∨
    (∃ s, h a = some (.inr (8, [.int (c32 s)])) ∧ s < 26 ∧ l = [1, s]) ∨
    (∃ m i j li lj, h a = some (.inr (10, [.int (c32 m), .ref i, .ref j])) ∧ m < 3 ∧ ex d h i li ∧ ex d h j lj ∧ l = li ++ (lj ++ [2, m])) ∨
    (∃ o x y lx ly, h a = some (.inr (9, [.int (c32 (osg o)), .ref x, .ref y])) ∧ 3 ≤ o ∧ o ≤ 7 ∧ ex d h x lx ∧ ex d h y ly ∧ l = lx ++ (ly ++ [o])) ∨
    (∃ o x lx, h a = some (.inr (6, [.int (c32 (usg o)), .ref x])) ∧ 8 ≤ o ∧ o ≤ 11 ∧ ex d h x lx ∧ l = lx ++ [o]) ∨
    (∃ f x lx, h a = some (.inr (7, [.int (c32 f), .ref x])) ∧ f < 3 ∧ ex d h x lx ∧ l = 12 :: f :: (lx ++ [13, f]))
theorem ex.map {h h' : Nat → Option aE} (hh : hle h h') : ∀ (d : Nat) (a : Nat) (l : List Nat), ex d h a l → ex d h' a l := by
  intro d
  induction d with
  | zero => intro a l g; exact g
  | succ d ih =>
    intro a l g
    rcases g with ⟨w, pl, g1, g2⟩ | ⟨s, g1, g2⟩ | ⟨m, i, j, li, lj, g1, g2, g3, g4, g5⟩ | ⟨o, x, y, lx, ly, g1, g2, g3, g4, g5, g6⟩ | ⟨o, x, lx, g1, g2, g3, g4, g5⟩ | ⟨f, x, lx, g1, g2, g3, g4⟩
    · exact Or.inl ⟨w, pl, hh _ _ g1, g2⟩
    · exact Or.inr (Or.inl ⟨s, hh _ _ g1, g2⟩)
    · exact Or.inr (Or.inr (Or.inl ⟨m, i, j, li, lj, hh _ _ g1, g2, ih _ _ g3, ih _ _ g4, g5⟩))
    · exact Or.inr (Or.inr (Or.inr (Or.inl ⟨o, x, y, lx, ly, hh _ _ g1, g2, g3, ih _ _ g4, ih _ _ g5, g6⟩)))
    · exact Or.inr (Or.inr (Or.inr (Or.inr (Or.inl ⟨o, x, lx, hh _ _ g1, g2, g3, ih _ _ g4, g5⟩))))
    · exact Or.inr (Or.inr (Or.inr (Or.inr (Or.inr ⟨f, x, lx, hh _ _ g1, g2, ih _ _ g3, g4⟩))))
theorem ex.up1 {h : Nat → Option aE} : ∀ (d : Nat) (a : Nat) (l : List Nat), ex d h a l → ex (d + 1) h a l := by
  intro d
  induction d with
  | zero => intro a l g; exact g.elim
  | succ d ih =>
    intro a l g
    rcases g with ⟨w, pl, g1, g2⟩ | ⟨s, g1, g2⟩ | ⟨m, i, j, li, lj, g1, g2, g3, g4, g5⟩ | ⟨o, x, y, lx, ly, g1, g2, g3, g4, g5, g6⟩ | ⟨o, x, lx, g1, g2, g3, g4, g5⟩ | ⟨f, x, lx, g1, g2, g3, g4⟩
    · exact Or.inl ⟨w, pl, g1, g2⟩
    · exact Or.inr (Or.inl ⟨s, g1, g2⟩)
    · exact Or.inr (Or.inr (Or.inl ⟨m, i, j, li, lj, g1, g2, ih _ _ g3, ih _ _ g4, g5⟩))
    · exact Or.inr (Or.inr (Or.inr (Or.inl ⟨o, x, y, lx, ly, g1, g2, g3, ih _ _ g4, ih _ _ g5, g6⟩)))
    · exact Or.inr (Or.inr (Or.inr (Or.inr (Or.inl ⟨o, x, lx, g1, g2, g3, ih _ _ g4, g5⟩))))
    · exact Or.inr (Or.inr (Or.inr (Or.inr (Or.inr ⟨f, x, lx, g1, g2, ih _ _ g3, g4⟩))))
theorem ex.up {h : Nat → Option aE} {d d' a : Nat} {l : List Nat} (g : ex d h a l) (hd : d ≤ d') : ex d' h a l := by
  induction hd with
  | refl => exact g
  | step _ ih => exact ex.up1 _ _ _ ih
/-! what the machine's reading of an expression ends in -/
def okE (C : pC) (σ : aS) (z : Option (aS × (Option Nat ⊕ Nat))) (a0 at_ op go : Nat) (l : List Nat) : Prop :=
  ∃ σ' r, z = some (σ', .inl (some r)) ∧ PA C σ' at_ op go ∧ Ext C.P σ σ' ∧ σ'.1 ≤ σ.1 + (at_ - a0) ∧ σ'.2.1 ≤ σ.2.1 + 3 * (at_ - a0) ∧ ex (at_ - a0) (hi σ.1 σ') r l
def noE {α : Type} (C : pC) (σ : aS) (z : Option (aS × (α ⊕ Nat))) (a0 at_ : Nat) : Prop :=
  ∃ σ' op go, z = some (σ', .inr 0) ∧ PA C σ' at_ op go ∧ Ext C.P σ σ' ∧ σ'.1 ≤ σ.1 + (at_ - a0) + 2 ∧ σ'.2.1 ≤ σ.2.1 + 3 * (at_ - a0) + 9
/-! what the model's ends in -/
def BL (C : pC) (st0 st : bS) (p op : Nat) (cs ws : List Nat) : Prop := BP C st p op 0 ∧ BM st cs ∧ BW st ws ∧ BE st0 st ∧ ∀ w ∈ ws, w < 1000
abbrev LSx (n k : Nat) (st : bS) (x1 x2 : Int32) (nw ins : Nat) (opd fst : Int32) : Option (bS × Int32) := bf_expression_S16 n k 0 st x1 x2 (c32 nw) (c32 ins) opd fst 0 0 0 0
def FIN (C : pC) (st0 : bS) (z : Nat → Option (bS × Int32)) (x2 : Int32) (J a0 at_ : Nat) : Prop :=
  ∃ j st' op' m bad, (∀ k, z (k + j) = some (st', x2)) ∧ j ≤ J + 6 * (at_ - a0) ∧ BP C st' at_ op' bad ∧ (bad = 1 ∨ bad = 0 ∧ dig (ch C at_)) ∧ BE st0 st' ∧ st'.1 6 = c32 m ∧ m ≤ 2 * at_ + 10
def nop (r c : Nat) : Prop := (r ≤ 3 → c ≠ 94) ∧ (r ≤ 2 → c ≠ 42 ∧ c ≠ 47) ∧ (r ≤ 1 → c ≠ 43 ∧ c ≠ 45)
/-- both read the same; r: what is not yet written are operators of that rank at least -/
def Out (r : Nat) (C : pC) (n : Nat) (x1 x2 : Int32) (ins : Nat) (st0 : bS) (ws : List Nat) (σ : aS) (zA : Option (aS × (Option Nat ⊕ Nat))) (a0 op go : Nat) (st : bS) (cs : List Nat) (z : Nat → Option (bS × Int32)) : Prop :=
  (∃ at_ l, a0 < at_ ∧ at_ ≤ C.N ∧ okE C σ zA a0 at_ op go l ∧ nop r (ch C at_) ∧ ∃ j st' c o, c ++ o = l ∧ (∀ w ∈ o, w < 100 ∧ r ≤ rk w) ∧ (∀ k, z (k + j) = LSx n k st' x1 x2 (o ++ ws).length ins 0 0) ∧ BL C st0 st' at_ op (cs ++ c) (o ++ ws) ∧ (cs ++ c).length + (o ++ ws).length ≤ 2 * at_ + 1 ∧ (o ++ ws).length ≤ at_ ∧ j ≤ 6 * (at_ - a0)) ∨
  (∃ at_, a0 ≤ at_ ∧ at_ ≤ C.N ∧ noE C σ zA a0 at_ ∧ FIN C st0 z x2 20 a0 at_)
