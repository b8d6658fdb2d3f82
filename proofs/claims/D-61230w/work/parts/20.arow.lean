/-! THE MACHINE'S WORLD (BasicMachine and what is nested in it): a pure store σ = (how many cells the heap has, slots so far, what is held at which address). -/
abbrev aE : Type := (Nat × vp_A) ⊕ (Nat × List Value)
abbrev aS : Type := Nat × Nat × (Nat → Option aE)
abbrev aP : Type := va_G × (Nat → ClassId) × (Nat → Nat) × (Nat → Nat)
abbrev aP.D (x : aP) : va_G := x.1
abbrev aP.tc (x : aP) : Nat → ClassId := x.2.1
abbrev aP.sK (x : aP) : Nat → Nat := x.2.2.1
abbrev aP.sV (x : aP) : Nat → Nat := x.2.2.2
def TX18 : u_T := fun _ => ("", "", "", false)
def TX23 : u_T := fun _ => ("", "", "", false)
def tyX18 : Nat → FieldType := fun _ => .int
def tyX23 : Nat → FieldType := fun _ => .int
/-- the classes: number c is names' X(c+1) -/
def aCl : List vw_C := [(RX1, TX1, 24), (RX2, TX2, 45), (RX3, TX3, 6), (RX4, TX4, 3), (RX5, TX5, 2), (RX6, TX6, 1), (RX7, TX7, 2), (RX8, TX8, 2), (RX9, TX9, 1), (RX10, TX10, 3), (RX11, TX11, 3), (RX12, TX12, 2), (RX13, TX13, 1), (RX14, TX14, 4), (RX15, TX15, 1), (RX16, TX16, 2), (RX17, TX17, 1), (RX18, TX18, 0), (RX19, TX19, 4), (RX20, TX20, 1), (RX21, TX21, 1), (RX22, TX22, 1), (RX23, TX23, 0), (RX24, TX24, 3), (RX25, TX25, 3), (RX26, TX26, 5), (RX27, TX27, 1), (RX28, TX28, 3), (RX29, TX29, 4)]
/-- the arrays' kinds -/
def aTy (t : Nat) : FieldType := match t with
  | 0 => .char
  | 1 => .int
  | 2 => .double
  | 3 => .long
  | 4 => .object "BasicMachine$Matrix"
  | 5 => .object "BasicMachine$Define"
  | 6 => .object "BasicMachine$Line"
  | 7 => .object "BasicMachine$Loop"
  | 8 => .object "java/lang/String"
  | _ => .array .double
def aTys (x : aP) : List (ClassId × FieldType) := (List.range 10).map (fun t => (x.tc t, aTy t))
theorem aTys_at (x : aP) {t : Nat} (h : t < 10) : (aTys x)[t]? = some (x.tc t, aTy t) := by
  unfold aTys
  rw [List.getElem?_map, List.getElem?_range h]
  rfl
def aTo (x : aP) (e : aE) : va_E := match e with
  | .inl A => .inl (x.tc A.1, A.2)
  | .inr o => .inr o
def aW (x : aP) (σ : aS) (H : Heap) : Prop := H.size = σ.1 ∧ ∀ (q : Nat) (e : aE), σ.2.2 q = some e → va_at x.D aCl (q, aTo x e) H
/-- what may be written: what is held, and what is new -/
def aDom (σ : aS) (q : Nat) : Prop := (σ.2.2 q).isSome = true ∨ σ.1 ≤ q
def aCls (ci : Nat) (C : String) (T : u_T) (N : Nat) (ty : Nat → FieldType) : Prop := aCl[ci]? = some (C, T, N) ∧ (∀ w ∈ u_ws C T N, w ∈ lw_all) ∧ (∀ k, k < N → parseFieldDescriptor (T k).2.2.1 = some (ty k)) ∧ (∀ a, a < N → ∀ b, b < N → a ≠ b → (T a).2.1 ≠ (T b).2.1) ∧ (∀ k, k < N → (T k).1 = C)
theorem aW_put {x : aP} {σ : aS} {H H1 : Heap} {a : Nat} {e0 e : aE} (h : aW x σ H) (h0 : σ.2.2 a = some e0) (z : H1.size = H.size) (oq : ∀ q : Nat, q ≠ a → H1[q]? = H[q]?) (he : va_at x.D aCl (a, aTo x e) H1) : aW x (σ.1, σ.2.1, va_up σ.2.2 a (some e)) H1 := by
  refine ⟨z.trans h.1, fun q f hq => ?_⟩
  by_cases hqa : q = a
  · subst hqa
    have h2 : va_up σ.2.2 q (some e) q = some f := hq
    rw [va_up_self] at h2
    cases h2
    exact he
  · have h2 : va_up σ.2.2 a (some e) q = some f := hq
    rw [va_up_ne _ _ hqa] at h2
    exact (h.2 q f h2).kept (oq q hqa)
theorem aW_new {x : aP} {σ : aS} {H H1 : Heap} {e : aE} {n : Nat} (h : aW x σ H) (z : H1.size = H.size + 1) (oq : ∀ q : Nat, q < H.size → H1[q]? = H[q]?) (he : va_at x.D aCl (σ.1, aTo x e) H1) : aW x (σ.1 + 1, σ.2.1 + n, va_up σ.2.2 σ.1 (some e)) H1 := by
  refine ⟨by rw [z, h.1], fun q f hq => ?_⟩
  by_cases hqa : q = σ.1
  · subst hqa
    have h2 : va_up σ.2.2 σ.1 (some e) σ.1 = some f := hq
    rw [va_up_self] at h2
    cases h2
    exact he
  · have h2 : va_up σ.2.2 σ.1 (some e) q = some f := hq
    rw [va_up_ne _ _ hqa] at h2
    exact (h.2 q f h2).kept (oq q (h.2 q f h2).lt)
theorem aDom_put {σ : aS} {a : Nat} {e0 e : aE} (h0 : σ.2.2 a = some e0) (q : Nat) (h : aDom (σ.1, σ.2.1, va_up σ.2.2 a (some e)) q) : aDom σ q := by
  rcases h with h | h
  · by_cases hqa : q = a
    · subst hqa
      exact Or.inl (by rw [h0]; rfl)
    · have h2 : (va_up σ.2.2 a (some e) q).isSome = true := h
      rw [va_up_ne _ _ hqa] at h2
      exact Or.inl h2
  · exact Or.inr h
theorem aDom_new {σ : aS} {e : aE} {n : Nat} (q : Nat) (h : aDom (σ.1 + 1, σ.2.1 + n, va_up σ.2.2 σ.1 (some e)) q) : aDom σ q := by
  rcases h with h | h
  · by_cases hqa : q = σ.1
    · exact Or.inr (by omega)
    · have h2 : (va_up σ.2.2 σ.1 (some e) q).isSome = true := h
      rw [va_up_ne _ _ hqa] at h2
      exact Or.inl h2
  · exact Or.inr (by have h : σ.1 + 1 ≤ q := h; omega)
/-! the pure side: what is read and written -/
def gF (σ : aS) (a ci k : Nat) : Option Value := match σ.2.2 a with
  | some (.inr o) => if o.1 = ci then o.2[k]? else none
  | _ => none
def gI (σ : aS) (a ci k : Nat) : Option Int32 := match gF σ a ci k with
  | some (.int v) => some v
  | _ => none
def gD (σ : aS) (a ci k : Nat) : Option UInt64 := match gF σ a ci k with
  | some (.double v) => some v
  | _ => none
def gR (σ : aS) (a ci k : Nat) : Option (Option Nat) := match gF σ a ci k with
  | some .null => some none
  | some (.ref q) => some (some q)
  | _ => none
def pF (σ : aS) (a ci k : Nat) (v : Value) : Option aS := match σ.2.2 a with
  | some (.inr o) => if o.1 = ci ∧ k < o.2.length then some (σ.1, σ.2.1, va_up σ.2.2 a (some (.inr (ci, o.2.set k v)))) else none
  | _ => none
def gC (σ : aS) (a ci : Nat) : Option Unit := match σ.2.2 a with
  | some (.inr o) => if o.1 = ci then some () else none
  | _ => none
def aNo (n : Nat) (i : Int32) : Prop := i < 0 ∨ n ≤ i.toNatClampNeg
def lI (σ : aS) (a t : Nat) (i : Int32) : Option Int32 := match σ.2.2 a with
  | some (.inl (t', n, .inl f)) => if t' = t ∧ ¬ (i < 0 ∨ n ≤ i.toNatClampNeg) then some (f i.toNatClampNeg) else none
  | _ => none
def lL (σ : aS) (a : Nat) (i : Int32) : Option Int64 := match σ.2.2 a with
  | some (.inl (t', n, .inr (.inl f))) => if t' = 3 ∧ ¬ (i < 0 ∨ n ≤ i.toNatClampNeg) then some (f i.toNatClampNeg) else none
  | _ => none
def lD (σ : aS) (a : Nat) (i : Int32) : Option UInt64 := match σ.2.2 a with
  | some (.inl (t', n, .inr (.inr (.inr (.inl f))))) => if t' = 2 ∧ ¬ (i < 0 ∨ n ≤ i.toNatClampNeg) then some (f i.toNatClampNeg) else none
  | _ => none
def lR (σ : aS) (a t : Nat) (i : Int32) : Option (Option Nat) := match σ.2.2 a with
  | some (.inl (t', n, .inr (.inr (.inr (.inr f))))) => if t' = t ∧ ¬ (i < 0 ∨ n ≤ i.toNatClampNeg) then some (f i.toNatClampNeg) else none
  | _ => none
def wI (σ : aS) (a t : Nat) (i v : Int32) : Option aS := match σ.2.2 a with
  | some (.inl (t', n, .inl f)) => if t' = t ∧ ¬ (i < 0 ∨ n ≤ i.toNatClampNeg) then some (σ.1, σ.2.1, va_up σ.2.2 a (some (.inl (t, n, .inl (upd f i.toNatClampNeg v))))) else none
  | _ => none
def wL (σ : aS) (a : Nat) (i : Int32) (v : Int64) : Option aS := match σ.2.2 a with
  | some (.inl (t', n, .inr (.inl f))) => if t' = 3 ∧ ¬ (i < 0 ∨ n ≤ i.toNatClampNeg) then some (σ.1, σ.2.1, va_up σ.2.2 a (some (.inl (3, n, .inr (.inl (vp_updL f i.toNatClampNeg v)))))) else none
  | _ => none
def wD (σ : aS) (a : Nat) (i : Int32) (v : UInt64) : Option aS := match σ.2.2 a with
  | some (.inl (t', n, .inr (.inr (.inr (.inl f))))) => if t' = 2 ∧ ¬ (i < 0 ∨ n ≤ i.toNatClampNeg) then some (σ.1, σ.2.1, va_up σ.2.2 a (some (.inl (2, n, .inr (.inr (.inr (.inl (vf_upd f i.toNatClampNeg v)))))))) else none
  | _ => none
def wR (σ : aS) (a t : Nat) (i : Int32) (v : Option Nat) : Option aS := match σ.2.2 a with
  | some (.inl (t', n, .inr (.inr (.inr (.inr f))))) => if t' = t ∧ ¬ (i < 0 ∨ n ≤ i.toNatClampNeg) then some (σ.1, σ.2.1, va_up σ.2.2 a (some (.inl (t, n, .inr (.inr (.inr (.inr (va_up f i.toNatClampNeg v)))))))) else none
  | _ => none
def aLen (σ : aS) (a : Nat) : Option Int32 := match σ.2.2 a with
  | some (.inl A) => if A.1 < 10 then some (Int32.ofNat A.2.1) else none
  | _ => none
def nO (σ : aS) (ci : Nat) (fs : List Value) (n : Nat) : Option aS := some (σ.1 + 1, σ.2.1 + n, va_up σ.2.2 σ.1 (some (.inr (ci, fs))))
def nA (σ : aS) (t : Nat) (n : Int32) (A : (Nat → Int32) ⊕ (Nat → Int64) ⊕ (Nat → UInt32) ⊕ (Nat → UInt64) ⊕ (Nat → Option Nat)) : Option aS :=
  if n < 0 ∨ 5000 < n.toNatClampNeg then none else some (σ.1 + 1, σ.2.1 + n.toNatClampNeg, va_up σ.2.2 σ.1 (some (.inl (t, n.toNatClampNeg, A))))
theorem i_gF {σ : aS} {a ci k : Nat} {v : Value} (h : gF σ a ci k = some v) : ∃ fs, σ.2.2 a = some (.inr (ci, fs)) ∧ fs[k]? = some v := by
  unfold gF at h
  cases hm : σ.2.2 a with
  | none => rw [hm] at h; cases h
  | some e =>
    rw [hm] at h
    cases e with
    | inl A => cases h
    | inr o =>
      obtain ⟨c, fs⟩ := o
      by_cases g : c = ci
      · subst g
        exact ⟨fs, rfl, by simpa using h⟩
      · simp [g] at h
theorem i_gI {σ : aS} {a ci k : Nat} {v : Int32} (h : gI σ a ci k = some v) : ∃ fs, σ.2.2 a = some (.inr (ci, fs)) ∧ fs[k]? = some (.int v) := by
  unfold gI at h
  split at h
  · rename_i z hz
    cases h
    exact i_gF hz
  · cases h
theorem i_gD {σ : aS} {a ci k : Nat} {v : UInt64} (h : gD σ a ci k = some v) : ∃ fs, σ.2.2 a = some (.inr (ci, fs)) ∧ fs[k]? = some (.double v) := by
  unfold gD at h
  split at h
  · rename_i z hz
    cases h
    exact i_gF hz
  · cases h
theorem i_gR {σ : aS} {a ci k : Nat} {v : Option Nat} (h : gR σ a ci k = some v) : ∃ fs, σ.2.2 a = some (.inr (ci, fs)) ∧ fs[k]? = some (va_rf v) := by
  unfold gR at h
  split at h
  · rename_i hz
    cases h
    exact i_gF hz
  · rename_i z hz
    cases h
    exact i_gF hz
  · cases h
theorem i_gC {σ : aS} {a ci : Nat} {u : Unit} (h : gC σ a ci = some u) : ∃ fs, σ.2.2 a = some (.inr (ci, fs)) := by
  unfold gC at h
  cases hm : σ.2.2 a with
  | none => rw [hm] at h; cases h
  | some e =>
    rw [hm] at h
    cases e with
    | inl A => cases h
    | inr o =>
      obtain ⟨c, fs⟩ := o
      by_cases g : c = ci
      · subst g
        exact ⟨fs, rfl⟩
      · simp [g] at h
theorem i_pF {σ σ1 : aS} {a ci k : Nat} {v : Value} (h : pF σ a ci k v = some σ1) : ∃ fs, σ.2.2 a = some (.inr (ci, fs)) ∧ k < fs.length ∧ σ1 = (σ.1, σ.2.1, va_up σ.2.2 a (some (.inr (ci, fs.set k v)))) := by
  unfold pF at h
  cases hm : σ.2.2 a with
  | none => rw [hm] at h; cases h
  | some e =>
    rw [hm] at h
    cases e with
    | inl A => cases h
    | inr o =>
      obtain ⟨c, fs⟩ := o
      by_cases g : c = ci ∧ k < fs.length
      · obtain ⟨g1, g2⟩ := g
        subst g1
        simp only [g2, and_self, if_true] at h
        cases h
        exact ⟨fs, rfl, g2, rfl⟩
      · simp [g] at h
theorem i_lI {σ : aS} {a t : Nat} {i v : Int32} (h : lI σ a t i = some v) : ∃ n f, σ.2.2 a = some (.inl (t, n, .inl f)) ∧ vp_in i n ∧ f i.toNatClampNeg = v := by
  unfold lI at h
  split at h
  · rename_i t' n f hm
    by_cases g : t' = t ∧ ¬ (i < 0 ∨ n ≤ i.toNatClampNeg)
    · rw [if_pos g] at h
      obtain ⟨g1, g2⟩ := g
      subst g1
      cases h
      exact ⟨n, f, hm, g2, rfl⟩
    · rw [if_neg g] at h; cases h
  · cases h
theorem i_lL {σ : aS} {a : Nat} {i : Int32} {v : Int64} (h : lL σ a i = some v) : ∃ n f, σ.2.2 a = some (.inl (3, n, .inr (.inl f))) ∧ vp_in i n ∧ f i.toNatClampNeg = v := by
  unfold lL at h
  split at h
  · rename_i t' n f hm
    by_cases g : t' = 3 ∧ ¬ (i < 0 ∨ n ≤ i.toNatClampNeg)
    · rw [if_pos g] at h
      obtain ⟨g1, g2⟩ := g
      subst g1
      cases h
      exact ⟨n, f, hm, g2, rfl⟩
    · rw [if_neg g] at h; cases h
  · cases h
theorem i_lD {σ : aS} {a : Nat} {i : Int32} {v : UInt64} (h : lD σ a i = some v) : ∃ n f, σ.2.2 a = some (.inl (2, n, .inr (.inr (.inr (.inl f))))) ∧ vp_in i n ∧ f i.toNatClampNeg = v := by
  unfold lD at h
  split at h
  · rename_i t' n f hm
    by_cases g : t' = 2 ∧ ¬ (i < 0 ∨ n ≤ i.toNatClampNeg)
    · rw [if_pos g] at h
      obtain ⟨g1, g2⟩ := g
      subst g1
      cases h
      exact ⟨n, f, hm, g2, rfl⟩
    · rw [if_neg g] at h; cases h
  · cases h
theorem i_lR {σ : aS} {a t : Nat} {i : Int32} {v : Option Nat} (h : lR σ a t i = some v) : ∃ n f, σ.2.2 a = some (.inl (t, n, .inr (.inr (.inr (.inr f))))) ∧ vp_in i n ∧ f i.toNatClampNeg = v := by
  unfold lR at h
  split at h
  · rename_i t' n f hm
    by_cases g : t' = t ∧ ¬ (i < 0 ∨ n ≤ i.toNatClampNeg)
    · rw [if_pos g] at h
      obtain ⟨g1, g2⟩ := g
      subst g1
      cases h
      exact ⟨n, f, hm, g2, rfl⟩
    · rw [if_neg g] at h; cases h
  · cases h
theorem i_wI {σ σ1 : aS} {a t : Nat} {i v : Int32} (h : wI σ a t i v = some σ1) : ∃ n f, σ.2.2 a = some (.inl (t, n, .inl f)) ∧ vp_in i n ∧ σ1 = (σ.1, σ.2.1, va_up σ.2.2 a (some (.inl (t, n, .inl (upd f i.toNatClampNeg v))))) := by
  unfold wI at h
  split at h
  · rename_i t' n f hm
    by_cases g : t' = t ∧ ¬ (i < 0 ∨ n ≤ i.toNatClampNeg)
    · rw [if_pos g] at h
      obtain ⟨g1, g2⟩ := g
      subst g1
      cases h
      exact ⟨n, f, hm, g2, rfl⟩
    · rw [if_neg g] at h; cases h
  · cases h
theorem i_wL {σ σ1 : aS} {a : Nat} {i : Int32} {v : Int64} (h : wL σ a i v = some σ1) : ∃ n f, σ.2.2 a = some (.inl (3, n, .inr (.inl f))) ∧ vp_in i n ∧ σ1 = (σ.1, σ.2.1, va_up σ.2.2 a (some (.inl (3, n, .inr (.inl (vp_updL f i.toNatClampNeg v)))))) := by
  unfold wL at h
  split at h
  · rename_i t' n f hm
    by_cases g : t' = 3 ∧ ¬ (i < 0 ∨ n ≤ i.toNatClampNeg)
    · rw [if_pos g] at h
      obtain ⟨g1, g2⟩ := g
      subst g1
      cases h
      exact ⟨n, f, hm, g2, rfl⟩
    · rw [if_neg g] at h; cases h
  · cases h
theorem i_wD {σ σ1 : aS} {a : Nat} {i : Int32} {v : UInt64} (h : wD σ a i v = some σ1) : ∃ n f, σ.2.2 a = some (.inl (2, n, .inr (.inr (.inr (.inl f))))) ∧ vp_in i n ∧ σ1 = (σ.1, σ.2.1, va_up σ.2.2 a (some (.inl (2, n, .inr (.inr (.inr (.inl (vf_upd f i.toNatClampNeg v)))))))) := by
  unfold wD at h
  split at h
  · rename_i t' n f hm
    by_cases g : t' = 2 ∧ ¬ (i < 0 ∨ n ≤ i.toNatClampNeg)
    · rw [if_pos g] at h
      obtain ⟨g1, g2⟩ := g
      subst g1
      cases h
      exact ⟨n, f, hm, g2, rfl⟩
    · rw [if_neg g] at h; cases h
  · cases h
theorem i_wR {σ σ1 : aS} {a t : Nat} {i : Int32} {v : Option Nat} (h : wR σ a t i v = some σ1) : ∃ n f, σ.2.2 a = some (.inl (t, n, .inr (.inr (.inr (.inr f))))) ∧ vp_in i n ∧ σ1 = (σ.1, σ.2.1, va_up σ.2.2 a (some (.inl (t, n, .inr (.inr (.inr (.inr (va_up f i.toNatClampNeg v)))))))) := by
  unfold wR at h
  split at h
  · rename_i t' n f hm
    by_cases g : t' = t ∧ ¬ (i < 0 ∨ n ≤ i.toNatClampNeg)
    · rw [if_pos g] at h
      obtain ⟨g1, g2⟩ := g
      subst g1
      cases h
      exact ⟨n, f, hm, g2, rfl⟩
    · rw [if_neg g] at h; cases h
  · cases h
theorem i_aLen {σ : aS} {a : Nat} {v : Int32} (h : aLen σ a = some v) : ∃ A, σ.2.2 a = some (.inl A) ∧ A.1 < 10 ∧ Int32.ofNat A.2.1 = v := by
  unfold aLen at h
  split at h
  · rename_i A hm
    by_cases g : A.1 < 10
    · rw [if_pos g] at h
      cases h
      exact ⟨A, hm, g, rfl⟩
    · rw [if_neg g] at h; cases h
  · cases h
