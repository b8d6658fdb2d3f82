/-! THE PURE LAW: the machine's object -/
def mfs (f : Nat → Value) : List Value := (List.range 24).map f
def mc (f : Nat → Value) : aE := .inr (0, mfs f)
theorem mfs_get {f : Nat → Value} {k : Nat} (hk : k < 24) : (mfs f)[k]? = some (f k) := by
  unfold mfs
  rw [List.getElem?_map, List.getElem?_range hk]
  rfl
theorem mfs_set {f : Nat → Value} {k : Nat} {v : Value} : (mfs f).set k v = mfs (va_up f k v) := by
  apply List.ext_getElem?
  intro i
  by_cases hi24 : i < 24
  · rw [mfs_get hi24, List.getElem?_set]
    have hl : (mfs f).length = 24 := by unfold mfs; rw [List.length_map, List.length_range]
    by_cases g : k = i
    · subst g
      rw [if_pos rfl, if_pos (by omega)]
      unfold va_up
      rw [if_pos rfl]
    · rw [if_neg g, mfs_get hi24]
      unfold va_up
      rw [if_neg (fun z => g z.symm)]
  · rw [List.getElem?_eq_none (by rw [List.length_set]; unfold mfs; rw [List.length_map, List.length_range]; omega), List.getElem?_eq_none (by unfold mfs; rw [List.length_map, List.length_range]; omega)]
theorem va_at_ {α : Type} {f : Nat → α} {k : Nat} {v : α} : va_up f k v k = v := by unfold va_up; rw [if_pos rfl]
theorem va_ne_ {α : Type} {f : Nat → α} {k j : Nat} {v : α} (h : j ≠ k) : va_up f k v j = f j := by unfold va_up; rw [if_neg h]
section MACH
variable {σ : aS} {x : Nat} {f : Nat → Value}
theorem m_cls (h : σ.2.2 x = some (mc f)) : gC σ x 0 = some () := gC_of h
theorem m_I {k : Nat} {v : Int32} (h : σ.2.2 x = some (mc f)) (g : f k = .int v) (hk : k < 24 := by decide) : gI σ x 0 k = some v := gI_of h (by rw [mfs_get hk, g])
theorem m_R {k : Nat} {v : Option Nat} (h : σ.2.2 x = some (mc f)) (g : f k = va_rf v) (hk : k < 24 := by decide) : gR σ x 0 k = some v := gR_of h (by rw [mfs_get hk, g])
theorem m_put {k : Nat} {v : Value} (h : σ.2.2 x = some (mc f)) (hk : k < 24 := by decide) : pF σ x 0 k v = some (mv σ x (mc (va_up f k v))) := by
  rw [pF_of h (by unfold mfs; rw [List.length_map, List.length_range]; exact hk), mfs_set]
  rfl
end MACH
/-- a double array's contents -/
abbrev dA (g : Nat → UInt64) : (Nat → Int32) ⊕ (Nat → Int64) ⊕ (Nat → UInt32) ⊕ (Nat → UInt64) ⊕ (Nat → Option Nat) := .inr (.inr (.inr (.inl g)))
/-- a reference array's contents -/
abbrev rA (g : Nat → Option Nat) : (Nat → Int32) ⊕ (Nat → Int64) ⊕ (Nat → UInt32) ⊕ (Nat → UInt64) ⊕ (Nat → Option Nat) := .inr (.inr (.inr (.inr g)))
/-- where the machine's arrays stand: the machine at x, its arrays behind it -/
def FX (x : Nat) (f : Nat → Value) : Prop := f 0 = .ref (x + 1) ∧ f 5 = .ref (x + 2) ∧ f 6 = .ref (x + 3) ∧ f 8 = .ref (x + 4) ∧ f 10 = .ref (x + 5) ∧ f 11 = .ref (x + 6) ∧ f 12 = .ref (x + 7) ∧ f 14 = .ref (x + 8) ∧ f 16 = .ref (x + 9)
theorem FX.up {x k : Nat} {f : Nat → Value} {v : Value} (h : FX x f) (hk : k ≠ 0 ∧ k ≠ 5 ∧ k ≠ 6 ∧ k ≠ 8 ∧ k ≠ 10 ∧ k ≠ 11 ∧ k ≠ 12 ∧ k ≠ 14 ∧ k ≠ 16 := by decide) : FX x (va_up f k v) := by
  obtain ⟨h0, h1, h2, h3, h4, h5, h6, h7, h8⟩ := h
  obtain ⟨k0, k1, k2, k3, k4, k5, k6, k7, k8⟩ := hk
  exact ⟨(va_ne_ (fun z => k0 z.symm)).trans h0, (va_ne_ (fun z => k1 z.symm)).trans h1, (va_ne_ (fun z => k2 z.symm)).trans h2, (va_ne_ (fun z => k3 z.symm)).trans h3, (va_ne_ (fun z => k4 z.symm)).trans h4, (va_ne_ (fun z => k5 z.symm)).trans h5, (va_ne_ (fun z => k6 z.symm)).trans h6, (va_ne_ (fun z => k7 z.symm)).trans h7, (va_ne_ (fun z => k8 z.symm)).trans h8⟩
/-! working out: what changes meanwhile -/
/-- the machine at x with fields f but c calls; variables V, rows of the calls; all else is hp -/
def ES (x : Nat) (f : Nat → Value) (hp : Nat → Option aE) (σ : aS) (c : Nat) (V : Nat → UInt64) (CR : Nat → Int32) (CO : Nat → UInt64) : Prop :=
  σ.2.2 x = some (mc (va_up f 9 (.int (c32 c)))) ∧ σ.2.2 (x + 2) = some (.inl (2, 26, dA V)) ∧ σ.2.2 (x + 5) = some (.inl (1, 3, .inl CR)) ∧ σ.2.2 (x + 6) = some (.inl (2, 3, dA CO)) ∧ ∀ q, q ≠ x → q ≠ x + 2 → q ≠ x + 5 → q ≠ x + 6 → σ.2.2 q = hp q
/-- the variables when all calls have been left -/
def UV : Nat → (Nat → UInt64) → (Nat → Int32) → (Nat → UInt64) → Nat → UInt64
  | 0, V, _, _ => V
  | c + 1, V, CR, CO => UV c (vf_upd V (CR c).toNatClampNeg (CO c)) CR CO
