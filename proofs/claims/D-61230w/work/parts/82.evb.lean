/-! THE PURE LAW: working out, the model's steps -/
/-- where expression i of slot k stands -/
def RV (st : bS) (k i : Nat) (l : List Nat) : Prop := ∃ off, st.2.1 13 (4 * k + i) = c32 (160 * k + off) ∧ off + l.length ≤ 160 ∧ ∀ j v, l[j]? = some v → st.2.1 14 (160 * k + off + j) = c32 v
/-- what working out leaves alone in the model -/
def VF (st0 st : bS) : Prop := (∀ k, k ≠ 24 → k ≠ 25 → k ≠ 27 → st.1 k = st0.1 k) ∧ (∀ k, k ≠ 43 → k ≠ 44 → st.2.1 k = st0.2.1 k) ∧ ∀ k, k ≠ 29 → k ≠ 30 → k ≠ 34 → st.2.2 k = st0.2.2 k
/-- the model amid working out: c calls, t values -/
def SB (st0 st : bS) (c t : Nat) (V : Nat → UInt64) (CR : Nat → Int32) (CO : Nat → UInt64) : Prop :=
  VF st0 st ∧ st.1 24 = c32 c ∧ st.1 25 = c32 t ∧ st.1 27 = 0 ∧ (∀ i, i < 26 → st.2.2 29 i = V i) ∧ (∀ i, i < c → st.2.1 44 i = CR i) ∧ ∀ i, i < c → st.2.2 34 i = CO i
/-- the model has failed -/
def FB (st0 st : bS) (cd : Nat) (U : Nat → UInt64) : Prop := VF st0 st ∧ st.1 27 = c32 cd ∧ ∃ c, c ≤ 3 ∧ st.1 24 = c32 c ∧ (∀ i, i < c → ∃ s, s < 26 ∧ st.2.1 44 i = c32 s) ∧ ∀ i, i < 26 → UV c (st.2.2 29) (st.2.1 44) (st.2.2 34) i = U i
theorem vf_at {α : Type} {f : Nat → α} {k : Nat} {v : α} : vf_upd f k v k = v := by unfold vf_upd; rw [if_pos rfl]
theorem vf_ne {α : Type} {f : Nat → α} {k j : Nat} {v : α} (h : j ≠ k) : vf_upd f k v j = f j := by unfold vf_upd; rw [if_neg h]
theorem UV_ext : ∀ (c : Nat) (V V' : Nat → UInt64) (CR CR' : Nat → Int32) (CO CO' : Nat → UInt64), (∀ i, i < 26 → V i = V' i) → (∀ i, i < c → CR i = CR' i) → (∀ i, i < c → CO i = CO' i) → ∀ i, i < 26 → UV c V CR CO i = UV c V' CR' CO' i
  | 0, _, _, _, _, _, _, h1, _, _, i, hi => h1 i hi
  | c + 1, V, V', CR, CR', CO, CO', h1, h2, h3, i, hi => by
    unfold UV
    refine UV_ext c _ _ _ _ _ _ (fun j hj => ?_) (fun j hj => h2 j (by omega)) (fun j hj => h3 j (by omega)) i hi
    rw [h2 c (by omega), h3 c (by omega)]
    unfold vf_upd
    split
    · rfl
    · exact h1 j hj
section EVB
variable {st0 st : bS} {n c t : Nat} {V : Nat → UInt64} {CR : Nat → Int32} {CO : Nat → UInt64}
theorem VF.i {k : Nat} {v : Int32} (h : VF st0 st) (hk : k = 24 ∨ k = 25 ∨ k = 27) : VF st0 (sI st k v) :=
  ⟨fun j h1 h2 h3 => by rw [sI_at, if_neg (by omega)]; exact h.1 j h1 h2 h3, h.2.1, h.2.2⟩
theorem VF.a {k i : Nat} {v : Int32} (h : VF st0 st) (hk : k = 43 ∨ k = 44) : VF st0 (sA st k i v) :=
  ⟨h.1, fun j h1 h2 => by rw [sA_ne _ (by omega)]; exact h.2.1 j h1 h2, h.2.2⟩
theorem VF.d {k i : Nat} {v : UInt64} (h : VF st0 st) (hk : k = 29 ∨ k = 30 ∨ k = 34) : VF st0 (sD st k i v) :=
  ⟨h.1, h.2.1, fun j h1 h2 h3 => by rw [sD_ne _ (by omega)]; exact h.2.2 j h1 h2 h3⟩
theorem SB.fb {cd : Nat} (h : SB st0 st c t V CR CO) (hc : c ≤ 3) (hr : ∀ i, i < c → ∃ s, s < 26 ∧ CR i = c32 s) {t' : Int32} : FB st0 (sI (sI st 25 t') 27 (c32 cd)) cd (UV c V CR CO) := by
  obtain ⟨h1, h2, h3, h4, h5, h6, h7⟩ := h
  refine ⟨(h1.i (by omega)).i (by omega), rfl, c, hc, h2, fun i hi => ?_, fun i hi => ?_⟩
  · obtain ⟨s, s1, s2⟩ := hr i hi
    exact ⟨s, s1, (h6 i hi).trans s2⟩
  · exact UV_ext c _ _ _ _ _ _ h5 h6 h7 i hi
theorem SB.fb0 {cd : Nat} (h : SB st0 st c t V CR CO) (hc : c ≤ 3) (hr : ∀ i, i < c → ∃ s, s < 26 ∧ CR i = c32 s) : FB st0 (sI st 27 (c32 cd)) cd (UV c V CR CO) := by
  have := h.fb (cd := cd) hc hr (t' := st.1 25)
  rwa [sI_self (show st.1 25 = st.1 25 from rfl)] at this
/-- value number i of the stack is set -/
theorem SB.val {i : Nat} {v : UInt64} (h : SB st0 st c t V CR CO) : SB st0 (sD st 30 i v) c t V CR CO := by
  obtain ⟨h1, h2, h3, h4, h5, h6, h7⟩ := h
  exact ⟨h1.d (by omega), h2, h3, h4, fun j hj => by rw [sD_ne _ (by decide)]; exact h5 j hj, h6, fun j hj => by rw [sD_ne _ (by decide)]; exact h7 j hj⟩
theorem SB.top {t' : Nat} (h : SB st0 st c t V CR CO) : SB st0 (sI st 25 (c32 t')) c t' V CR CO := by
  obtain ⟨h1, h2, h3, h4, h5, h6, h7⟩ := h
  exact ⟨h1.i (by omega), h2, rfl, h4, h5, h6, h7⟩
/-- the loop's step -/
theorem w_step {pc o : Nat} {st' : bS} {p' : Int32} {fu : Nat} (h27 : st.1 27 = 0) (hm : st.2.1 14 pc = c32 o) (ho : o < 14) (hpc : pc < 4000) (h : bf_operate n st (c32 o) (c32 pc) = some (st', p')) : bf_work_S12 n (fu + 1) st (c32 pc) = bf_work_S12 n fu st' p' := by
  show bf_work_B12 n (bf_work_S12 n fu) st (c32 pc) = _
  unfold bf_work_B12
  have e : ldA st 14 (c32 pc) = some (c32 o) := by rw [ld_A (show pc < 4000 from hpc), hm]
  rw [if_pos h27, ob e, if_neg (by exact n_c (b := 14) (by omega) (by omega) (by omega)), ob e, ob h]
theorem p_S {w pl at_ : Nat} (hw : st.2.1 14 at_ = c32 w) (hpl : st.2.1 14 (at_ + 1) = c32 pl) (h1 : w < 1000000000) (h2 : pl < 4) (ha : at_ + 1 < 4000) : ∀ (k j fu : Nat), j + k = pl → k < fu → bf_plain_S5 n fu st (c32 at_) (un j) (c32 j) = some (st, nuV w pl) := by
  intro k
  induction k with
  | zero =>
    intro j fu hj hf
    obtain ⟨fu, rfl⟩ : ∃ m, fu = m + 1 := ⟨fu - 1, by omega⟩
    unfold bf_plain_S5 bf_plain_B5
    have e1 : ldA st 14 (c32 at_ + (1 : Int32)) = some (c32 pl) := by
      show ldA st 14 (c32 at_ + c32 1) = _
      rw [c_add, ld_A (show at_ + 1 < 4000 from ha), hpl]
    have e2 : ldA st 14 (c32 at_) = some (c32 w) := by rw [ld_A (show at_ < 4000 by omega), hw]
    have hjp : j = pl := by omega
    subst hjp
    rw [ob e1, if_pos (Int32.le_refl _), ob e2]
    exact ob (nN_of (nuV_ok h1 h2))
  | succ k ih =>
    intro j fu hj hf
    obtain ⟨fu, rfl⟩ : ∃ m, fu = m + 1 := ⟨fu - 1, by omega⟩
    unfold bf_plain_S5 bf_plain_B5
    have e1 : ldA st 14 (c32 at_ + (1 : Int32)) = some (c32 pl) := by
      show ldA st 14 (c32 at_ + c32 1) = _
      rw [c_add, ld_A (show at_ + 1 < 4000 from ha), hpl]
    rw [ob e1, if_neg (fun z => by have := (c_le (a := pl) (b := j) (by omega) (by omega)).mp z; omega), ob (nN_of (un_ok (j := j) (by omega)))]
    show bf_plain_S5 n fu st (c32 at_) (un (j + 1)) (c32 j + c32 1) = _
    rw [c_add]
    exact ih (j + 1) fu (by omega) (by omega)
theorem b_plain {w pl at_ : Nat} {v : Int32} (hn : 1000 ≤ n) (hw : st.2.1 14 at_ = c32 w) (hpl : st.2.1 14 (at_ + 1) = c32 pl) (h1 : w < 1000000000) (h2 : pl < 4) (ha : at_ + 1 < 4000) (hv : v = c32 at_) : bf_plain n st v = some (st, nuV w pl) := by
  subst hv
  exact p_S hw hpl h1 h2 ha pl 0 n (by omega) (by omega)
/-- a value is put on top -/
def pu (st : bS) (t : Nat) (v : UInt64) : bS := sI (sD st 30 t v) 25 (c32 (t + 1))
theorem SB.pu {v : UInt64} (h : SB st0 st c t V CR CO) : SB st0 (pu st t v) c (t + 1) V CR CO := h.val.top
theorem pu_at {v : UInt64} : (pu st t v).2.2 30 t = v := by
  show (sD st 30 t v).2.2 30 t = v
  rw [sD_at, if_pos rfl, if_pos rfl]
theorem pu_ne {v : UInt64} {i : Nat} (h : i < t) : (pu st t v).2.2 30 i = st.2.2 30 i := by
  show (sD st 30 t v).2.2 30 i = _
  rw [sD_at, if_pos rfl, if_neg (by omega)]
theorem o_next {pc : Nat} (h : VF st0 st) (hpc : pc + 1 < 4000) : ldA st 14 (c32 pc + (1 : Int32)) = some (st0.2.1 14 (pc + 1)) := by
  show ldA st 14 (c32 pc + c32 1) = _
  rw [c_add, ld_A (show pc + 1 < 4000 from hpc), h.2.1 14 (by decide) (by decide)]
theorem o_0 {pc w pl : Nat} (hn : 1000 ≤ n) (h : SB st0 st c t V CR CO) (hpc : pc + 3 < 4000) (ht : t < 200) (h1 : st0.2.1 14 (pc + 1) = c32 w) (h2 : st0.2.1 14 (pc + 2) = c32 pl) (hw : w < 1000000000) (hpl : pl < 4) : bf_operate n st (c32 0) (c32 pc) = some (pu st t (nuV w pl), c32 (pc + 3)) := by
  have hV := h.1
  have e14 : st.2.1 14 = st0.2.1 14 := hV.2.1 14 (by decide) (by decide)
  unfold bf_operate
  have e : bf_plain n st (c32 pc + (1 : Int32)) = some (st, nuV w pl) := b_plain (at_ := pc + 1) hn (by rw [e14]; exact h1) (by rw [e14]; exact h2) hw hpl (by omega) (c_add pc 1)
  have e2 : stD st 30 (st.1 25) (nuV w pl) = some (sD st 30 t (nuV w pl)) := by rw [h.2.2.1, st_D (show t < 200 from ht)]
  rw [ob (o_next hV (by omega)), if_pos (by decide), ob e]
  dsimp only
  rw [ob e2]
  show some (sI (sD st 30 t (nuV w pl)) 25 (st.1 25 + c32 1), c32 pc + c32 3) = _
  rw [h.2.2.1, c_add, c_add]
  rfl
theorem o_1 {pc s : Nat} (h : SB st0 st c t V CR CO) (hpc : pc + 2 < 4000) (ht : t < 200) (h1 : st0.2.1 14 (pc + 1) = c32 s) (hs : s < 26) : bf_operate n st (c32 1) (c32 pc) = some (pu st t (V s), c32 (pc + 2)) := by
  have hV := h.1
  unfold bf_operate
  have e : ldD st 29 (c32 s) = some (V s) := by rw [ld_D (show s < 26 from hs), h.2.2.2.2.1 s hs]
  have e2 : stD st 30 (st.1 25) (V s) = some (sD st 30 t (V s)) := by rw [h.2.2.1, st_D (show t < 200 from ht)]
  rw [ob (o_next hV (by omega)), if_neg (by decide), if_pos (by decide), h1, ob e, ob e2]
  show some (sI (sD st 30 t (V s)) 25 (st.1 25 + c32 1), c32 pc + c32 2) = _
  rw [h.2.2.1, c_add, c_add]
  rfl
/-- the value on top is replaced -/
theorem o_one {pc o : Nat} (ho : 8 ≤ o ∧ o ≤ 11) (h : SB st0 st c (t + 1) V CR CO) (hpc : pc + 1 < 4000) (ht : t < 200) (hv : okd (st.2.2 30 t)) : bf_operate n st (c32 o) (c32 pc) = some (sD st 30 t (op1 o (st.2.2 30 t)), c32 (pc + 1)) := by
  have hV := h.1
  unfold bf_operate
  have et : st.1 25 - (1 : Int32) = c32 t := by
    rw [h.2.2.1]
    show c32 (t + 1) - c32 1 = _
    rw [c_sub (by omega)]
    rfl
  have e1 : ldD st 30 (st.1 25 - (1 : Int32)) = some (st.2.2 30 t) := by rw [et, ld_D (show t < 200 from ht)]
  have e2 : stD st 30 (st.1 25 - (1 : Int32)) (op1 o (st.2.2 30 t)) = some (sD st 30 t (op1 o (st.2.2 30 t))) := by rw [et, st_D (show t < 200 from ht)]
  rw [ob (o_next hV (by omega)), if_neg (by exact n_c (b := 0) (by omega) (by omega) (by omega)), if_neg (by exact n_c (b := 1) (by omega) (by omega) (by omega)), if_neg (by exact n_c (b := 2) (by omega) (by omega) (by omega)), if_pos (show (8 : Int32) ≤ c32 o from (c_le (a := 8) (by omega) (by omega)).mpr ho.1), if_neg (fun z => by have := (c_le (a := 12) (b := o) (by omega) (by omega)).mp z; omega), ob e1, ob (B_one ho hv)]
  dsimp only
  rw [ob e2]
  show some (_, c32 pc + c32 1) = _
  rw [c_add]
/-- two values become one -/
theorem o_two {pc o : Nat} (hn : 1000 ≤ n) (ho : 3 ≤ o ∧ o ≤ 7) (h : SB st0 st c (t + 2) V CR CO) (hpc : pc + 1 < 4000) (ht : t + 1 < 200) (h1 : okd (st.2.2 30 t)) (h2 : okd (st.2.2 30 (t + 1))) :
    (∀ v, op2 o (st.2.2 30 t) (st.2.2 30 (t + 1)) = some v → bf_operate n st (c32 o) (c32 pc) = some (sD (sI st 25 (c32 (t + 1))) 30 t v, c32 (pc + 1))) ∧
    (op2 o (st.2.2 30 t) (st.2.2 30 (t + 1)) = none → ∃ w, bf_operate n st (c32 o) (c32 pc) = some (sD (sI (sI st 25 (c32 (t + 1))) 27 4) 30 t w, c32 (pc + 1))) := by
  have hV := h.1
  have et : st.1 25 - (1 : Int32) = c32 (t + 1) := by
    rw [h.2.2.1]
    show c32 (t + 2) - c32 1 = _
    rw [c_sub (by omega)]
    rfl
  have et2 : c32 (t + 1) - (1 : Int32) = c32 t := by
    show c32 (t + 1) - c32 1 = _
    rw [c_sub (by omega)]
    rfl
  have e0 : bf_operate n st (c32 o) (c32 pc) = (bf_two n (sI st 25 (c32 (t + 1))) (c32 o) (st.2.2 30 t) (st.2.2 30 (t + 1))).bind fun q_18 => (stD q_18.1 30 (c32 t) q_18.2).bind fun st_19 => some (st_19, c32 (pc + 1)) := by
    unfold bf_operate
    rw [ob (o_next hV (by omega)), if_neg (by exact n_c (b := 0) (by omega) (by omega) (by omega)), if_neg (by exact n_c (b := 1) (by omega) (by omega) (by omega)), if_neg (by exact n_c (b := 2) (by omega) (by omega) (by omega)), if_neg (fun z => by have := (c_le (a := 8) (b := o) (by omega) (by omega)).mp z; omega), et]
    show (ldD (sI st 25 (c32 (t + 1))) 30 (c32 (t + 1) - (1 : Int32))).bind _ = _
    rw [et2, ob (ld_D (show t < 200 by omega))]
    show (ldD (sI st 25 (c32 (t + 1))) 30 (c32 (t + 1))).bind _ = _
    rw [ob (ld_D (show t + 1 < 200 by omega))]
    show (bf_two n (sI st 25 (c32 (t + 1))) (c32 o) (st.2.2 30 t) (st.2.2 30 (t + 1))).bind (fun q_18 => (stD q_18.1 30 (c32 (t + 1) - (1 : Int32)) q_18.2).bind fun st_19 => some (st_19, c32 pc + c32 1)) = _
    rw [et2, c_add]
  have hb := B_two (n := n) (st := sI st 25 (c32 (t + 1))) ho h1 h2 (by omega) (by exact h.2.2.2.1)
  constructor
  · intro v hv
    rw [hv] at hb
    have hb : bf_two n (sI st 25 (c32 (t + 1))) (c32 o) (st.2.2 30 t) (st.2.2 30 (t + 1)) = some (sI st 25 (c32 (t + 1)), v) := hb
    rw [e0, ob hb]
    dsimp only
    rw [ob (st_D (show t < 200 by omega))]
  · intro hv
    rw [hv] at hb
    obtain ⟨w, hb⟩ := hb
    refine ⟨w, ?_⟩
    rw [e0, ob hb]
    dsimp only
    rw [ob (st_D (show t < 200 by omega))]
end EVB
