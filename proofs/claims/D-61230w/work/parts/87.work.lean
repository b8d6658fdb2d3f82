/-! THE PURE LAW: an expression of a statement worked out -/
section WORK
variable {x : Nat} {f : Nat → Value} {hp h : Nat → Option aE} {st : bS} {M F : Nat → Option Nat} {n : Nat} {S : Nat → Nat} {σ : aS} {V : Nat → UInt64} {CR : Nat → Int32} {CO : Nat → UInt64}
theorem VF.rfl_ : VF st st := ⟨fun _ _ _ _ => rfl, fun _ _ _ => rfl, fun _ _ _ _ => rfl⟩
theorem VF.trans {a b c : bS} (h1 : VF a b) (h2 : VF b c) : VF a c :=
  ⟨fun k g1 g2 g3 => (h2.1 k g1 g2 g3).trans (h1.1 k g1 g2 g3), fun k g1 g2 => (h2.2.1 k g1 g2).trans (h1.2.1 k g1 g2), fun k g1 g2 g3 => (h2.2.2 k g1 g2 g3).trans (h1.2.2 k g1 g2 g3)⟩
/-- the model leaves all calls -/
theorem B_unw {st0 : bS} {cd : Nat} : ∀ (c fu : Nat) (s : bS), c ≤ 3 → c < fu → VF st0 s → s.1 27 = c32 cd → s.1 24 = c32 c → (∀ i, i < c → ∃ v, v < 26 ∧ s.2.1 44 i = c32 v) →
    ∃ s', bf_work_S76 n fu s = some (s', FP.dconst0) ∧ VF st0 s' ∧ s'.1 27 = c32 cd ∧ ∀ i, i < 26 → s'.2.2 29 i = UV c (s.2.2 29) (s.2.1 44) (s.2.2 34) i := by
  intro c
  induction c with
  | zero =>
    intro fu s _ hf h1 h2 h3 _
    obtain ⟨fu, rfl⟩ : ∃ m, fu = m + 1 := ⟨fu - 1, by omega⟩
    refine ⟨s, ?_, h1, h2, fun _ _ => rfl⟩
    show bf_work_B76 n _ s = _
    unfold bf_work_B76
    rw [h3, if_pos (by decide)]
  | succ c ih =>
    intro fu s hc hf h1 h2 h3 h4
    obtain ⟨fu, rfl⟩ : ∃ m, fu = m + 1 := ⟨fu - 1, by omega⟩
    obtain ⟨v, v1, v2⟩ := h4 c (by omega)
    have el : bf_leave n s = some (lv s c v (s.2.2 34 c), ()) := by
      unfold bf_leave
      rw [h3]
      show (ldA (sI s 24 (c32 (c + 1) - c32 1)) 44 (c32 (c + 1) - c32 1)).bind (fun v_2 => (ldD (sI s 24 (c32 (c + 1) - c32 1)) 34 (c32 (c + 1) - c32 1)).bind fun v_3 => (stD (sI s 24 (c32 (c + 1) - c32 1)) 29 v_2 v_3).bind fun st_4 => some (st_4, ())) = _
      rw [c_sub (by omega), Nat.add_sub_cancel, ob (ld_A (show c < 4 by omega)), ob (ld_D (show c < 4 by omega))]
      show (stD (sI s 24 (c32 c)) 29 (s.2.1 44 c) (s.2.2 34 c)).bind _ = _
      rw [v2, ob (st_D (show v < 26 from v1))]
      rfl
    obtain ⟨s', e1, e2, e3, e4⟩ := ih fu (lv s c v (s.2.2 34 c)) (by omega) (by omega) ((h1.i (by omega)).d (by omega)) h2 rfl (fun i hi => h4 i (by omega))
    refine ⟨s', ?_, e2, e3, fun i hi => (e4 i hi).trans ?_⟩
    · show bf_work_B76 n _ s = _
      unfold bf_work_B76
      rw [h3, if_neg (fun z => by have := (c_le (a := c + 1) (b := 0) (by omega) (by omega)).mp z; omega), ob el]
      exact e1
    · show _ = UV c (vf_upd (s.2.2 29) (s.2.1 44 c).toNatClampNeg (s.2.2 34 c)) (s.2.1 44) (s.2.2 34) i
      rw [v2, c_nat (by omega)]
      refine UV_ext c _ _ _ _ _ _ (fun j hj => ?_) (fun _ _ => rfl) (fun j hj => ?_) i hi
      · show (sD (sI s 24 (c32 c)) 29 v (s.2.2 34 c)).2.2 29 j = _
        rw [sD_at, if_pos rfl]
        rfl
      · show (sD (sI s 24 (c32 c)) 29 v (s.2.2 34 c)).2.2 34 j = _
        rw [sD_ne _ (by decide)]
        rfl
/-- the value -/
def WY (x : Nat) (f : Nat → Value) (hp : Nat → Option aE) (V : Nat → UInt64) (σ : aS) (zA : Option (aS × (UInt64 ⊕ Nat))) (st : bS) (zB : Option (bS × UInt64)) : Prop :=
  ∃ v σ' CR' CO' st', zA = some (σ', .inl v) ∧ okd v ∧ σ'.1 = σ.1 ∧ σ'.2.1 = σ.2.1 ∧ ES x f hp σ' 0 V CR' CO' ∧ zB = some (st', v) ∧ VF st st' ∧ st'.1 27 = 0 ∧ ∀ i, i < 26 → st'.2.2 29 i = V i
/-- the machine has thrown amid working out -/
def FA (x : Nat) (f : Nat → Value) (hp : Nat → Option aE) (V : Nat → UInt64) (σ : aS) : Prop :=
  ∃ c' V' CR' CO', ES x f hp σ c' V' CR' CO' ∧ c' ≤ 3 ∧ (∀ i, i < c' → ∃ s, s < 26 ∧ CR' i = c32 s) ∧ ∀ i, i < 26 → UV c' V' CR' CO' i = V i
/-- .. or a fault -/
def WN {α β : Type} (x : Nat) (f : Nat → Value) (hp : Nat → Option aE) (V : Nat → UInt64) (σ : aS) (zA : Option (aS × (α ⊕ Nat))) (st : bS) (zB : Option (bS × β)) : Prop :=
  ∃ code σ' st' w, zA = some (σ', .inr code) ∧ code < 6 ∧ σ'.1 = σ.1 + 1 ∧ σ'.2.1 = σ.2.1 + 6 ∧ FA x f hp V σ' ∧ zB = some (st', w) ∧ VF st st' ∧ st'.1 27 = c32 (code + 1) ∧ ∀ i, i < 26 → st'.2.2 29 i = V i
theorem W_top (hn : 300000000 ≤ n) (ec : EC x f hp h st M F) {e k i : Nat} (hk : k < 24) (hi4 : i < 4) (he : EXP h e i (RV st k)) (hs : ES x f hp σ 0 V CR CO) (h27 : st.1 27 = 0) (h29 : ∀ i, i < 26 → st.2.2 29 i = V i) (hV : ∀ i, i < 26 → okd (V i)) :
    WY x f hp V σ (af_value n S dV σ e (some x)) st (bf_work n st (st.2.1 13 (4 * k + i))) ∨ WN x f hp V σ (af_value n S dV σ e (some x)) st (bf_work n st (st.2.1 13 (4 * k + i))) := by
  obtain ⟨l, g1, g2, off, g3, g4, g5⟩ := he
  have g5 : CODE st (160 * k + off) (l ++ [14]) := g5
  have hlb : (l ++ [14]).length = l.length + 1 := by rw [List.length_append]; rfl
  rw [hlb] at g4
  rw [g3]
  have hsb : SB st (sI (sI st 25 0) 24 0) 0 0 V CR CO := ⟨(VF.rfl_.i (by omega)).i (by omega), rfl, rfl, h27, h29, fun i hi => absurd hi (by omega), fun i hi => absurd hi (by omega)⟩
  have hw3 : Wk 3 = 2282677 := by decide
  have hkk : l.length * Wk 3 ≤ 276203917 := by
    rw [hw3]
    have := Nat.mul_le_mul_right 2282677 g2
    omega
  have ew : bf_work n st (c32 (160 * k + off)) = bf_work_S12 n n (sI (sI st 25 0) 24 0) (c32 (160 * k + off)) := rfl
  rw [ew]
  rcases EV_all (n := n) (S := S) (by omega) ec 3 0 60 (by omega) (by omega) e l g1 g2 dV σ _ V CR CO 0 (160 * k + off) (by show 60 + 61 * 3 < 300; omega) hs hsb hV (fun i hi => absurd hi (by omega)) g5.l (by omega) (by omega) with ⟨v, σ1, CR1, CO1, st1, k1, q1, q2, q3, q4, q5, q6, q7, q8, q9, q10, q11, q12⟩ | ⟨code, σ', c', V', CR', CO', st1, k1, pc', q1, q2, q3, q4, q5, q6, q7, q8, q9, q10, b1, b2, cc, b3, b4, b5, b6⟩
  · refine Or.inl ⟨v, σ1, CR1, CO1, st1, q1, q2, q3, q4, q5, ?_, q9.1, q9.2.2.2.1, q9.2.2.2.2.1⟩
    have hq := q8 (n - k1)
    rw [show n - k1 + k1 = n by omega] at hq
    rw [hq]
    obtain ⟨fu, hfu⟩ : ∃ m, n - k1 = m + 1 := ⟨n - k1 - 1, by omega⟩
    rw [hfu]
    show bf_work_B12 n _ st1 _ = _
    unfold bf_work_B12
    have e14 : ldA st1 14 (c32 (160 * k + off + l.length)) = some (c32 14) := by
      rw [ld_A (show 160 * k + off + l.length < 4000 by omega), q9.1.2.1 14 (by decide) (by decide)]
      exact congrArg some g5.r.h
    have e30 : ldD st1 30 (0 : Int32) = some v := by
      show ldD st1 30 (c32 0) = _
      rw [ld_D (show 0 < 200 by omega), q10]
    rw [if_pos q9.2.2.2.1, ob e14, if_pos (by decide), if_pos (show st1.1 24 = 0 from q9.2.1), ob e30]
  · obtain ⟨s', e1, e2, e3, e4⟩ := B_unw (n := n) cc n st1 b3 (by omega) b1 b2 b4 b5
    refine Or.inr ⟨code, σ', s', FP.dconst0, q1, q2, q3, q4, ⟨c', V', CR', CO', q5, q6, q7, q8⟩, ?_, e2, e3, fun i hi => (e4 i hi).trans (b6 i hi)⟩
    have hq := q10 (n - k1)
    rw [show n - k1 + k1 = n by omega] at hq
    rw [hq]
    obtain ⟨fu, hfu⟩ : ∃ m, n - k1 = m + 1 := ⟨n - k1 - 1, by omega⟩
    rw [hfu]
    show bf_work_B12 n _ st1 _ = _
    unfold bf_work_B12
    rw [if_neg (by rw [b2]; exact n_c (b := 0) (by omega) (by omega) (by omega))]
    exact e1
end WORK
