/-! THE PURE LAW: working out, calls -/
/-- function g of both machines -/
def FR (h : Nat → Option aE) (st : bS) (g : Nat) (r : Option Nat) : Prop := match r with
  | none => st.2.1 37 g = -1
  | some d => ∃ gg s b k, h d = some (.inr (24, [gg, .int (c32 s), .ref b])) ∧ s < 26 ∧ k < 24 ∧ st.2.1 37 g = c32 k ∧ st.2.1 12 (8 * k + 1) = c32 s ∧ EXP h b 0 (RV st k)
/-- what stands still while a value is worked out -/
def EC (x : Nat) (f : Nat → Value) (hp h : Nat → Option aE) (st0 : bS) (M F : Nat → Option Nat) : Prop :=
  FX x f ∧ hle h hp ∧ (∀ q, x ≤ q → q ≤ x + 9 → h q = none) ∧ hp (x + 3) = some (.inl (4, 3, rA M)) ∧ hp (x + 4) = some (.inl (5, 3, rA F)) ∧ (∀ m, m < 3 → MR hp st0 m (M m) ∧ ∀ q, M m = some q → x + 9 < q) ∧ ∀ g, g < 3 → FR h st0 g (F g)
theorem va_vv {α : Type} {f : Nat → α} {k : Nat} {v w : α} : va_up (va_up f k v) k w = va_up f k w := by
  funext j
  unfold va_up
  by_cases g : j = k
  · rw [if_pos g, if_pos g]
  · rw [if_neg g, if_neg g, if_neg g]
section EVC
variable {x : Nat} {f : Nat → Value} {hp h : Nat → Option aE} {st0 st : bS} {M F : Nat → Option Nat} {σ : aS} {n c t : Nat} {S : Nat → Nat} {V : Nat → UInt64} {CR : Nat → Int32} {CO : Nat → UInt64}
theorem ES.cell {q : Nat} {e : aE} (hs : ES x f hp σ c V CR CO) (ec : EC x f hp h st0 M F) (g : h q = some e) : σ.2.2 q = some e := by
  have hne : ∀ k, k ≤ 9 → q ≠ x + k := fun k hk z => by
    have := ec.2.2.1 q (by omega) (by omega)
    rw [this] at g
    exact nomatch g
  rw [hs.2.2.2.2 q (hne 0 (by omega)) (hne 2 (by omega)) (hne 5 (by omega)) (hne 6 (by omega))]
  exact ec.2.1 q e g
theorem ES.th (hs : ES x f hp σ c V CR CO) : ES x f hp (aTh σ) c V CR CO := hs
theorem ES.f5 (hs : ES x f hp σ c V CR CO) (hf : FX x f) : gR σ x 0 5 = some (some (x + 2)) := m_R hs.1 ((va_ne_ (by decide)).trans hf.2.1)
theorem ES.f10 (hs : ES x f hp σ c V CR CO) (hf : FX x f) : gR σ x 0 10 = some (some (x + 5)) := m_R hs.1 ((va_ne_ (by decide)).trans hf.2.2.2.2.1)
theorem ES.f11 (hs : ES x f hp σ c V CR CO) (hf : FX x f) : gR σ x 0 11 = some (some (x + 6)) := m_R hs.1 ((va_ne_ (by decide)).trans hf.2.2.2.2.2.1)
theorem ES.f9 (hs : ES x f hp σ c V CR CO) : gI σ x 0 9 = some (c32 c) := m_I hs.1 va_at_
theorem ES.cls (hs : ES x f hp σ c V CR CO) : gC σ x 0 = some () := m_cls hs.1
theorem ES.sc {c' : Nat} (hs : ES x f hp σ c V CR CO) : ∃ σ', pF σ x 0 9 (.int (c32 c')) = some σ' ∧ σ'.1 = σ.1 ∧ σ'.2.1 = σ.2.1 ∧ ES x f hp σ' c' V CR CO := by
  obtain ⟨h1, h2, h3, h4, h5⟩ := hs
  refine ⟨_, m_put h1, rfl, rfl, ?_, ?_, ?_, ?_, fun q g1 g2 g3 g4 => ?_⟩
  · rw [mv_at, va_vv]
  · rw [mv_ne _ _ (by omega)]; exact h2
  · rw [mv_ne _ _ (by omega)]; exact h3
  · rw [mv_ne _ _ (by omega)]; exact h4
  · rw [mv_ne _ _ g1]; exact h5 q g1 g2 g3 g4
theorem ES.sv {s : Nat} {v : UInt64} (hs : ES x f hp σ c V CR CO) (hb : s < 26) : ∃ σ', wD σ (x + 2) (c32 s) v = some σ' ∧ σ'.1 = σ.1 ∧ σ'.2.1 = σ.2.1 ∧ ES x f hp σ' c (vf_upd V s v) CR CO := by
  obtain ⟨h1, h2, h3, h4, h5⟩ := hs
  refine ⟨_, wD_of h2 hb (by omega), rfl, rfl, ?_, ?_, ?_, ?_, fun q g1 g2 g3 g4 => ?_⟩
  · rw [mv_ne _ _ (by omega)]; exact h1
  · rw [mv_at]
  · rw [mv_ne _ _ (by omega)]; exact h3
  · rw [mv_ne _ _ (by omega)]; exact h4
  · rw [mv_ne _ _ g2]; exact h5 q g1 g2 g3 g4
theorem ES.sr {i : Nat} {v : Int32} (hs : ES x f hp σ c V CR CO) (hb : i < 3) : ∃ σ', wI σ (x + 5) 1 (c32 i) v = some σ' ∧ σ'.1 = σ.1 ∧ σ'.2.1 = σ.2.1 ∧ ES x f hp σ' c V (upd CR i v) CO := by
  obtain ⟨h1, h2, h3, h4, h5⟩ := hs
  refine ⟨_, wI_of h3 hb (by omega), rfl, rfl, ?_, ?_, ?_, ?_, fun q g1 g2 g3 g4 => ?_⟩
  · rw [mv_ne _ _ (by omega)]; exact h1
  · rw [mv_ne _ _ (by omega)]; exact h2
  · rw [mv_at]
  · rw [mv_ne _ _ (by omega)]; exact h4
  · rw [mv_ne _ _ g3]; exact h5 q g1 g2 g3 g4
theorem ES.so {i : Nat} {v : UInt64} (hs : ES x f hp σ c V CR CO) (hb : i < 3) : ∃ σ', wD σ (x + 6) (c32 i) v = some σ' ∧ σ'.1 = σ.1 ∧ σ'.2.1 = σ.2.1 ∧ ES x f hp σ' c V CR (vf_upd CO i v) := by
  obtain ⟨h1, h2, h3, h4, h5⟩ := hs
  refine ⟨_, wD_of h4 hb (by omega), rfl, rfl, ?_, ?_, ?_, ?_, fun q g1 g2 g3 g4 => ?_⟩
  · rw [mv_ne _ _ (by omega)]; exact h1
  · rw [mv_ne _ _ (by omega)]; exact h2
  · rw [mv_ne _ _ (by omega)]; exact h3
  · rw [mv_at]
  · rw [mv_ne _ _ g4]; exact h5 q g1 g2 g3 g4
theorem A_leave {s : Nat} (hs : ES x f hp σ (c + 1) V CR CO) (hf : FX x f) (hc : c < 3) (h26 : s < 26) (hr : CR c = c32 s) : ∃ σ', af_X1_leave n S σ x = some (σ', ()) ∧ σ'.1 = σ.1 ∧ σ'.2.1 = σ.2.1 ∧ ES x f hp σ' c (vf_upd V s (CO c)) CR CO := by
  obtain ⟨σ1, e1, z1, z2, hs1⟩ := hs.sc (c' := c)
  obtain ⟨σ2, e2, z3, z4, hs2⟩ := hs1.sv (v := CO c) h26
  refine ⟨σ2, ?_, z3.trans z1, z4.trans z2, hs2⟩
  unfold af_X1_leave
  rw [ob hs.f9]
  show (pF σ x 0 9 (.int (c32 (c + 1) - c32 1))).bind _ = _
  rw [c_sub (by omega), Nat.add_sub_cancel, ob e1, ob (hs1.f5 hf), ob (hs1.f10 hf), ob hs1.f9, ob (show some (x + 5) = some (x + 5) from rfl), ob (lI_of hs1.2.2.1 (by omega) (by omega)), ob (hs1.f11 hf), ob hs1.f9, ob (show some (x + 6) = some (x + 6) from rfl), ob (lD_of hs1.2.2.2.1 (by omega) (by omega)), ob (show some (x + 2) = some (x + 2) from rfl), hr, ob e2]
theorem SB.cong {CR' : Nat → Int32} {CO' : Nat → UInt64} (h : SB st0 st c t V CR CO) (g : ∀ i, i < c → CR' i = CR i ∧ CO' i = CO i) : SB st0 st c t V CR' CO' := by
  obtain ⟨h1, h2, h3, h4, h5, h6, h7⟩ := h
  exact ⟨h1, h2, h3, h4, h5, fun i hi => (h6 i hi).trans (g i hi).1.symm, fun i hi => (h7 i hi).trans (g i hi).2.symm⟩
/-- the model leaves a call -/
def lv (st : bS) (c s : Nat) (v : UInt64) : bS := sD (sI st 24 (c32 c)) 29 s v
theorem B_leave {s : Nat} (hS : SB st0 st (c + 1) t V CR CO) (hc : c < 3) (h26 : s < 26) (hr : CR c = c32 s) : bf_leave n st = some (lv st c s (CO c), ()) ∧ SB st0 (lv st c s (CO c)) c t (vf_upd V s (CO c)) CR CO := by
  obtain ⟨h1, h2, h3, h4, h5, h6, h7⟩ := hS
  constructor
  · unfold bf_leave
    rw [h2]
    show (ldA (sI st 24 (c32 (c + 1) - c32 1)) 44 (c32 (c + 1) - c32 1)).bind (fun v_2 => (ldD (sI st 24 (c32 (c + 1) - c32 1)) 34 (c32 (c + 1) - c32 1)).bind fun v_3 => (stD (sI st 24 (c32 (c + 1) - c32 1)) 29 v_2 v_3).bind fun st_4 => some (st_4, ())) = _
    rw [c_sub (by omega), Nat.add_sub_cancel, ob (ld_A (show c < 4 by omega)), ob (ld_D (show c < 4 by omega))]
    show (stD (sI st 24 (c32 c)) 29 (st.2.1 44 c) (st.2.2 34 c)).bind _ = _
    rw [h6 c (by omega), h7 c (by omega), hr, ob (st_D (show s < 26 from h26))]
    rfl
  · refine ⟨(h1.i (by omega)).d (by omega), rfl, h3, h4, fun i hi => ?_, fun i hi => h6 i (by omega), fun i hi => ?_⟩
    · show (sD (sI st 24 (c32 c)) 29 s (CO c)).2.2 29 i = _
      rw [sD_at, if_pos rfl]
      unfold vf_upd
      by_cases g : i = s
      · rw [if_pos g, if_pos g]
      · rw [if_neg g, if_neg g]
        exact h5 i hi
    · show (sD (sI st 24 (c32 c)) 29 s (CO c)).2.2 34 i = _
      rw [sD_ne _ (by decide)]
      exact h7 i (by omega)
/-- the end of a function's body -/
theorem w_ret {s pc fu : Nat} {p' : Int32} (hS : SB st0 st (c + 1) t V CR CO) (hc : c < 3) (h26 : s < 26) (hr : CR c = c32 s) (hm : st.2.1 14 pc = c32 14) (hpc : pc < 4000) (h43 : st.2.1 43 c = p') : bf_work_S12 n (fu + 1) st (c32 pc) = bf_work_S12 n fu (lv st c s (CO c)) p' := by
  show bf_work_B12 n (bf_work_S12 n fu) st (c32 pc) = _
  unfold bf_work_B12
  have e : ldA st 14 (c32 pc) = some (c32 14) := by rw [ld_A (show pc < 4000 from hpc), hm]
  have e2 : ldA (lv st c s (CO c)) 43 (c32 c) = some p' := by
    rw [ld_A (show c < 4 by omega)]
    exact congrArg some h43
  rw [if_pos hS.2.2.2.1, ob e, if_pos (by decide), if_neg (by rw [hS.2.1]; exact n_c (b := 0) (by omega) (by omega) (by omega)), ob (B_leave hS hc h26 hr).1]
  show (ldA (lv st c s (CO c)) 43 (c32 c)).bind _ = _
  rw [ob e2]
/-- is there such a function -/
theorem o_12 {pc g : Nat} (h : SB st0 st c t V CR CO) (hpc : pc + 2 < 4000) (h1 : st0.2.1 14 (pc + 1) = c32 g) (hg : g < 3) :
    (st0.2.1 37 g = -1 → bf_operate n st (c32 12) (c32 pc) = some (sI st 27 (c32 3), c32 (pc + 2))) ∧
    (∀ k, k < 24 → st0.2.1 37 g = c32 k → bf_operate n st (c32 12) (c32 pc) = some (st, c32 (pc + 2))) := by
  have hV := h.1
  have e37 : ldA st 37 (c32 g) = some (st0.2.1 37 g) := by rw [ld_A (show g < 3 from hg), hV.2.1 37 (by decide) (by decide)]
  have e0 : bf_operate n st (c32 12) (c32 pc) = if 0 ≤ st0.2.1 37 g then some (st, c32 pc + c32 2) else some (sI st 27 (c32 3), c32 pc + c32 2) := by
    unfold bf_operate
    rw [ob (o_next hV (by omega)), if_neg (by decide), if_neg (by decide), if_neg (by decide), if_pos (by decide), if_pos (by decide), if_neg (by decide), h1, ob e37]
    rfl
  rw [e0, c_add]
  constructor
  · intro g1
    rw [g1, if_neg (by decide)]
  · intro k hk g1
    rw [g1, if_pos (c_0le (by omega))]
/-- a call -/
def ca (st : bS) (c t s : Nat) (p' : Int32) (v w : UInt64) : bS := sD (sI (sI (sD (sA (sA st 43 c p') 44 c (c32 s)) 34 c w) 24 (c32 (c + 1))) 25 (c32 t)) 29 s v
theorem o_13_f {pc g : Nat} (h : SB st0 st 3 t V CR CO) (hpc : pc + 2 < 4000) (h1 : st0.2.1 14 (pc + 1) = c32 g) (hg : g < 3) : bf_operate n st (c32 13) (c32 pc) = some (sI st 27 (c32 2), c32 (pc + 2)) := by
  have hV := h.1
  unfold bf_operate
  rw [ob (o_next hV (by omega)), if_neg (by decide), if_neg (by decide), if_neg (by decide), if_pos (by decide), if_pos (by decide), if_pos (by decide)]
  unfold bf_call
  rw [if_pos (by rw [h.2.1]; rfl)]
  show some (sI st 27 (c32 2), c32 pc + c32 2) = _
  rw [c_add]
theorem o_13 {pc g k s p : Nat} (h : SB st0 st c (t + 1) V CR CO) (hc : c < 3) (hpc : pc + 2 < 4000) (ht : t < 200) (h1 : st0.2.1 14 (pc + 1) = c32 g) (hg : g < 3) (hk : k < 24) (h37 : st0.2.1 37 g = c32 k) (h12 : st0.2.1 12 (8 * k + 1) = c32 s) (hs : s < 26) (h13 : st0.2.1 13 (4 * k) = c32 p) : bf_operate n st (c32 13) (c32 pc) = some (ca st c t s (c32 (pc + 2)) (st.2.2 30 t) (V s), c32 p) := by
  have hV := h.1
  have e37 : ∀ s' : bS, s'.2.1 37 = st.2.1 37 → ldA s' 37 (c32 g) = some (c32 k) := fun s' hs' => by rw [ld_A (show g < 3 from hg), hs', hV.2.1 37 (by decide) (by decide), h37]
  unfold bf_operate
  rw [ob (o_next hV (by omega)), if_neg (by decide), if_neg (by decide), if_neg (by decide), if_pos (by decide), if_pos (by decide), if_pos (by decide), h1]
  unfold bf_call
  rw [if_neg (by rw [h.2.1]; exact n_c (b := 3) (by omega) (by omega) (by omega)), ob (e37 st rfl)]
  have e12 : ldA st 12 (c32 k * (8 : Int32) + (1 : Int32)) = some (c32 s) := by
    show ldA st 12 (c32 k * c32 8 + c32 1) = _
    rw [c_mul, c_add, Nat.mul_comm k, ld_A (show 8 * k + 1 < 200 by omega), hV.2.1 12 (by decide) (by decide), h12]
  rw [ob e12, h.2.1, ob (st_A (show c < 4 by omega))]
  show ((stA (sA st 43 c (c32 pc + c32 2)) 44 (st.1 24) (c32 s)).bind _).bind _ = _
  rw [h.2.1, c_add, ob (st_A (show c < 4 by omega))]
  have e29 : ldD (sA (sA st 43 c (c32 (pc + 2))) 44 c (c32 s)) 29 (c32 s) = some (V s) := by
    rw [ld_D (show s < 26 from hs)]
    exact congrArg some (h.2.2.2.2.1 s hs)
  rw [ob e29]
  show ((stD (sA (sA st 43 c (c32 (pc + 2))) 44 c (c32 s)) 34 (st.1 24) (V s)).bind _).bind _ = _
  rw [h.2.1, ob (st_D (show c < 4 by omega))]
  have e8 : ptI (sD (sA (sA st 43 c (c32 (pc + 2))) 44 c (c32 s)) 34 c (V s)) 24 ((sD (sA (sA st 43 c (c32 (pc + 2))) 44 c (c32 s)) 34 c (V s)).1 24 + (1 : Int32)) = some (sI (sD (sA (sA st 43 c (c32 (pc + 2))) 44 c (c32 s)) 34 c (V s)) 24 (c32 (c + 1))) := by
    show some (sI _ 24 (st.1 24 + c32 1)) = _
    rw [h.2.1, c_add]
  have e9 : ptI (sI (sD (sA (sA st 43 c (c32 (pc + 2))) 44 c (c32 s)) 34 c (V s)) 24 (c32 (c + 1))) 25 ((sI (sD (sA (sA st 43 c (c32 (pc + 2))) 44 c (c32 s)) 34 c (V s)) 24 (c32 (c + 1))).1 25 - (1 : Int32)) = some (sI (sI (sD (sA (sA st 43 c (c32 (pc + 2))) 44 c (c32 s)) 34 c (V s)) 24 (c32 (c + 1))) 25 (c32 t)) := by
    show some (sI _ 25 (st.1 25 - c32 1)) = _
    rw [h.2.2.1, c_sub (by omega), Nat.add_sub_cancel]
  have ev : (sI (sI (sD (sA (sA st 43 c (c32 (pc + 2))) 44 c (c32 s)) 34 c (V s)) 24 (c32 (c + 1))) 25 (c32 t)).2.2 30 t = st.2.2 30 t := by
    show (sD (sA (sA st 43 c (c32 (pc + 2))) 44 c (c32 s)) 34 c (V s)).2.2 30 t = _
    rw [sD_ne _ (by decide)]
    rfl
  have e10 : ldD (sI (sI (sD (sA (sA st 43 c (c32 (pc + 2))) 44 c (c32 s)) 34 c (V s)) 24 (c32 (c + 1))) 25 (c32 t)) 30 ((sI (sI (sD (sA (sA st 43 c (c32 (pc + 2))) 44 c (c32 s)) 34 c (V s)) 24 (c32 (c + 1))) 25 (c32 t)).1 25) = some (st.2.2 30 t) := by
    show ldD _ 30 (c32 t) = _
    rw [ld_D (show t < 200 from ht), ev]
  rw [ob e8, ob e9, ob e10, ob (st_D (show s < 26 from hs))]
  have ea : ∀ (q : Nat), q ≠ 43 → q ≠ 44 → (sA (sA st 43 c (c32 (pc + 2))) 44 c (c32 s)).2.1 q = st.2.1 q := fun q q1 q2 => by rw [sA_ne _ q2, sA_ne _ q1]
  rw [ob (e37 (sD (sI (sI (sD (sA (sA st 43 c (c32 (pc + 2))) 44 c (c32 s)) 34 c (V s)) 24 (c32 (c + 1))) 25 (c32 t)) 29 s (st.2.2 30 t)) (ea 37 (by decide) (by decide)))]
  have e13 : ldA (sD (sI (sI (sD (sA (sA st 43 c (c32 (pc + 2))) 44 c (c32 s)) 34 c (V s)) 24 (c32 (c + 1))) 25 (c32 t)) 29 s (st.2.2 30 t)) 13 (c32 k * (4 : Int32)) = some (c32 p) := by
    show ldA _ 13 (c32 k * c32 4) = _
    rw [c_mul, Nat.mul_comm k, ld_A (show 4 * k < 100 by omega)]
    show some ((sA (sA st 43 c (c32 (pc + 2))) 44 c (c32 s)).2.1 13 (4 * k)) = _
    rw [ea 13 (by decide) (by decide), hV.2.1 13 (by decide) (by decide), h13]
  rw [ob e13]
  rfl
theorem SB.ca {s : Nat} {p' : Int32} {v : UInt64} (h : SB st0 st c (t + 1) V CR CO) : SB st0 (ca st c t s p' v (V s)) (c + 1) t (vf_upd V s v) (upd CR c (c32 s)) (vf_upd CO c (V s)) := by
  obtain ⟨h1, h2, h3, h4, h5, h6, h7⟩ := h
  refine ⟨(((((h1.a (by omega)).a (by omega)).d (by omega)).i (by omega)).i (by omega)).d (by omega), rfl, rfl, h4, fun i hi => ?_, fun i hi => ?_, fun i hi => ?_⟩
  · show (sD (sI (sI (sD (sA (sA st 43 c p') 44 c (c32 s)) 34 c (V s)) 24 (c32 (c + 1))) 25 (c32 t)) 29 s v).2.2 29 i = _
    rw [sD_at, if_pos rfl]
    unfold vf_upd
    by_cases g : i = s
    · rw [if_pos g, if_pos g]
    · rw [if_neg g, if_neg g]
      show (sD (sA (sA st 43 c p') 44 c (c32 s)) 34 c (V s)).2.2 29 i = _
      rw [sD_ne _ (by decide)]
      exact h5 i hi
  · show (sA (sA st 43 c p') 44 c (c32 s)).2.1 44 i = _
    rw [sA_at, if_pos rfl]
    unfold upd
    by_cases g : i = c
    · rw [if_pos g, if_pos g]
    · rw [if_neg g, if_neg g, sA_ne _ (by decide)]
      exact h6 i (by omega)
  · show (sD (sI (sI (sD (sA (sA st 43 c p') 44 c (c32 s)) 34 c (V s)) 24 (c32 (c + 1))) 25 (c32 t)) 29 s v).2.2 34 i = _
    rw [sD_ne _ (by decide)]
    show (sD (sA (sA st 43 c p') 44 c (c32 s)) 34 c (V s)).2.2 34 i = _
    rw [sD_at, if_pos rfl]
    unfold vf_upd
    by_cases g : i = c
    · rw [if_pos g, if_pos g]
    · rw [if_neg g, if_neg g]
      exact h7 i (by omega)
/-- an element -/
theorem o_2 {pc m : Nat} (h : SB st0 st c (t + 2) V CR CO) (hpc : pc + 2 < 4000) (ht : t + 1 < 200) (h1 : st0.2.1 14 (pc + 1) = c32 m) (hm : m < 3) {R K : Nat} (h38 : st0.2.1 38 m = c32 R) (h39 : R ≠ 0 → st0.2.1 39 m = c32 K) (hR : R ≤ 6) (hK : K ≤ 6) :
    (∀ i j, i < R → j < K → FP.d2l (st.2.2 30 t) = c64 (i + 1) → FP.d2l (st.2.2 30 (t + 1)) = c64 (j + 1) → bf_operate n st (c32 2) (c32 pc) = some (sD (sI st 25 (c32 (t + 1))) 30 t (st0.2.2 35 (36 * m + 6 * i + j)), c32 (pc + 2))) ∧
    (¬ plc R K (FP.d2l (st.2.2 30 t)) (FP.d2l (st.2.2 30 (t + 1))) → bf_operate n st (c32 2) (c32 pc) = some (sI (sI st 25 (c32 (t + 1))) 27 (c32 5), c32 (pc + 2))) := by
  have hV := h.1
  have et : st.1 25 - (1 : Int32) = c32 (t + 1) := by
    rw [h.2.2.1]
    show c32 (t + 2) - c32 1 = _
    rw [c_sub (by omega)]
    rfl
  have et2 : c32 (t + 1) - (1 : Int32) = c32 t := by
    show c32 (t + 1) - c32 1 = _
    rw [c_sub (by omega)]
    rfl
  have e0 : bf_operate n st (c32 2) (c32 pc) = (bf_placeOf n (sI st 25 (c32 (t + 1))) (c32 m) (st.2.2 30 t) (st.2.2 30 (t + 1))).bind fun q_23 => if q_23.2 < 0 then some (q_23.1, c32 (pc + 2)) else (ldD q_23.1 35 q_23.2).bind fun v_25 => (stD q_23.1 30 (q_23.1.1 25 - (1 : Int32)) v_25).bind fun st_26 => some (st_26, c32 (pc + 2)) := by
    unfold bf_operate
    rw [ob (o_next hV (by omega)), if_neg (by decide), if_neg (by decide), if_pos (by decide), et, h1]
    show (ldD (sI st 25 (c32 (t + 1))) 30 (c32 (t + 1) - (1 : Int32))).bind _ = _
    rw [et2, ob (ld_D (show t < 200 by omega))]
    show (ldD (sI st 25 (c32 (t + 1))) 30 (c32 (t + 1))).bind _ = _
    rw [ob (ld_D (show t + 1 < 200 by omega))]
    show (bf_placeOf n (sI st 25 (c32 (t + 1))) (c32 m) (st.2.2 30 t) (st.2.2 30 (t + 1))).bind (fun q_23 => if q_23.2 < 0 then some (q_23.1, c32 pc + c32 2) else (ldD q_23.1 35 q_23.2).bind fun v_25 => (stD q_23.1 30 (q_23.1.1 25 - (1 : Int32)) v_25).bind fun st_26 => some (st_26, c32 pc + c32 2)) = _
    rw [c_add]
  have e38 : (sI st 25 (c32 (t + 1))).2.1 38 m = c32 R := by
    show st.2.1 38 m = _
    rw [hV.2.1 38 (by decide) (by decide), h38]
  have e39 : R ≠ 0 → (sI st 25 (c32 (t + 1))).2.1 39 m = c32 K := fun z => by
    show st.2.1 39 m = _
    rw [hV.2.1 39 (by decide) (by decide), h39 z]
  constructor
  · intro i j hi hj hx hy
    rw [e0, ob (B_place_t hm e38 (e39 (by omega)) hR hK hi hj hx hy)]
    dsimp only
    rw [if_neg (c_nn (by omega)), ob (ld_D (show 36 * m + 6 * i + j < 108 by omega))]
    show (stD (sI st 25 (c32 (t + 1))) 30 (c32 (t + 1) - (1 : Int32)) (st.2.2 35 (36 * m + 6 * i + j))).bind _ = _
    rw [et2, ob (st_D (show t < 200 by omega)), hV.2.2 35 (by decide) (by decide) (by decide)]
  · intro hx
    rw [e0, ob (B_place_f hm e38 e39 hR hK hx)]
    rfl
end EVC
