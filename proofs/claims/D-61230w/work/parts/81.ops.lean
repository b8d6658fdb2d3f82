/-! THE PURE LAW: operators -/
section OPS
variable {n : Nat} {S : Nat → Nat} {σ : aS} {st : bS}
theorem A_ck {r : UInt64} : af_X1_checked n S σ r = match ck r with | some v => some (σ, .inl v) | none => some (aTh σ, .inr 3) := by
  unfold af_X1_checked ck
  by_cases h1 : 0 < (Op.cmpValue (FP.dcmp r (4877398396442247168 : UInt64)) .l)
  · rw [if_pos h1, if_pos h1]
    rfl
  · rw [if_neg h1, if_neg h1]
    by_cases h2 : 0 ≤ (Op.cmpValue (FP.dcmp r (14100770433297022976 : UInt64)) .g)
    · rw [if_pos h2, if_pos h2]
    · rw [if_neg h2, if_neg h2]
      rfl
theorem B_ck {r : UInt64} : bf_kept n st r = match ck r with | some v => some (st, v) | none => some (sI st 27 4, FP.dconst0) := by
  unfold bf_kept ck
  by_cases h1 : 0 < (Op.cmpValue (FP.dcmp r (4877398396442247168 : UInt64)) .l)
  · rw [if_pos h1, if_pos h1]
    rfl
  · rw [if_neg h1, if_neg h1]
    by_cases h2 : 0 ≤ (Op.cmpValue (FP.dcmp r (14100770433297022976 : UInt64)) .g)
    · rw [if_pos h2, if_pos h2]
    · rw [if_neg h2, if_neg h2]
      rfl
/-- what the machine does with an outcome -/
def oA (σ : aS) (z : Option UInt64) : Option (aS × (UInt64 ⊕ Nat)) := match z with
  | some v => some (σ, .inl v)
  | none => some (aTh σ, .inr 3)
/-- what the model does with it: the value is of no use if it failed -/
def oB (st : bS) (z : Option UInt64) (q : Option (bS × UInt64)) : Prop := match z with
  | some v => q = some (st, v)
  | none => ∃ w, q = some (sI st 27 4, w)
theorem xb_idU {z : Option (aS × (UInt64 ⊕ Nat))} : (xb z fun st_22 r_23 => some (st_22, .inl r_23)) = z := by
  cases z with
  | none => rfl
  | some q => obtain ⟨s, r⟩ := q; cases r <;> rfl
theorem bb_id {z : Option (bS × UInt64)} : (z.bind fun q_3 => some (q_3.1, q_3.2)) = z := by cases z <;> rfl
theorem A_dv {x y : UInt64} (hx : okd x) (hy : okd y) : af_X10_divided n S σ x y = oA σ (dv x y) := by
  unfold af_X10_divided dv
  by_cases h : (Op.cmpValue (FP.dcmp y FP.dconst0) .l) = 0
  · rw [if_pos h, if_pos h]
    rfl
  · rw [if_neg h, if_neg h, ob (nN_of (f_div hx hy h)), xb_idU, A_ck]
    rfl
theorem B_dv {x y : UInt64} (hx : okd x) (hy : okd y) : oB st (dv x y) (bf_divided n st x y) := by
  unfold bf_divided dv
  by_cases h : (Op.cmpValue (FP.dcmp y FP.dconst0) .l) = 0
  · rw [if_pos h, if_pos h]
    exact ⟨_, rfl⟩
  · rw [if_neg h, if_neg h, ob (nN_of (f_div hx hy h)), bb_id, B_ck]
    cases hc : ck (FP.ddiv x y) with
    | none => exact ⟨_, rfl⟩
    | some v => rfl
theorem dv_ok {x y v : UInt64} (hx : okd x) (hy : okd y) (h : dv x y = some v) : okd v := by
  unfold dv at h
  by_cases g : (Op.cmpValue (FP.dcmp y FP.dconst0) .l) = 0
  · rw [if_pos g] at h; exact nomatch h
  · rw [if_neg g] at h; exact (f_ck (f_div hx hy g) h).1
theorem pwl_ok {x : UInt64} (hx : okd x) : ∀ (k : Nat) (r v : UInt64), okd r → pwl x k r = some v → okd v
  | 0, r, v, hr, h => by cases h; exact hr
  | k + 1, r, v, hr, h => by
    unfold pwl at h
    cases hc : ck (FP.dmul r x) with
    | none => rw [hc] at h; exact nomatch h
    | some w => rw [hc] at h; exact pwl_ok hx k w v (f_ck (f_mul hr hx) hc).1 h
theorem pw_ok {x y v : UInt64} (hx : okd x) (hy : okd y) (h : pw x y = some v) : okd v := by
  unfold pw at h
  by_cases g1 : (Op.cmpValue (FP.dcmp y (13849694754071117824 : UInt64)) .g) < 0
  · rw [if_pos g1] at h; exact nomatch h
  rw [if_neg g1] at h
  by_cases g2 : 0 < (Op.cmpValue (FP.dcmp y (4626322717216342016 : UInt64)) .l)
  · rw [if_pos g2] at h; exact nomatch h
  rw [if_neg g2] at h
  by_cases g3 : (Op.cmpValue (FP.dcmp (FP.l2d (FP.d2l y)) y) .l) = 0
  · rw [if_pos g3] at h
    cases hl : pwl x (pwN y) FP.dconst1 with
    | none => rw [hl] at h; exact nomatch h
    | some r =>
      rw [hl] at h
      have hr := pwl_ok hx _ _ _ f_1 hl
      have h : (if 0 ≤ FP.d2i y then some r else dv FP.dconst1 r) = some v := h
      by_cases g4 : 0 ≤ FP.d2i y
      · rw [if_pos g4] at h; cases h; exact hr
      · rw [if_neg g4] at h; exact dv_ok f_1 hr h
  · rw [if_neg g3] at h; exact nomatch h
theorem A_pwl {x y : UInt64} (hx : okd x) (hy : okd y) (h : pwOk y) {z : UInt64} (hz : z = if 0 ≤ (Op.cmpValue (FP.dcmp y FP.dconst0) .g) then y else FP.dneg y) : ∀ (k j fu : Nat) (r : UInt64), j + k = pwN y → k < fu → okd r →
    af_X10_power_S54 n S fu σ x y r z (c32 j) = oA σ ((pwl x k r).bind fun r => if 0 ≤ FP.d2i y then some r else dv FP.dconst1 r) := by
  obtain ⟨p1, p2, p3, p4, p5⟩ := f_pw hy h
  intro k
  induction k with
  | zero =>
    intro j fu r hj hf hr
    obtain ⟨fu, rfl⟩ : ∃ m, fu = m + 1 := ⟨fu - 1, by omega⟩
    unfold af_X10_power_S54 af_X10_power_B54
    rw [if_pos (by rw [hz]; exact (p5 j (by omega)).mpr (by omega))]
    show _ = oA σ (if 0 ≤ FP.d2i y then some r else dv FP.dconst1 r)
    by_cases g : 0 ≤ (Op.cmpValue (FP.dcmp y FP.dconst0) .g)
    · rw [if_pos g, if_pos (p2.mp g)]
      rfl
    · rw [if_neg g, if_neg (fun z => g (p2.mpr z)), xb_idU, A_dv f_1 hr]
  | succ k ih =>
    intro j fu r hj hf hr
    obtain ⟨fu, rfl⟩ : ∃ m, fu = m + 1 := ⟨fu - 1, by omega⟩
    unfold af_X10_power_S54 af_X10_power_B54
    rw [if_neg (fun zz => by rw [hz] at zz; have := (p5 j (by omega)).mp zz; omega), ob (nN_of (f_mul hr hx)), A_ck]
    unfold pwl
    cases hc : ck (FP.dmul r x) with
    | none => rfl
    | some w =>
      show af_X10_power_S54 n S fu σ x y w z (c32 j + c32 1) = oA σ ((pwl x k w).bind _)
      rw [c_add]
      exact ih (j + 1) fu w (by omega) (by omega) (f_ck (f_mul hr hx) hc).1
theorem A_pw {x y : UInt64} (hx : okd x) (hy : okd y) (hn : 100 ≤ n) : af_X10_power n S σ x y = oA σ (pw x y) := by
  unfold af_X10_power pw
  by_cases g1 : (Op.cmpValue (FP.dcmp y (13849694754071117824 : UInt64)) .g) < 0
  · rw [if_pos g1, if_pos g1]
    rfl
  rw [if_neg g1, if_neg g1]
  by_cases g2 : 0 < (Op.cmpValue (FP.dcmp y (4626322717216342016 : UInt64)) .l)
  · rw [if_pos g2, if_pos g2]
    rfl
  rw [if_neg g2, if_neg g2, oc (show af_X1_whole n S σ y = some (σ, FP.d2l y) from rfl)]
  by_cases g3 : (Op.cmpValue (FP.dcmp (FP.l2d (FP.d2l y)) y) .l) = 0
  · have hk : pwOk y := ⟨g1, g2, g3⟩
    have hle := (f_pw hy hk).1
    rw [if_pos ((f_sym hy g1 g2).mpr g3), if_pos g3]
    unfold af_X10_power_L49
    by_cases g : 0 ≤ (Op.cmpValue (FP.dcmp y FP.dconst0) .g)
    · rw [if_pos g]
      exact A_pwl hx hy hk (by rw [if_pos g]) (pwN y) 0 n FP.dconst1 (by omega) (by omega) f_1
    · rw [if_neg g]
      exact A_pwl hx hy hk (by rw [if_neg g]) (pwN y) 0 n FP.dconst1 (by omega) (by omega) f_1
  · rw [if_neg (fun z => g3 ((f_sym hy g1 g2).mp z)), if_neg g3]
    rfl
theorem pS0 {k : Nat} {x r : UInt64} {y j a b : Int32} : bf_power_S41 n (k + 1) 0 st x y r j a b = bf_power_B41 n (bf_power_S41 n k) st x y r j a b := rfl
theorem pS1 {k : Nat} {x r : UInt64} {y j a b : Int32} : bf_power_S41 n (k + 1) 1 st x y r j a b = bf_power_B56 n (bf_power_S41 n k) st x y r j a b := rfl
theorem B_pwl {x y : UInt64} (hx : okd x) (hy : okd y) (h : pwOk y) : ∀ (k j fu : Nat) (r : UInt64) (u1 u2 : Int32), j + k = pwN y → 2 * k + 1 < fu → okd r → st.1 27 = 0 →
    oB st ((pwl x k r).bind fun r => if 0 ≤ FP.d2i y then some r else dv FP.dconst1 r) (bf_power_S41 n fu 0 st x (FP.d2i y) r (c32 j) u1 u2) := by
  obtain ⟨p1, p2, p3, p4, p5⟩ := f_pw hy h
  have step : ∀ (fu j : Nat) (r : UInt64) (u1 u2 : Int32), bf_power_S41 n (fu + 2) 0 st x (FP.d2i y) r (c32 j) u1 u2 = bf_power_B56 n (bf_power_S41 n fu) st x (FP.d2i y) r (c32 j) (c32 j) (c32 (pwN y)) := by
    intro fu j r u1 u2
    rw [pS0]
    unfold bf_power_B41
    by_cases g : 0 ≤ FP.d2i y
    · rw [if_pos g, pS1]
      exact congrArg (fun u => bf_power_B56 n (bf_power_S41 n fu) st x (FP.d2i y) r (c32 j) (c32 j) u) (p3 g)
    · rw [if_neg g, pS1]
      exact congrArg (fun u => bf_power_B56 n (bf_power_S41 n fu) st x (FP.d2i y) r (c32 j) (c32 j) u) (p4 g)
  intro k
  induction k with
  | zero =>
    intro j fu r u1 u2 hj hf hr h27
    obtain ⟨fu, rfl⟩ : ∃ m, fu = m + 2 := ⟨fu - 2, by omega⟩
    rw [step]
    unfold bf_power_B56
    rw [if_pos ((c_le (by omega) (by omega)).mpr (by omega))]
    show oB st (if 0 ≤ FP.d2i y then some r else dv FP.dconst1 r) _
    unfold bf_power_L82
    by_cases g : 0 ≤ FP.d2i y
    · rw [if_pos g, if_pos g]
      exact rfl
    · rw [if_neg g, if_neg g, if_pos h27, bb_id]
      exact B_dv f_1 hr
  | succ k ih =>
    intro j fu r u1 u2 hj hf hr h27
    obtain ⟨fu, rfl⟩ : ∃ m, fu = m + 2 := ⟨fu - 2, by omega⟩
    rw [step]
    unfold bf_power_B56
    rw [if_neg (fun z => by have := (c_le (a := pwN y) (b := j) (by omega) (by omega)).mp z; omega), if_pos h27, ob (nN_of (f_mul hr hx)), B_ck]
    unfold pwl
    cases hc : ck (FP.dmul r x) with
    | none =>
      obtain ⟨fu, rfl⟩ : ∃ m, fu = m + 2 := ⟨fu - 2, by omega⟩
      show ∃ w, bf_power_S41 n (fu + 2) 0 (sI st 27 4) x (FP.d2i y) FP.dconst0 (c32 j + c32 1) 0 0 = some (sI st 27 4, w)
      refine ⟨FP.dconst0, ?_⟩
      have hL : bf_power_L82 n (sI st 27 4) (FP.d2i y) FP.dconst0 = some (sI st 27 4, FP.dconst0) := by
        unfold bf_power_L82
        by_cases g : 0 ≤ FP.d2i y
        · rw [if_pos g]
        · rw [if_neg g, if_neg (by show ¬ (4 : Int32) = 0; decide)]
      have hB : ∀ u, bf_power_S41 n (fu + 1) 1 (sI st 27 4) x (FP.d2i y) FP.dconst0 (c32 j + c32 1) (c32 j + c32 1) u = some (sI st 27 4, FP.dconst0) := by
        intro u
        rw [pS1]
        unfold bf_power_B56
        by_cases g : u ≤ c32 j + c32 1
        · rw [if_pos g, hL]
        · rw [if_neg g, if_neg (by show ¬ (4 : Int32) = 0; decide), hL]
      rw [pS0]
      unfold bf_power_B41
      rw [hB, hB]
      split <;> rfl
    | some w =>
      show oB st ((pwl x k w).bind _) (bf_power_S41 n fu 0 st x (FP.d2i y) w (c32 j + c32 1) 0 0)
      rw [c_add]
      exact ih (j + 1) fu w 0 0 (by omega) (by omega) (f_ck (f_mul hr hx) hc).1 h27
theorem B_pw {x y : UInt64} (hx : okd x) (hy : okd y) (hn : 100 ≤ n) (h27 : st.1 27 = 0) : oB st (pw x y) (bf_power n st x y) := by
  unfold bf_power pw
  by_cases g1 : (Op.cmpValue (FP.dcmp y (13849694754071117824 : UInt64)) .g) < 0
  · rw [if_pos g1, if_pos g1]
    exact ⟨_, rfl⟩
  rw [if_neg g1, if_neg g1]
  by_cases g2 : 0 < (Op.cmpValue (FP.dcmp y (4626322717216342016 : UInt64)) .l)
  · rw [if_pos g2, if_pos g2]
    exact ⟨_, rfl⟩
  rw [if_neg g2, if_neg g2]
  by_cases g3 : (Op.cmpValue (FP.dcmp (FP.l2d (FP.d2l y)) y) .l) = 0
  · have hk : pwOk y := ⟨g1, g2, g3⟩
    have hle := (f_pw hy hk).1
    rw [if_pos g3, if_pos g3]
    exact B_pwl hx hy hk (pwN y) 0 n FP.dconst1 0 0 (by omega) (by omega) f_1 h27
  · rw [if_neg g3, if_neg g3]
    exact ⟨_, rfl⟩
/-- two numbers: 3 + 4 - 5 * 6 / 7 ^ -/
def op2 (o : Nat) (x y : UInt64) : Option UInt64 := if o = 3 then ck (FP.dadd x y) else if o = 4 then ck (FP.dsub x y) else if o = 5 then ck (FP.dmul x y) else if o = 6 then dv x y else pw x y
theorem op2_ok {o : Nat} {x y v : UInt64} (hx : okd x) (hy : okd y) (h : op2 o x y = some v) : okd v := by
  unfold op2 at h
  by_cases g3 : o = 3
  · rw [if_pos g3] at h; exact (f_ck (f_add hx hy) h).1
  rw [if_neg g3] at h
  by_cases g4 : o = 4
  · rw [if_pos g4] at h; exact (f_ck (f_sub hx hy) h).1
  rw [if_neg g4] at h
  by_cases g5 : o = 5
  · rw [if_pos g5] at h; exact (f_ck (f_mul hx hy) h).1
  rw [if_neg g5] at h
  by_cases g6 : o = 6
  · rw [if_pos g6] at h; exact dv_ok hx hy h
  · rw [if_neg g6] at h; exact pw_ok hx hy h
theorem oB_ck {r : UInt64} : oB st (ck r) (bf_kept n st r) := by
  rw [B_ck]
  cases hc : ck r with
  | none => exact ⟨_, rfl⟩
  | some v => rfl
theorem B_two {o : Nat} {x y : UInt64} (ho : 3 ≤ o ∧ o ≤ 7) (hx : okd x) (hy : okd y) (hn : 100 ≤ n) (h27 : st.1 27 = 0) : oB st (op2 o x y) (bf_two n st (c32 o) x y) := by
  unfold bf_two op2
  have hc : o = 3 ∨ o = 4 ∨ o = 5 ∨ o = 6 ∨ o = 7 := by omega
  rcases hc with rfl | rfl | rfl | rfl | rfl
  · rw [if_pos (by decide), if_pos (by decide), ob (nN_of (f_add hx hy)), bb_id]; exact oB_ck
  · rw [if_neg (by decide), if_pos (by decide), if_neg (by decide), if_pos (by decide), ob (nN_of (f_sub hx hy)), bb_id]; exact oB_ck
  · rw [if_neg (by decide), if_neg (by decide), if_pos (by decide), if_neg (by decide), if_neg (by decide), if_pos (by decide), ob (nN_of (f_mul hx hy)), bb_id]; exact oB_ck
  · rw [if_neg (by decide), if_neg (by decide), if_neg (by decide), if_pos (by decide), if_neg (by decide), if_neg (by decide), if_neg (by decide), if_pos (by decide), bb_id]; exact B_dv hx hy
  · rw [if_neg (by decide), if_neg (by decide), if_neg (by decide), if_neg (by decide), if_neg (by decide), if_neg (by decide), if_neg (by decide), if_neg (by decide), bb_id]; exact B_pw hx hy hn h27
/-- the machine's part of it -/
def aP2 (n : Nat) (S : Nat → Nat) (rv : aS → Nat → Option Nat → Option (aS × (UInt64 ⊕ Nat))) (st_7 : aS) (a0 : Nat) (v_9 : Int32) (v_4 v_8 : UInt64) : Option (aS × (UInt64 ⊕ Nat)) :=
  if v_9 = (42 : Int32) then
    (nN (FP.dmul v_4 v_8)).bind fun v_11 =>
    xb (af_X1_checked n S st_7 v_11) fun st_12 v_13 =>
    some (st_12, .inl v_13)
  else
  if v_9 = (43 : Int32) then
    (nN (FP.dadd v_4 v_8)).bind fun v_15 =>
    xb (af_X1_checked n S st_7 v_15) fun st_16 v_17 =>
    some (st_16, .inl v_17)
  else
  if v_9 = (44 : Int32) then
    af_X10_value_L95 n S rv st_7 a0 v_4 v_8
  else
  if v_9 = (45 : Int32) then
    (nN (FP.dsub v_4 v_8)).bind fun v_20 =>
    xb (af_X1_checked n S st_7 v_20) fun st_21 v_22 =>
    some (st_21, .inl v_22)
  else
  if v_9 = (46 : Int32) then
    af_X10_value_L95 n S rv st_7 a0 v_4 v_8
  else
  if v_9 = (47 : Int32) then
    xb (af_X10_divided n S st_7 v_4 v_8) fun st_25 v_26 =>
    some (st_25, .inl v_26)
  else
  af_X10_value_L95 n S rv st_7 a0 v_4 v_8
theorem A_two {o a0 : Nat} {x y : UInt64} {rv : aS → Nat → Option Nat → Option (aS × (UInt64 ⊕ Nat))} (ho : 3 ≤ o ∧ o ≤ 7) (hx : okd x) (hy : okd y) (hn : 100 ≤ n) : aP2 n S rv σ a0 (c32 (osg o)) x y = oA σ (op2 o x y) := by
  unfold aP2 op2
  have hc : o = 3 ∨ o = 4 ∨ o = 5 ∨ o = 6 ∨ o = 7 := by omega
  rcases hc with rfl | rfl | rfl | rfl | rfl
  · rw [if_neg (by decide), if_pos (by decide), if_pos (by decide), ob (nN_of (f_add hx hy)), xb_idU, A_ck]; rfl
  · rw [if_neg (by decide), if_neg (by decide), if_neg (by decide), if_pos (by decide), if_neg (by decide), if_pos (by decide), ob (nN_of (f_sub hx hy)), xb_idU, A_ck]; rfl
  · rw [if_pos (by decide), if_neg (by decide), if_neg (by decide), if_pos (by decide), ob (nN_of (f_mul hx hy)), xb_idU, A_ck]; rfl
  · rw [if_neg (by decide), if_neg (by decide), if_neg (by decide), if_neg (by decide), if_neg (by decide), if_pos (by decide), if_neg (by decide), if_neg (by decide), if_neg (by decide), if_pos (by decide), xb_idU, A_dv hx hy]
  · rw [if_neg (by decide), if_neg (by decide), if_neg (by decide), if_neg (by decide), if_neg (by decide), if_neg (by decide), if_neg (by decide), if_neg (by decide), if_neg (by decide), if_neg (by decide)]
    unfold af_X10_value_L95
    rw [xb_idU, A_pw hx hy hn]
/-- one number: 8 - 9 ABS 10 INT 11 SGN -/
def op1 (o : Nat) (x : UInt64) : UInt64 := if o = 8 then FP.dneg x else if o = 9 then (if 0 ≤ (Op.cmpValue (FP.dcmp x FP.dconst0) .g) then x else FP.dneg x) else if o = 10 then fl x else if 0 ≤ (Op.cmpValue (FP.dcmp x FP.dconst0) .g) then if (Op.cmpValue (FP.dcmp x FP.dconst0) .l) ≤ 0 then FP.dconst0 else FP.dconst1 else 13830554455654793216
theorem op1_8 {x : UInt64} : op1 8 x = FP.dneg x := rfl
theorem op1_9 {x : UInt64} : op1 9 x = if 0 ≤ (Op.cmpValue (FP.dcmp x FP.dconst0) .g) then x else FP.dneg x := rfl
theorem op1_10 {x : UInt64} : op1 10 x = fl x := rfl
theorem op1_11 {x : UInt64} : op1 11 x = if 0 ≤ (Op.cmpValue (FP.dcmp x FP.dconst0) .g) then if (Op.cmpValue (FP.dcmp x FP.dconst0) .l) ≤ 0 then FP.dconst0 else FP.dconst1 else 13830554455654793216 := rfl
theorem op1_ok {o : Nat} {x : UInt64} (hx : okd x) : okd (op1 o x) := by
  unfold op1
  split
  · exact f_neg hx
  split
  · split
    · exact hx
    · exact f_neg hx
  split
  · exact f_flok hx
  split
  · split
    · exact f_0
    · exact f_1
  · exact f_m1
theorem B_one {o : Nat} {x : UInt64} (ho : 8 ≤ o ∧ o ≤ 11) (hx : okd x) : bf_one n st (c32 o) x = some (st, op1 o x) := by
  unfold bf_one
  have hc : o = 8 ∨ o = 9 ∨ o = 10 ∨ o = 11 := by omega
  rcases hc with rfl | rfl | rfl | rfl
  · rw [if_pos (by decide), op1_8]
  · rw [if_neg (by decide), if_pos (by decide), op1_9]
    split <;> rfl
  · rw [if_neg (by decide), if_neg (by decide), if_pos (by decide), bb_id, op1_10]
    unfold bf_floor fl
    show (if (Op.cmpValue (FP.dcmp (FP.l2d (FP.d2l x)) x) .l) ≤ 0 then _ else _) = _
    split <;> rfl
  · rw [if_neg (by decide), if_neg (by decide), if_neg (by decide), op1_11]
    split
    · split <;> rfl
    · rfl
def aP1 (n : Nat) (S : Nat → Nat) (st_3 : aS) (v_5 : Int32) (v_4 : UInt64) : Option (aS × (UInt64 ⊕ Nat)) :=
  if v_5 = (45 : Int32) then
    some (st_3, .inl (FP.dneg v_4))
  else
  if v_5 = (65 : Int32) then
    if 0 ≤ (Op.cmpValue (FP.dcmp v_4 FP.dconst0) .g) then
      some (st_3, .inl v_4)
    else
      some (st_3, .inl (FP.dneg v_4))
  else
  if v_5 = (73 : Int32) then
    cb (af_X7_floor n S st_3 v_4) fun st_10 v_11 =>
    some (st_10, .inl v_11)
  else
  if (Op.cmpValue (FP.dcmp v_4 FP.dconst0) .l) ≤ 0 then
    if 0 ≤ (Op.cmpValue (FP.dcmp v_4 FP.dconst0) .g) then
      some (st_3, .inl FP.dconst0)
    else
      some (st_3, .inl (13830554455654793216 : UInt64))
  else
    some (st_3, .inl FP.dconst1)
theorem A_one {o : Nat} {x : UInt64} (ho : 8 ≤ o ∧ o ≤ 11) (hx : okd x) : aP1 n S σ (c32 (usg o)) x = some (σ, .inl (op1 o x)) := by
  unfold aP1
  have hc : o = 8 ∨ o = 9 ∨ o = 10 ∨ o = 11 := by omega
  rcases hc with rfl | rfl | rfl | rfl
  · rw [if_pos (by decide), op1_8]
  · rw [if_neg (by decide), if_pos (by decide), op1_9]
    split <;> rfl
  · rw [if_neg (by decide), if_neg (by decide), if_pos (by decide), op1_10]
    have e : af_X7_floor n S σ x = some (σ, fl x) := by
      unfold af_X7_floor fl
      rw [oc (show af_X1_whole n S σ x = some (σ, FP.d2l x) from rfl)]
      show (if (Op.cmpValue (FP.dcmp (FP.l2d (FP.d2l x)) x) .l) ≤ 0 then _ else _) = _
      by_cases g : (Op.cmpValue (FP.dcmp (FP.l2d (FP.d2l x)) x) .l) ≤ 0
      · rw [if_pos g, if_pos g]
      · rw [if_neg g, if_neg g]
        have := f_fl hx g
        show (nN (FP.dsub (FP.l2d (FP.d2l x)) FP.dconst1)).bind _ = _
        rw [ob (nN_of this.1), this.2]
    rw [oc e]
  · rw [if_neg (by decide), if_neg (by decide), if_neg (by decide), op1_11]
    obtain ⟨w, hw⟩ := f_cmp hx f_0
    rw [hw]
    cases w with
    | lt => rfl
    | eq => rfl
    | gt => rfl
end OPS
