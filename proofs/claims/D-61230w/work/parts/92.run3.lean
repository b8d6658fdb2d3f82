/-! THE PURE LAW: runs of statements: NEXT, FOR -/
def ovv (a b c : UInt64) : Int32 := if 0 ≤ (Op.cmpValue (FP.dcmp c FP.dconst0) .g) then if (Op.cmpValue (FP.dcmp a b) .l) ≤ 0 then 0 else 1 else if 0 ≤ (Op.cmpValue (FP.dcmp a b) .g) then 0 else 1
/-- the class of a statement -/
def cls (so : Nat) : Nat := if so = 16 then 26 else so + 11
theorem stm_cls {h : Nat → Option aE} {s so : Nat} {av : Nat → Int32} {rv : Nat → List Nat → Prop} (g : STM h s so av rv) (hs : so < 17) : ∃ fs, h s = some (.inr (cls so, fs)) := by
  match so, hs with
  | 0, _ => obtain ⟨p, e, g1, _⟩ := g; exact ⟨_, g1⟩
  | 1, _ => obtain ⟨e, g1, _⟩ := g; exact ⟨_, g1⟩
  | 2, _ => obtain ⟨a, b, r, m, g1, _⟩ := g; exact ⟨_, g1⟩
  | 3, _ => obtain ⟨m, g1, _⟩ := g; exact ⟨_, g1⟩
  | 4, _ => obtain ⟨e, q, f, c, g1, _⟩ := g; exact ⟨_, g1⟩
  | 5, _ => obtain ⟨m, g1, _⟩ := g; exact ⟨_, g1⟩
  | 6, _ => exact ⟨_, g⟩
  | 7, _ => obtain ⟨v, a, b, r, g1, _⟩ := g; exact ⟨_, g1⟩
  | 8, _ => obtain ⟨v, g1, _⟩ := g; exact ⟨_, g1⟩
  | 9, _ => obtain ⟨p, g1, _⟩ := g; exact ⟨_, g1⟩
  | 10, _ => obtain ⟨q, f, ds, g1, _⟩ := g; exact ⟨_, g1⟩
  | 11, _ => exact ⟨_, g⟩
  | 12, _ => obtain ⟨m, r, c, g1, _⟩ := g; exact ⟨_, g1⟩
  | 13, _ => obtain ⟨f, v, b, g1, _⟩ := g; exact ⟨_, g1⟩
  | 14, _ => obtain ⟨t, w, a, b, r, g1, _⟩ := g; exact ⟨_, g1⟩
  | 15, _ => exact ⟨_, g⟩
  | 16, _ => exact ⟨_, g⟩
theorem iO_ {σ : aS} {s so ci : Nat} {fs : List Value} (g : σ.2.2 s = some (.inr (cls so, fs))) (hs : so < 17) : iO σ (some s) ci = some (if cls so = ci then 1 else 0) := by
  show (aCi σ s).bind _ = _
  rw [ob (aCi_of g)]
  have h1 : 11 ≤ cls so ∧ cls so ≤ 26 := by unfold cls; split <;> omega
  by_cases h2 : cls so = ci
  · rw [if_pos h2, if_pos h2]
  · rw [if_neg h2, if_neg h2, if_pos h1]
section RUN3
variable {x Z T : Nat} {P : PG_} {w : Nat → List UInt64} {h : Nat → Option aE} {f : Nat → Value} {hp hp' : Nat → Option aE} {st st' : bS} {M F : Nat → Option Nat} {σ σ0 : aS} {V : Nat → UInt64} {n : Nat} {S : Nat → Nat} {j ln s k : Nat}
theorem A_over {a b c : UInt64} : af_X29_over n S σ a b c = some (σ, ovv a b c) := by
  unfold af_X29_over ovv
  by_cases h1 : 0 ≤ (Op.cmpValue (FP.dcmp c FP.dconst0) .g)
  · rw [if_pos h1, if_pos h1]
    by_cases h2 : (Op.cmpValue (FP.dcmp a b) .l) ≤ 0
    · rw [if_pos h2, if_pos h2]
    · rw [if_neg h2, if_neg h2]
  · rw [if_neg h1, if_neg h1]
    by_cases h2 : 0 ≤ (Op.cmpValue (FP.dcmp a b) .g)
    · rw [if_pos h2, if_pos h2]
    · rw [if_neg h2, if_neg h2]
theorem B_over {a b c : UInt64} : bf_over n st a b c = some (st, ovv a b c) := by
  unfold bf_over ovv
  by_cases h1 : 0 ≤ (Op.cmpValue (FP.dcmp c FP.dconst0) .g)
  · rw [if_pos h1, if_pos h1]
    by_cases h2 : (Op.cmpValue (FP.dcmp a b) .l) ≤ 0
    · rw [if_pos h2, if_pos h2]
    · rw [if_neg h2, if_neg h2]
  · rw [if_neg h1, if_neg h1]
    by_cases h2 : 0 ≤ (Op.cmpValue (FP.dcmp a b) .g)
    · rw [if_pos h2, if_pos h2]
    · rw [if_neg h2, if_neg h2]
def ixm : Nat → Int32
  | 0 => -1
  | m + 1 => c32 m
/-- the loop of a variable -/
theorem A_loopS {l v : Nat} {L : Nat → Option Nat} (rs : RS x Z T P w h σ st f hp M F V) (hl : l ≤ 6) (hL : hp (x + 8) = some (.inl (7, 6, rA L))) (hlp : ∀ i, i < l → LP1 P h st i (L i)) : ∀ (m fu : Nat), m ≤ l → m < fu → (∀ i, m ≤ i → i < l → st.2.1 41 i ≠ c32 v) →
    (∃ i, i < l ∧ st.2.1 41 i = c32 v ∧ af_X1_loop_S7 n S fu σ x (c32 v) (ixm m) = some (σ, c32 i)) ∨ ((∀ i, i < l → st.2.1 41 i ≠ c32 v) ∧ af_X1_loop_S7 n S fu σ x (c32 v) (ixm m) = some (σ, -1)) := by
  intro m
  induction m with
  | zero =>
    intro fu hm hf hq
    obtain ⟨fu, rfl⟩ : ∃ m, fu = m + 1 := ⟨fu - 1, by omega⟩
    refine Or.inr ⟨fun i hi => hq i (by omega) hi, ?_⟩
    show af_X1_loop_B7 n S _ σ x _ (-1) = _
    unfold af_X1_loop_B7
    rw [if_pos (by decide)]
  | succ m ih =>
    intro fu hm hf hq
    obtain ⟨fu, rfl⟩ : ∃ m, fu = m + 1 := ⟨fu - 1, by omega⟩
    obtain ⟨q, s, b, c, j, e, l1, l2, l3, l4, l5, l6⟩ := hlp m (by omega)
    have hx8 := (rs.hp_ (q := x + 8) (by omega) (by omega) (by omega) (by omega)).trans hL
    have hc := rs.cell l2
    have e8 : lR σ (x + 8) 7 (c32 m) = some (some q) := by rw [lR_of hx8 (by omega) (by omega), l1]
    have es : af_X29_s n S σ q = some (σ, c32 s) := by unfold af_X29_s; rw [ob (gI_of hc rfl)]
    have hstep : af_X1_loop_S7 n S (fu + 1) σ x (c32 v) (ixm (m + 1)) = if c32 s = c32 v then some (σ, c32 m) else af_X1_loop_S7 n S fu σ x (c32 v) (c32 m + (-1 : Int32)) := by
      show af_X1_loop_B7 n S _ σ x _ (c32 m) = _
      unfold af_X1_loop_B7
      rw [if_neg (c_nn (by omega)), ob (rs.gR (v := some (x + 8)) rs.1.1.1.2.2.2.2.2.2.2.1), ob (show some (x + 8) = some (x + 8) from rfl), ob e8, ob (show some q = some q from rfl), ob (gC_of hc), oc es]
    rw [hstep]
    by_cases g : c32 s = c32 v
    · rw [if_pos g]
      exact Or.inl ⟨m, by omega, l5.trans g, rfl⟩
    · rw [if_neg g]
      have hp1 : c32 m + (-1 : Int32) = ixm m := by
        cases m with
        | zero => rfl
        | succ m => exact c_pred (by omega)
      rw [hp1]
      refine ih fu (by omega) (by omega) (fun i hi1 hi2 => ?_)
      by_cases gi : i = m
      · subst gi; rw [l5]; exact g
      · exact hq i (by omega) hi2
theorem B_loopS {l v : Nat} (h23 : st.1 23 = c32 l) (hl : l ≤ 6) : ∀ (d i fu : Nat), i + d = l → d < fu → (∀ q, q < i → st.2.1 41 q ≠ c32 v) →
    (∃ q, q < l ∧ st.2.1 41 q = c32 v ∧ bf_loopFor_S2 n fu st (c32 v) (c32 i) = some (st, c32 q)) ∨ ((∀ q, q < l → st.2.1 41 q ≠ c32 v) ∧ bf_loopFor_S2 n fu st (c32 v) (c32 i) = some (st, -1)) := by
  intro d
  induction d with
  | zero =>
    intro i fu hi hf hq
    obtain ⟨fu, rfl⟩ : ∃ m, fu = m + 1 := ⟨fu - 1, by omega⟩
    refine Or.inr ⟨fun q hq2 => hq q (by omega), ?_⟩
    show bf_loopFor_B2 n _ st _ _ = _
    unfold bf_loopFor_B2
    rw [h23, if_pos ((c_le (by omega) (by omega)).mpr (by omega))]
  | succ d ih =>
    intro i fu hi hf hq
    obtain ⟨fu, rfl⟩ : ∃ m, fu = m + 1 := ⟨fu - 1, by omega⟩
    have e : bf_loopFor_S2 n (fu + 1) st (c32 v) (c32 i) = if st.2.1 41 i = c32 v then some (st, c32 i) else bf_loopFor_S2 n fu st (c32 v) (c32 (i + 1)) := by
      show bf_loopFor_B2 n _ st _ _ = _
      unfold bf_loopFor_B2
      rw [h23, if_neg (fun z => by have := (c_le (a := l) (b := i) (by omega) (by omega)).mp z; omega), ob (ld_A (show i < 6 by omega))]
      show (if st.2.1 41 i = c32 v then some (st, c32 i) else bf_loopFor_S2 n fu st (c32 v) (c32 i + c32 1)) = _
      rw [c_add]
    rw [e]
    by_cases g : st.2.1 41 i = c32 v
    · exact Or.inl ⟨i, by omega, g, by rw [if_pos g]⟩
    · rw [if_neg g]
      exact ih (i + 1) fu (by omega) (by omega) (fun q hq2 => by
        by_cases g2 : q = i
        · rw [g2]; exact g
        · exact hq q (by omega))
/-- both find the same loop -/
theorem AB_loop {l v : Nat} {L : Nat → Option Nat} (hn : 1000 ≤ n) (rs : RS x Z T P w h σ st f hp M F V) (hl : l ≤ 6) (h15 : f 15 = .int (c32 l)) (h23 : st.1 23 = c32 l) (hL : hp (x + 8) = some (.inl (7, 6, rA L))) (hlp : ∀ i, i < l → LP1 P h st i (L i)) (hd : ∀ i i', i < l → i' < l → st.2.1 41 i = st.2.1 41 i' → i = i') :
    (∃ i, i < l ∧ st.2.1 41 i = c32 v ∧ af_X1_loop n S σ x (c32 v) = some (σ, c32 i) ∧ bf_loopFor n st (c32 v) = some (st, c32 i)) ∨ ((∀ i, i < l → st.2.1 41 i ≠ c32 v) ∧ af_X1_loop n S σ x (c32 v) = some (σ, -1) ∧ bf_loopFor n st (c32 v) = some (st, -1)) := by
  have hA : af_X1_loop n S σ x (c32 v) = af_X1_loop_S7 n S n σ x (c32 v) (ixm l) := by
    unfold af_X1_loop
    rw [ob (rs.gI h15)]
    show af_X1_loop_S7 n S n σ x (c32 v) (c32 l - c32 1) = _
    cases l with
    | zero => rfl
    | succ m => rw [c_sub (by omega)]; rfl
  have hB := B_loopS (n := n) (v := v) h23 hl l 0 n (by omega) (by omega) (fun q hq => absurd hq (by omega))
  have eB : bf_loopFor n st (c32 v) = bf_loopFor_S2 n n st (c32 v) (c32 0) := rfl
  rw [hA, eB]
  rcases A_loopS (n := n) (S := S) (v := v) rs hl hL hlp l n (by omega) (by omega) (fun i h1 h2 => absurd h1 (by omega)) with ⟨i, i1, i2, i3⟩ | ⟨i1, i2⟩
  · rcases hB with ⟨q, q1, q2, q3⟩ | ⟨q1, q2⟩
    · have := hd i q i1 q1 (i2.trans q2.symm)
      subst this
      exact Or.inl ⟨i, i1, i2, i3, q3⟩
    · exact absurd i2 (q1 i i1)
  · rcases hB with ⟨q, q1, q2, q3⟩ | ⟨q1, q2⟩
    · exact absurd q2 (i1 q q1)
    · exact Or.inr ⟨i1, i2, q2⟩
theorem LOP.cut {l m : Nat} {L : Nat → Option Nat} (h4 : hp (x + 8) = some (.inl (7, 6, rA L))) (h5 : ∀ i, i < l → LP1 P h st i (L i)) (h6 : ∀ i i', i < l → i' < l → st.2.1 41 i = st.2.1 41 i' → i = i') (hm : m ≤ l) (hl : l ≤ 6) : LOP x P h (va_up f 15 (.int (c32 m))) hp (sI st 23 (c32 m)) :=
  ⟨m, L, by omega, rfl, rfl, h4, fun i hi => h5 i (by omega), fun i i' hi hi' => h6 i i' (by omega) (by omega)⟩
theorem ES.fld_ {c k : Nat} {v : Value} {CR : Nat → Int32} {CO : Nat → UInt64} (es : ES x f hp σ c V CR CO) (hk : k < 24 := by decide) (h9 : k ≠ 9 := by decide) : ∃ σ', pF σ x 0 k v = some σ' ∧ σ'.1 = σ.1 ∧ σ'.2.1 = σ.2.1 ∧ ES x (va_up f k v) hp σ' c V CR CO := by
  obtain ⟨e1, e2⟩ := es.fld (k := k) (v := v) hk h9
  exact ⟨_, e1, rfl, rfl, e2⟩
theorem R_8 (hn : 300000000 ≤ n) (rs : RS x Z T P w h σ st f hp M F V) (h20 : f 20 = .int 0) (hj : P j = some (ln, s, k, 8)) : SO x (T + 1) P w j h σ (af_run n S σ s (some x) (some ln)) (bf_step n st (c32 k)) := by
  obtain ⟨v, g1, g2, g3⟩ : STM h s 8 (AV st k) (RV st k) := (rs.1.2.1.2.2 j _ hj).2.2
  have hk : k < 24 := (rs.1.2.1.2.1.1 j _ hj).2.2.1
  have hc := rs.cell g1
  have hA : af_run n S σ s (some x) (some ln) = af_X20_run n S σ s (some x) (some ln) := r_19 hc
  have hB : bf_step n st (c32 k) = bf_doNext n st (c32 k) (slk P (nx P j)) := by
    rw [B_st (by omega) rs.1.2.1 hj (by omega) (by omega)]
    exact bb_idI
  obtain ⟨⟨ec, pg, h3, wp, dat, sub, ⟨l, L, l1, l2, l3, l4, l5, l6⟩, prt, mx, ot, hz1, hz2⟩, ⟨CR, CO, es⟩, vv, h27, hz⟩ := id rs
  rw [hA, hB]
  unfold af_X20_run bf_doNext
  rw [ob (gI_of hc rfl), ob (show some x = some x from rfl), ob rs.cls, ob (ld_av0 hk), g3]
  rcases AB_loop (n := n) (S := S) (v := v) (by omega) rs l1 l2 l3 l4 l5 l6 with ⟨i, i1, i2, i3, i4⟩ | ⟨i1, i2, i3⟩
  · rw [oc i3, ob i4]
    dsimp only
    have hi0 : (0 : Int32) ≤ c32 i := c_0le (by omega)
    have e1i : c32 i + (1 : Int32) = c32 (i + 1) := c_add i 1
    rw [if_pos hi0, if_pos hi0, e1i]
    obtain ⟨σ1, e1, s1, s2, es1⟩ := es.fld_ (k := 15) (v := .int (c32 (i + 1)))
    have rc1 : RC x Z T P w h (va_up f 15 (.int (c32 (i + 1)))) hp (sI st 23 (c32 (i + 1))) M F := ⟨ec, pg, h3, wp, dat, sub, LOP.cut l4 l5 l6 (by omega) l1, prt, mx, ot, hz1, hz2⟩
    have rs1 : RS x Z T P w h σ1 (sI st 23 (c32 (i + 1))) (va_up f 15 (.int (c32 (i + 1)))) hp M F V := ⟨rc1, ⟨CR, CO, es1⟩, vv, h27, by omega⟩
    obtain ⟨q, s', b, c, j', e, y1, y2, y3, y4, y5, y6, y7, y8, y9, y10⟩ := l5 i i1
    have hc1 := rs1.cell g1
    have hq1 := rs1.cell y2
    have hx8 := (rs1.hp_ (q := x + 8) (by omega) (by omega) (by omega) (by omega)).trans l4
    have e8 : lR σ1 (x + 8) 7 (c32 i) = some (some q) := by rw [lR_of hx8 (by omega) (by omega), y1]
    have est : af_X29_step n S σ1 q = some (σ1, c) := by unfold af_X29_step; rw [ob (gD_of hq1 rfl)]
    have hadd : nOk (FP.dadd (V v) c) := f_add (vv v g2).2 y10
    have eb1 : ldD (sI st 23 (c32 (i + 1))) 29 (c32 v) = some (V v) := by rw [ld_D (show v < 26 from g2)]; exact congrArg some (vv v g2).1
    have eb2 : ldD (sI st 23 (c32 (i + 1))) 33 (c32 i) = some c := by rw [ld_D (show i < 6 by omega)]; exact congrArg some y8
    rw [ob e1, ob (rs1.gR (k := 14) (v := some (x + 8)) ec.1.2.2.2.2.2.2.2.1), ob (show some (x + 8) = some (x + 8) from rfl), ob e8, ob (rs1.gR (k := 5) (v := some (x + 2)) ec.1.2.1), ob (gI_of hc1 rfl), ob (rs1.gR (k := 5) (v := some (x + 2)) ec.1.2.1), ob (gI_of hc1 rfl), ob (show some (x + 2) = some (x + 2) from rfl), ob (lD_of es1.2.1 g2 (by omega)), ob (show some q = some q from rfl), ob (gC_of hq1), oc est, ob (nN_of hadd), A_ck]
    rw [ob (show ptI st 23 (c32 (i + 1)) = some (sI st 23 (c32 (i + 1))) from rfl), ob eb1, ob eb2, ob (nN_of hadd), B_ck]
    cases hck : ck (FP.dadd (V v) c) with
    | none =>
      dsimp only
      rw [oxr rfl, ob rfl]
      dsimp only
      rw [if_neg (show ¬ (sI (sI st 23 (c32 (i + 1))) 27 4).1 27 = 0 from n_c (a := 4) (b := 0) (by omega) (by omega) (by omega))]
      exact SN.of ((rs1.tw (code := 3) (by omega)).t (by omega)) rfl rfl (gr.th s1 s2)
    | some r =>
      dsimp only
      have hr : okd r := (f_ck hadd hck).1
      obtain ⟨σ2, w1, w2, w3, es2⟩ := es1.sv (s := v) (v := r) g2
      have rc2 : RC x Z T P w h (va_up f 15 (.int (c32 (i + 1)))) hp (sD (sI st 23 (c32 (i + 1))) 29 v r) M F := rc1.vf (VF.rfl_.d (by omega))
      have vv2 : VV (vf_upd V v r) (sD (sI st 23 (c32 (i + 1))) 29 v r) := fun i' hi' => by
        rw [sD_at, if_pos rfl]
        by_cases gi : i' = v
        · rw [if_pos gi, gi, vf_at]; exact ⟨rfl, hr⟩
        · rw [if_neg gi, vf_ne gi]; exact vv i' hi'
      have rs2 : RS x Z T P w h σ2 (sD (sI st 23 (c32 (i + 1))) 29 v r) (va_up f 15 (.int (c32 (i + 1)))) hp M F (vf_upd V v r) := ⟨rc2, ⟨CR, CO, es2⟩, vv2, h27, by omega⟩
      have hc2 := rs2.cell g1
      have hq2 := rs2.cell y2
      have elm : af_X29_limit n S σ2 q = some (σ2, b) := by unfold af_X29_limit; rw [ob (gD_of hq2 rfl)]
      have est2 : af_X29_step n S σ2 q = some (σ2, c) := by unfold af_X29_step; rw [ob (gD_of hq2 rfl)]
      have efr : af_X29_from n S σ2 q = some (σ2, some e.1) := by unfold af_X29_from; rw [ob (gR_of (v := some e.1) hq2 rfl)]
      have evv : lD σ2 (x + 2) (c32 v) = some r := by rw [lD_of es2.2.1 g2 (by omega), vf_at]
      have eb3 : stD (sI st 23 (c32 (i + 1))) 29 (c32 v) r = some (sD (sI st 23 (c32 (i + 1))) 29 v r) := st_D (show v < 26 from g2)
      have eb4 : ldD (sD (sI st 23 (c32 (i + 1))) 29 v r) 32 (c32 i) = some b := by rw [ld_D (show i < 6 by omega), sD_ne _ (by decide)]; exact congrArg some y7
      have eb5 : ldD (sD (sI st 23 (c32 (i + 1))) 29 v r) 33 (c32 i) = some c := by rw [ld_D (show i < 6 by omega), sD_ne _ (by decide)]; exact congrArg some y8
      rw [ox rfl, ob (show some (x + 2) = some (x + 2) from rfl), ob w1, ob (rs2.gR (k := 5) (v := some (x + 2)) ec.1.2.1), ob (gI_of hc2 rfl), ob (show some (x + 2) = some (x + 2) from rfl), ob evv, ob (gC_of hq2), oc elm, ob (gC_of hq2), oc est2, oc A_over, ob rfl]
      dsimp only
      rw [if_pos (show (sI st 23 (c32 (i + 1))).1 27 = 0 from h27), ob eb3, ob eb4, ob eb5, ob B_over]
      dsimp only
      by_cases ho : ovv r b c = 0
      · obtain ⟨σ3, f3, a1, a2, a3, rs3, a4⟩ := A_after (n := n) (S := S) rs2 h20 y3
        obtain ⟨t1, t2, t3, t4⟩ := pg.2.1.1 j' e y3
        have eb6 : ldA (sD (sI st 23 (c32 (i + 1))) 29 v r) 42 (c32 i) = some (c32 e.2.2.1) := by rw [ld_A (show i < 6 by omega)]; exact congrArg some y6
        have eb7 : ldA (sD (sI st 23 (c32 (i + 1))) 29 v r) 10 (c32 e.2.2.1) = some (c32 j') := by rw [ld_A (show e.2.2.1 < 25 by omega)]; exact congrArg some t4
        rw [if_pos ho, if_pos ho, ob (gC_of hq2), oc efr, ob rs2.cls, oc a1, ob eb6, ob eb7, ob (b_next (by omega) rs2.1.2.1.2.1 t1)]
        dsimp only
        exact Or.inl ⟨σ3, _, _, slk P (nx P j'), Z, h, f3, hp, M, F, vf_upd V v r, rfl, rfl, rs3.t (Nat.le_succ _), hle.rfl_, gr.eq (a2.trans (w2.trans s1)) (a3.trans (w3.trans s2)), due.aft a4⟩
      · obtain ⟨σ3, e3, t1, t2, es3⟩ := es2.fld_ (k := 15) (v := .int (c32 i))
        have rc3 : RC x Z T P w h (va_up (va_up f 15 (.int (c32 (i + 1)))) 15 (.int (c32 i))) hp (sI (sD (sI st 23 (c32 (i + 1))) 29 v r) 23 (c32 i)) M F := by
          obtain ⟨ec2, pg2, h32, wp2, dat2, sub2, _, prt2, mx2, ot2, _⟩ := rc2
          exact ⟨ec2, pg2, h32, wp2, dat2, sub2, ⟨i, L, by omega, rfl, rfl, l4, fun i' hi' => l5 i' (by omega), fun i' i'' hi' hi'' => l6 i' i'' (by omega) (by omega)⟩, prt2, mx2, ot2, hz1, hz2⟩
        have rs3 : RS x Z T P w h σ3 (sI (sD (sI st 23 (c32 (i + 1))) 29 v r) 23 (c32 i)) (va_up (va_up f 15 (.int (c32 (i + 1)))) 15 (.int (c32 i))) hp M F (vf_upd V v r) := ⟨rc3, ⟨CR, CO, es3⟩, vv2, h27, by omega⟩
        rw [if_neg ho, if_neg ho, ob e3]
        exact SY.none_ rs3.1.2.1.2.1 (rs3.t (by omega)) h20 rfl rfl (by omega) (by omega)
  · rw [oc i2, ob i3]
    dsimp only
    rw [if_neg (by decide), if_neg (by decide)]
    exact SN.of ((rs.tw (code := 1) (by omega)).t (by omega)) rfl rfl (gr.th rfl rfl)
/-! FOR -/
theorem WD.map {h' : Nat → Option aE} {s k : Nat} {l : List UInt64} (g : WD h st s k l) (hl : hle h h') : WD h' st s k l := by
  obtain ⟨q, f, ds, g1, g2, g3⟩ := g
  exact ⟨q, f, ds, hl _ _ g1, hl _ _ g2, g3⟩
theorem FR.map {h' : Nat → Option aE} {g : Nat} {r : Option Nat} (fr : FR h st g r) (hl : hle h h') : FR h' st g r := by
  cases r with
  | none => exact fr
  | some d =>
    obtain ⟨gg, s, b, k, f1, f2, f3, f4, f5, f6⟩ := fr
    exact ⟨gg, s, b, k, hl _ _ f1, f2, f3, f4, f5, f6.map hl (fun _ z => z)⟩
theorem LP1.map {h' : Nat → Option aE} {i : Nat} {a : Option Nat} (g : LP1 P h st i a) (hl : hle h h') : LP1 P h' st i a := by
  obtain ⟨q, s', b, c, j', e, y1, y2, y3⟩ := g
  exact ⟨q, s', b, c, j', e, y1, hl _ _ y2, y3⟩
/-- something static is made anew -/
theorem RC.hnew {a : Nat} {e : aE} (rc : RC x Z T P w h f hp st M F) (ha : Z ≤ a) : RC x (a + 1) T P w (va_up h a (some e)) f (va_up hp a (some e)) st M F ∧ hle h (va_up h a (some e)) := by
  obtain ⟨⟨c1, c2, c3, c4, c5, c6, c7⟩, ⟨p1, p2, p3⟩, h3, ⟨w1, w2⟩, dat, ⟨sr, sB, s1, s2, s3, s4, s5⟩, ⟨l, L, l1, l2, l3, l4, l5, l6⟩, ⟨p, G, g1, g2, g3, g4, g5⟩, ⟨sp, m1, m2, m3, m4⟩, ⟨⟨tl, Tc, t1, t2, t3, t4, t5⟩, ot⟩, hz1, hz2⟩ := rc
  have hl : hle h (va_up h a (some e)) := fun q e' he => (va_ne_ (fun z => by rw [z, hz1 a ha] at he; exact nomatch he)).trans he
  have hb : ∀ q, BK x Z h hp q → BK x (a + 1) (va_up h a (some e)) (va_up hp a (some e)) q := fun q b => by
    obtain ⟨b1, b2, b3, b4⟩ := b.of (hp' := va_up hp a (some e)) (fun i hi => va_ne_ (by have := b.2.1; omega))
    exact ⟨b1, by omega, fun i hi => (va_ne_ (by omega)).trans (b3 i hi), b4⟩
  refine ⟨⟨⟨c1, fun q e' he => ?_, fun q q1 q2 => (va_ne_ (by omega)).trans (c3 q q1 q2), (va_ne_ (by omega)).trans c4, (va_ne_ (by omega)).trans c5, fun m hm => ⟨(c6 m hm).1.of (fun q hq i hi => va_ne_ (by have := (m3 m hm q hq).1.2.1; omega)), (c6 m hm).2⟩, fun g hg => (c7 g hg).map hl⟩, ⟨fun j' e' he => hl _ _ (p1 j' e' he), p2, fun j' e' he => ⟨(p3 j' e' he).1, (p3 j' e' he).2.1, (p3 j' e' he).2.2.map hl (fun _ _ => rfl) (fun _ _ _ z => z)⟩⟩, h3, ⟨w1, fun j' e' he => ⟨(w2 j' e' he).1, fun z => ((w2 j' e' he).2 z).map hl⟩⟩, dat, ⟨sr, sB, s1, s2, s3, (va_ne_ (by omega)).trans s4, s5⟩, ⟨l, L, l1, l2, l3, (va_ne_ (by omega)).trans l4, fun i hi => (l5 i hi).map hl, l6⟩, ⟨p, G, g1, g2, g3, (va_ne_ (by omega)).trans g4, g5⟩, ⟨sp, m1, fun q hq => hb q (m2 q hq), fun m hm q hq => ⟨hb q (m3 m hm q hq).1, (m3 m hm q hq).2⟩, m4⟩, ⟨⟨tl, Tc, t1, t2, t3, (va_ne_ (by omega)).trans t4, t5⟩, ot⟩, fun q hq => (va_ne_ (by omega)).trans (hz1 q (by omega)), by omega⟩, hl⟩
  by_cases g : q = a
  · subst g
    rw [va_at_] at he ⊢
    exact he
  · rw [va_ne_ g] at he ⊢
    exact c2 q e' he
theorem mv_nw {e e' : aE} {k : Nat} : mv (nw σ e k) σ.1 e' = nw σ e' k := by
  unfold mv nw
  rw [va_vv]
/-- the NEXT of a variable -/
theorem AB_nextOf {v : Nat} {x2 : Int32} (hn : 3000 ≤ n) (rs : RS x Z T P w h σ st f hp M F V) (hv : v < 26) : ∀ (d m fu fb : Nat), m + d = 1000 → 2 * d < fu → 2 * d < fb →
    (∃ i e, P i = some e ∧ af_X1_nextOf_S5 n S fu 0 σ x (c32 v) (lnk P (nx P m)) = some (σ, .inl (some e.1)) ∧ bf_doFor_S142 n fb 0 st x2 (c32 v) (slk P (nx P m)) = some (st, slk P (nx P i))) ∨
    (af_X1_nextOf_S5 n S fu 0 σ x (c32 v) (lnk P (nx P m)) = some (aTh σ, .inr 1) ∧ bf_doFor_S142 n fb 0 st x2 (c32 v) (slk P (nx P m)) = some (sI st 27 2, x2)) := by
  intro d
  induction d using Nat.strongRecOn with
  | ind d ih =>
    intro m fu fb hm hfu hfb
    have hpg := rs.1.2.1
    cases hx : nx P m with
    | none =>
      obtain ⟨fu, rfl⟩ : ∃ m, fu = m + 1 := ⟨fu - 1, by omega⟩
      obtain ⟨fb, rfl⟩ : ∃ m, fb = m + 1 := ⟨fb - 1, by omega⟩
      exact Or.inr ⟨rfl, rfl⟩
    | some i =>
      obtain ⟨fu, rfl⟩ : ∃ m, fu = m + 2 := ⟨fu - 2, by have := nx_some hx; omega⟩
      obtain ⟨fb, rfl⟩ : ∃ m, fb = m + 2 := ⟨fb - 2, by have := nx_some hx; omega⟩
      obtain ⟨i1, i2, ⟨⟨ln', s', k', so⟩, i3⟩, i4⟩ := nx_some hx
      have hline := rs.pl i _ i3
      obtain ⟨t1, t2, t3, t4⟩ := hpg.2.1.1 i _ i3
      have t3 : k' < 24 := t3
      have t4 : st.2.1 10 k' = c32 i := t4
      obtain ⟨z1, z2, z3⟩ := hpg.2.2 i _ i3
      have z1 : st.2.1 11 k' = c32 so := z1
      have z2 : so < 17 := z2
      have z3 : STM h s' so (AV st k') (RV st k') := z3
      obtain ⟨fs, hfs⟩ := stm_cls z3 z2
      have hcs := rs.cell hfs
      have hl : lnk P (some i) = some ln' := lnk_some i3
      have hsl : slk P (some i) = c32 k' := slk_some i3
      have nA1 : af_X1_nextOf_S5 n S (fu + 1) 1 σ x (c32 v) (some ln') = af_X1_nextOf_S5 n S fu 0 σ x (c32 v) (lnk P (nx P i)) := by
        rw [af_X1_nextOf_S5, if_neg (by decide), af_X1_nextOf_B35]
        rw [ob (show some ln' = some ln' from rfl), ob (gR_of (v := lnk P (nx P i)) hline rfl)]
      have nB1 : bf_doFor_S142 n (fb + 1) 1 st x2 (c32 v) (c32 k') = bf_doFor_S142 n fb 0 st x2 (c32 v) (slk P (nx P i)) := by
        show bf_doFor_B185 n _ st _ _ _ = _
        unfold bf_doFor_B185
        have e10 : ldA st 10 (c32 k') = some (c32 i) := by rw [ld_A (show k' < 25 by omega), t4]
        rw [ob e10, ob (b_next (by omega) hpg.2.1 t1)]
      have hrec := ih (1000 - i) (by omega) i fu fb (by omega) (by omega) (by omega)
      have hA0 : af_X1_nextOf_S5 n S (fu + 2) 0 σ x (c32 v) (some ln') = (iO σ (some s') 19).bind fun v_4 => if v_4 = 0 then af_X1_nextOf_S5 n S (fu + 1) 1 σ x (c32 v) (some ln') else (gC σ s' 19).bind fun _ => (gC σ s' 19).bind fun _ => cb (af_X20_s n S σ s') fun st_9 v_10 => if v_10 = c32 v then some (st_9, .inl (some ln')) else af_X1_nextOf_S5 n S (fu + 1) 1 st_9 x (c32 v) (some ln') := by
        rw [af_X1_nextOf_S5, if_pos rfl, af_X1_nextOf_B5]
        rw [if_neg (fun z => nomatch z), ob (show some ln' = some ln' from rfl), ob (gR_of (v := some s') hline rfl)]
        have : ∀ (v_4 : Int32), (gR σ ln' 3 1).bind (fun r_6 => r_6.bind fun a_7 => (gC σ a_7 19).bind fun _ => (gC σ a_7 19).bind fun _ => cb (af_X20_s n S σ a_7) fun st_9 v_10 => if v_10 = c32 v then some (st_9, (Sum.inl (some ln') : Option Nat ⊕ Nat)) else af_X1_nextOf_S5 n S (fu + 1) 1 st_9 x (c32 v) (some ln')) = (gC σ s' 19).bind fun _ => (gC σ s' 19).bind fun _ => cb (af_X20_s n S σ s') fun st_9 v_10 => if v_10 = c32 v then some (st_9, .inl (some ln')) else af_X1_nextOf_S5 n S (fu + 1) 1 st_9 x (c32 v) (some ln') := fun _ => by
          rw [ob (gR_of (v := some s') hline rfl), ob (show some s' = some s' from rfl)]
        rw [this 0]
      have hB0 : bf_doFor_S142 n (fb + 2) 0 st x2 (c32 v) (c32 k') = if c32 so = (8 : Int32) then if AV st k' 0 = c32 v then some (st, slk P (nx P i)) else bf_doFor_S142 n (fb + 1) 1 st x2 (c32 v) (c32 k') else bf_doFor_S142 n (fb + 1) 1 st x2 (c32 v) (c32 k') := by
        show bf_doFor_B142 n _ st _ _ _ = _
        unfold bf_doFor_B142
        have e11 : ldA st 11 (c32 k') = some (c32 so) := by rw [ld_A (show k' < 25 by omega), z1]
        have e10 : ldA st 10 (c32 k') = some (c32 i) := by rw [ld_A (show k' < 25 by omega), t4]
        rw [if_neg (c_nn (by omega)), ob e11, ob (ld_av0 t3), ob e10, ob (b_next (by omega) hpg.2.1 t1)]
      rw [hl, hsl, hA0, hB0, ob (iO_ hcs z2)]
      by_cases g8 : so = 8
      · subst g8
        obtain ⟨v', y1, y2, y3⟩ := z3
        have hc19 := rs.cell y1
        have es : af_X20_s n S σ s' = some (σ, c32 v') := by unfold af_X20_s; rw [ob (gI_of hc19 rfl)]
        rw [if_pos (show cls 8 = 19 from rfl), if_neg n10, ob (gC_of hc19), ob (gC_of hc19), oc es, if_pos (show c32 8 = 8 from rfl), y3]
        by_cases gv : c32 v' = c32 v
        · rw [if_pos gv, if_pos gv]
          exact Or.inl ⟨i, _, i3, rfl, rfl⟩
        · rw [if_neg gv, if_neg gv, nA1, nB1]
          exact hrec
      · have h19 : ¬ cls so = 19 := by unfold cls; split <;> omega
        rw [if_neg h19, if_pos rfl, if_neg (show ¬ c32 so = (8 : Int32) from n_c (b := 8) (by omega) (by omega) g8), nA1, nB1]
        exact hrec
/-- a loop begins, or is over at once -/
theorem R_for2 {v : Nat} {a0 b0 c0 : UInt64} {r : Value} {ea eb : Nat} (hn : 300000000 ≤ n) (rs : RS x Z T P w h σ st f hp M F V) (h20 : f 20 = .int 0) (hj : P j = some (ln, s, k, 7)) (g1 : h s = some (.inr (18, [.int (c32 v), .ref ea, .ref eb, r]))) (hv : v < 26) (ha : okd a0) (hb : okd b0) (hc0 : okd c0) (hno : ∀ l, st.1 23 = c32 l → l ≤ 6 → ∀ i, i < l → st.2.1 41 i ≠ c32 v) (hs1 : σ.1 = σ0.1) (hs2 : σ.2.1 = σ0.2.1) : SO x T P w j h σ0 (af_X19_run_L67 n S σ s (some x) (some ln) a0 b0 c0) (bf_doFor_L118 n st (c32 k) (slk P (nx P j)) (c32 v) a0 b0 c0) := by
  have hk : k < 24 := (rs.1.2.1.2.1.1 j _ hj).2.2.1
  have hc := rs.cell g1
  obtain ⟨⟨ec, pg, h3, wp, dat, sub, ⟨l, L, l1, l2, l3, l4, l5, l6⟩, prt, mx, ot, hz1, hz2⟩, ⟨CR, CO, es⟩, vv, h27, hz⟩ := id rs
  obtain ⟨σ1, w1, w2, w3, es1⟩ := es.sv (s := v) (v := a0) hv
  have rc1 : RC x Z T P w h f hp (sD st 29 v a0) M F := rs.1.vf (VF.rfl_.d (by omega))
  have vv1 : VV (vf_upd V v a0) (sD st 29 v a0) := fun i' hi' => by
    rw [sD_at, if_pos rfl]
    by_cases gi : i' = v
    · rw [if_pos gi, gi, vf_at]; exact ⟨rfl, ha⟩
    · rw [if_neg gi, vf_ne gi]; exact vv i' hi'
  have rs1 : RS x Z T P w h σ1 (sD st 29 v a0) f hp M F (vf_upd V v a0) := ⟨rc1, ⟨CR, CO, es1⟩, vv1, h27, by omega⟩
  have hc1 := rs1.cell g1
  have hln1 := rs1.pl j _ hj
  unfold af_X19_run_L67 bf_doFor_L118
  rw [ob (show some x = some x from rfl), ob (rs.gR (v := some (x + 2)) ec.1.2.1), ob (gI_of hc rfl), ob (show some (x + 2) = some (x + 2) from rfl), ob w1, oc A_over, ob (st_D (show v < 26 from hv)), ob B_over]
  dsimp only
  by_cases ho : ovv a0 b0 c0 = 0
  · have e23 : (sD st 29 v a0).1 23 = c32 l := l3
    rw [if_pos ho, if_pos ho, ob (rs1.gI l2), e23]
    by_cases h6 : l = 6
    · subst h6
      rw [if_pos (show c32 6 = 6 from rfl), if_pos (show c32 6 = 6 from rfl)]
      exact SN.of (rs1.tw (code := 1) (by omega)) rfl rfl (gr.th (by omega) (by omega))
    · have hl6 : ¬ c32 l = 6 := n_c (b := 6) (by omega) (by omega) h6
      rw [if_neg hl6, if_neg hl6, ob (rs1.gR (v := some (x + 8)) ec.1.2.2.2.2.2.2.2.1), ob (rs1.gI l2), ob (nO_eq _ _ _ _)]
      have hcn : (nw σ1 (.inr (28, [.int 0, .double 0, .double 0, .null])) 4).2.2 σ1.1 = some (.inr (28, [.int 0, .double 0, .double 0, .null])) := nw_at _ _ _
      have hsne : s ≠ σ1.1 := fun z => by
        have := hz1 σ1.1 (by omega)
        rw [← z, g1] at this
        exact nomatch this
      have hc2 : (nw σ1 (.inr (28, [.int 0, .double 0, .double 0, .null])) 4).2.2 s = some (.inr (18, [.int (c32 v), .ref ea, .ref eb, r])) := (nw_ne _ _ _ hsne).trans hc1
      rw [ob (gI_of hc2 rfl), oc (i_X29 hcn), mv_nw, ob (show some (x + 8) = some (x + 8) from rfl)]
      obtain ⟨rc2, hl2⟩ := rc1.hnew (a := σ1.1) (e := .inr (28, [.int (c32 v), .double b0, .double c0, va_rf (some ln)])) (by omega)
      have es2 : ES x f (va_up hp σ1.1 (some (.inr (28, [.int (c32 v), .double b0, .double c0, va_rf (some ln)])))) (nw σ1 (.inr (28, [.int (c32 v), .double b0, .double c0, va_rf (some ln)])) 4) 0 (vf_upd V v a0) CR CO := es1.cw (q := σ1.1) (by omega) (by omega) (by omega) (by omega)
      have hx8 : (nw σ1 (.inr (28, [.int (c32 v), .double b0, .double c0, va_rf (some ln)])) 4).2.2 (x + 8) = some (.inl (7, 6, rA L)) := (nw_ne _ _ _ (by omega)).trans ((rs1.hp_ (q := x + 8) (by omega) (by omega) (by omega) (by omega)).trans l4)
      have hcl : (nw σ1 (.inr (28, [.int (c32 v), .double b0, .double c0, va_rf (some ln)])) 4).2.2 σ1.1 = some (.inr (28, [.int (c32 v), .double b0, .double c0, va_rf (some ln)])) := nw_at _ _ _
      rw [ob (gC_of hcl), ob (wR_of hx8 (by omega) (by omega))]
      have es3 := es2.cw (q := x + 8) (e := .inl (7, 6, rA (va_up L l (some σ1.1)))) (by omega) (by omega) (by omega) (by omega)
      have gp : gI (mv (nw σ1 (.inr (28, [.int (c32 v), .double b0, .double c0, va_rf (some ln)])) 4) (x + 8) (.inl (7, 6, rA (va_up L l (some σ1.1))))) x 0 15 = some (c32 l) := m_I es3.1 ((va_ne_ (by decide)).trans l2)
      have e1l : c32 l + (1 : Int32) = c32 (l + 1) := c_add l 1
      obtain ⟨σ4, e4, t1, t2, es4⟩ := es3.fld_ (k := 15) (v := .int (c32 (l + 1)))
      rw [ob gp, e1l, ob e4]
      have b1 : stA (sD st 29 v a0) 41 (c32 l) (c32 v) = some (sA (sD st 29 v a0) 41 l (c32 v)) := st_A (show l < 6 by omega)
      rw [ob b1]
      have e23b : (sA (sD st 29 v a0) 41 l (c32 v)).1 23 = c32 l := l3
      have b2 : stA (sA (sD st 29 v a0) 41 l (c32 v)) 42 (c32 l) (c32 k) = some (sA (sA (sD st 29 v a0) 41 l (c32 v)) 42 l (c32 k)) := st_A (show l < 6 by omega)
      rw [e23b, ob b2]
      have e23c : (sA (sA (sD st 29 v a0) 41 l (c32 v)) 42 l (c32 k)).1 23 = c32 l := l3
      have b3 : stD (sA (sA (sD st 29 v a0) 41 l (c32 v)) 42 l (c32 k)) 32 (c32 l) b0 = some (sD (sA (sA (sD st 29 v a0) 41 l (c32 v)) 42 l (c32 k)) 32 l b0) := st_D (show l < 6 by omega)
      rw [e23c, ob b3]
      have e23d : (sD (sA (sA (sD st 29 v a0) 41 l (c32 v)) 42 l (c32 k)) 32 l b0).1 23 = c32 l := l3
      have b4 : stD (sD (sA (sA (sD st 29 v a0) 41 l (c32 v)) 42 l (c32 k)) 32 l b0) 33 (c32 l) c0 = some (sD (sD (sA (sA (sD st 29 v a0) 41 l (c32 v)) 42 l (c32 k)) 32 l b0) 33 l c0) := st_D (show l < 6 by omega)
      rw [e23d, ob b4]
      have e23e : (sD (sD (sA (sA (sD st 29 v a0) 41 l (c32 v)) 42 l (c32 k)) 32 l b0) 33 l c0).1 23 = c32 l := l3
      rw [e23e, e1l]
      obtain ⟨ec2, pg2, h32, wp2, dat2, sub2, _, prt2, mx2, ot2, hz12, hz22⟩ := rc2
      have hf41 : ∀ i, (sI (sD (sD (sA (sA (sD st 29 v a0) 41 l (c32 v)) 42 l (c32 k)) 32 l b0) 33 l c0) 23 (c32 (l + 1))).2.1 41 i = if i = l then c32 v else st.2.1 41 i := fun i => by
        show (sA (sA (sD st 29 v a0) 41 l (c32 v)) 42 l (c32 k)).2.1 41 i = _
        rw [sA_ne _ (by decide), sA_at, if_pos rfl]
        rfl
      have hf42 : ∀ i, (sI (sD (sD (sA (sA (sD st 29 v a0) 41 l (c32 v)) 42 l (c32 k)) 32 l b0) 33 l c0) 23 (c32 (l + 1))).2.1 42 i = if i = l then c32 k else st.2.1 42 i := fun i => by
        show (sA (sA (sD st 29 v a0) 41 l (c32 v)) 42 l (c32 k)).2.1 42 i = _
        rw [sA_at, if_pos rfl]
        rfl
      have hf32 : ∀ i, (sI (sD (sD (sA (sA (sD st 29 v a0) 41 l (c32 v)) 42 l (c32 k)) 32 l b0) 33 l c0) 23 (c32 (l + 1))).2.2 32 i = if i = l then b0 else st.2.2 32 i := fun i => by
        show (sD (sD (sA (sA (sD st 29 v a0) 41 l (c32 v)) 42 l (c32 k)) 32 l b0) 33 l c0).2.2 32 i = _
        rw [sD_ne _ (by decide), sD_at, if_pos rfl]
        rfl
      have hf33 : ∀ i, (sI (sD (sD (sA (sA (sD st 29 v a0) 41 l (c32 v)) 42 l (c32 k)) 32 l b0) 33 l c0) 23 (c32 (l + 1))).2.2 33 i = if i = l then c0 else st.2.2 33 i := fun i => by
        show (sD (sD (sA (sA (sD st 29 v a0) 41 l (c32 v)) 42 l (c32 k)) 32 l b0) 33 l c0).2.2 33 i = _
        rw [sD_at, if_pos rfl]
        rfl
      have lop' : LOP x P (va_up h σ1.1 (some (.inr (28, [.int (c32 v), .double b0, .double c0, va_rf (some ln)])))) (va_up f 15 (.int (c32 (l + 1)))) (va_up (va_up hp σ1.1 (some (.inr (28, [.int (c32 v), .double b0, .double c0, va_rf (some ln)])))) (x + 8) (some (.inl (7, 6, rA (va_up L l (some σ1.1)))))) (sI (sD (sD (sA (sA (sD st 29 v a0) 41 l (c32 v)) 42 l (c32 k)) 32 l b0) 33 l c0) 23 (c32 (l + 1))) := by
        refine ⟨l + 1, va_up L l (some σ1.1), by omega, rfl, rfl, va_at_, fun i hi => ?_, fun i i' hi hi' he => ?_⟩
        · by_cases gi : i = l
          · subst gi
            rw [va_at_]
            refine ⟨σ1.1, v, b0, c0, j, _, rfl, va_at_, hj, hv, ?_, ?_, ?_, ?_, hb, hc0⟩
            · rw [hf41, if_pos rfl]
            · rw [hf42, if_pos rfl]
            · rw [hf32, if_pos rfl]
            · rw [hf33, if_pos rfl]
          · rw [va_ne_ gi]
            obtain ⟨q, s', b, c, j', e, y1, y2, y3, y4, y5, y6, y7, y8, y9⟩ := (l5 i (by omega)).map hl2
            refine ⟨q, s', b, c, j', e, y1, y2, y3, y4, ?_, ?_, ?_, ?_, y9⟩
            · rw [hf41, if_neg gi]; exact y5
            · rw [hf42, if_neg gi]; exact y6
            · rw [hf32, if_neg gi]; exact y7
            · rw [hf33, if_neg gi]; exact y8
        · rw [hf41, hf41] at he
          by_cases gi : i = l
          · by_cases gi' : i' = l
            · omega
            · rw [if_pos gi, if_neg gi'] at he
              exact absurd he.symm (hno l l3 l1 i' (by omega))
          · by_cases gi' : i' = l
            · rw [if_neg gi, if_pos gi'] at he
              exact absurd he (hno l l3 l1 i (by omega))
            · rw [if_neg gi, if_neg gi'] at he
              exact l6 i i' (by omega) (by omega) he
      have rc4 : RC x (σ1.1 + 1) T P w (va_up h σ1.1 (some (.inr (28, [.int (c32 v), .double b0, .double c0, va_rf (some ln)])))) (va_up f 15 (.int (c32 (l + 1)))) (va_up (va_up hp σ1.1 (some (.inr (28, [.int (c32 v), .double b0, .double c0, va_rf (some ln)])))) (x + 8) (some (.inl (7, 6, rA (va_up L l (some σ1.1)))))) (sI (sD (sD (sA (sA (sD st 29 v a0) 41 l (c32 v)) 42 l (c32 k)) 32 l b0) 33 l c0) 23 (c32 (l + 1))) M F := ⟨ec2.hx (by omega) (by omega), pg2, h32, wp2, dat2, sub2.hx (by omega), lop', prt2.hx (by omega), mx2.hx (by omega), ot2.hx (by omega), hz12, hz22⟩
      have hsz1 : σ4.1 = σ1.1 + 1 := t1
      have hsz2 : σ4.2.1 = σ1.2.1 + 4 := t2
      have rs4 : RS x (σ1.1 + 1) T P w (va_up h σ1.1 (some (.inr (28, [.int (c32 v), .double b0, .double c0, va_rf (some ln)])))) σ4 (sI (sD (sD (sA (sA (sD st 29 v a0) 41 l (c32 v)) 42 l (c32 k)) 32 l b0) 33 l c0) 23 (c32 (l + 1))) (va_up f 15 (.int (c32 (l + 1)))) (va_up (va_up hp σ1.1 (some (.inr (28, [.int (c32 v), .double b0, .double c0, va_rf (some ln)])))) (x + 8) (some (.inl (7, 6, rA (va_up L l (some σ1.1)))))) M F (vf_upd V v a0) := ⟨rc4, ⟨CR, CO, es4⟩, vv1, h27, by omega⟩
      exact Or.inl ⟨σ4, none, _, slk P (nx P j), _, _, _, _, M, F, _, rfl, rfl, rs4, hl2, ⟨by omega, by omega, by omega, by omega⟩, nx P j, rfl, fun i hi => (nx_some hi).2.2.1, Or.inr (Or.inr ⟨rfl, rfl, h20⟩)⟩
  · rw [if_neg ho, if_neg ho, ob (gI_of hc1 rfl), ob rs1.cls]
    have eN : af_X1_nextOf n S σ1 x (c32 v) (some ln) = af_X1_nextOf_S5 n S n 0 σ1 x (c32 v) (lnk P (nx P j)) := by
      unfold af_X1_nextOf
      rw [ob (show some ln = some ln from rfl), ob (gR_of (v := lnk P (nx P j)) hln1 rfl)]
    have hj1 := (pg.2.1.1 j _ hj).1
    rw [eN]
    rcases AB_nextOf (n := n) (S := S) (x2 := slk P (nx P j)) (by omega) rs1 hv (1000 - j) j n n (by omega) (by omega) (by omega) with ⟨i, e, i1, i2, i3⟩ | ⟨i1, i2⟩
    · obtain ⟨σ3, f3, a1, a2, a3, rs3, a4⟩ := A_after (n := n) (S := S) rs1 h20 i1
      rw [ox i2, ob rs1.cls, oc a1, i3]
      exact Or.inl ⟨σ3, _, _, _, Z, h, f3, hp, M, F, _, rfl, rfl, rs3, hle.rfl_, gr.eq (by omega) (by omega), due.aft a4⟩
    · rw [oxr i1, i2]
      exact SN.of (rs1.tw (code := 1) (by omega)) rfl rfl (gr.th (by omega) (by omega))
theorem R_for {v : Nat} {a0 b0 c0 : UInt64} {r : Value} {ea eb : Nat} (hn : 300000000 ≤ n) (rs : RS x Z T P w h σ st f hp M F V) (h20 : f 20 = .int 0) (hj : P j = some (ln, s, k, 7)) (g1 : h s = some (.inr (18, [.int (c32 v), .ref ea, .ref eb, r]))) (hv : v < 26) (ha : okd a0) (hb : okd b0) (hc0 : okd c0) (hs1 : σ.1 = σ0.1) (hs2 : σ.2.1 = σ0.2.1) : SO x T P w j h σ0 (af_X19_run_L44 n S σ s (some x) (some ln) a0 b0 c0) (bf_doFor_L92 n st (c32 k) (slk P (nx P j)) (c32 v) a0 b0 c0) := by
  have hc := rs.cell g1
  obtain ⟨⟨ec, pg, h3, wp, dat, sub, ⟨l, L, l1, l2, l3, l4, l5, l6⟩, prt, mx, ot, hz1, hz2⟩, ⟨CR, CO, es⟩, vv, h27, hz⟩ := id rs
  unfold af_X19_run_L44 bf_doFor_L92
  rw [ob (gI_of hc rfl), ob (show some x = some x from rfl), ob rs.cls, if_pos h27]
  rcases AB_loop (n := n) (S := S) (v := v) (by omega) rs l1 l2 l3 l4 l5 l6 with ⟨i, i1, i2, i3, i4⟩ | ⟨i1, i2, i3⟩
  · rw [oc i3, ob i4]
    dsimp only
    rw [if_neg (c_nn (by omega)), if_neg (c_nn (by omega)), ob i4]
    obtain ⟨σ1, e1, s1, s2, es1⟩ := es.fld_ (k := 15) (v := .int (c32 i))
    have rc1 : RC x Z T P w h (va_up f 15 (.int (c32 i))) hp (sI st 23 (c32 i)) M F := ⟨ec, pg, h3, wp, dat, sub, LOP.cut l4 l5 l6 (by omega) l1, prt, mx, ot, hz1, hz2⟩
    have rs1 : RS x Z T P w h σ1 (sI st 23 (c32 i)) (va_up f 15 (.int (c32 i))) hp M F V := ⟨rc1, ⟨CR, CO, es1⟩, vv, h27, by omega⟩
    rw [ob e1, ob (show ptI st 23 (c32 i) = some (sI st 23 (c32 i)) from rfl)]
    refine R_for2 hn rs1 h20 hj g1 hv ha hb hc0 (fun l' e1 hl' i' hi' e2 => ?_) (by omega) (by omega)
    have e1 : c32 i = c32 l' := e1
    have := (c_eq (a := i) (b := l') (by omega) (by omega)).mp e1
    have e2 : st.2.1 41 i' = c32 v := e2
    have := l6 i' i (by omega) i1 (e2.trans i2.symm)
    omega
  · rw [oc i2, ob i3]
    dsimp only
    rw [if_pos (by decide), if_pos (by decide)]
    refine R_for2 hn rs h20 hj g1 hv ha hb hc0 (fun l' e1 hl' i' hi' e2 => ?_) (by omega) (by omega)
    rw [l3] at e1
    have := (c_eq (a := l) (b := l') (by omega) (by omega)).mp e1
    exact i1 i' (by omega) e2
theorem EXP.vf {e i : Nat} (g : EXP h e i (RV st k)) (q : VF st st') : EXP h e i (RV st' k) := by
  refine g.map hle.rfl_ (fun l hl => ?_)
  unfold RV at hl ⊢
  rw [q.2.1 13 (by decide) (by decide), q.2.1 14 (by decide) (by decide)]
  exact hl
theorem R_7 (hn : 300000000 ≤ n) (rs : RS x Z T P w h σ st f hp M F V) (h20 : f 20 = .int 0) (hj : P j = some (ln, s, k, 7)) : SO x (T + 1) P w j h σ (af_run n S σ s (some x) (some ln)) (bf_step n st (c32 k)) := by
  obtain ⟨v, a, b, r, g1, g2, g3, g4, g5, g6⟩ : STM h s 7 (AV st k) (RV st k) := (rs.1.2.1.2.2 j _ hj).2.2
  have hk : k < 24 := (rs.1.2.1.2.1.1 j _ hj).2.2.1
  have hc := rs.cell g1
  have hA : af_run n S σ s (some x) (some ln) = af_X19_run n S σ s (some x) (some ln) := r_18 hc
  have hB : bf_step n st (c32 k) = bf_doFor n st (c32 k) (slk P (nx P j)) := by
    rw [B_st (by omega) rs.1.2.1 hj (by omega) (by omega)]
    exact bb_idI
  rw [hA, hB]
  unfold af_X19_run bf_doFor
  rw [ob (gR_of (v := some a) hc rfl), ob (show some a = some a from rfl), ob (ld_av0 hk), ob (ld_ex0 hk), g3]
  rcases R_val (n := n) (S := S) hn rs hk (by omega) g4 with ⟨a0, σ1, st1, q1, q2, q3, q4, q5, rs1, q6⟩ | ⟨code, σ1, st1, u, q1, q2, q3, q4, rn, q5⟩
  · have hc1 := rs1.cell g1
    have el : ldA st1 13 ((c32 k * (4 : Int32)) + (1 : Int32)) = some (st1.2.1 13 (4 * k + 1)) := ld_ex (i := 1) hk (by omega)
    rw [ox q1, ob q5, ob (gR_of (v := some b) hc1 rfl), ob (show some b = some b from rfl)]
    dsimp only
    rw [if_pos rs1.2.2.2.1, ob el]
    rcases R_val (n := n) (S := S) hn rs1 hk (by omega) (g5.vf q6) with ⟨b0, σ2, st2, p1, p2, p3, p4, p5, rs2, p6⟩ | ⟨code, σ2, st2, u, p1, p2, p3, p4, rn, p5⟩
    · have hc2 := rs2.cell g1
      have eav : ldA st2 12 ((c32 k * (8 : Int32)) + (1 : Int32)) = some (AV st k 1) := by
        rw [show ldA st2 12 ((c32 k * (8 : Int32)) + (1 : Int32)) = some (AV st2 k 1) from ld_av (i := 1) hk (by omega), AV.vf p6, AV.vf q6]
      rw [ox p1, ob p5]
      dsimp only
      unfold bf_doFor_L49
      rw [if_pos rs2.2.2.2.1, ob eav]
      rcases g6 with ⟨rfl, z2⟩ | ⟨c, rfl, z2, z3⟩
      · rw [ob (gR_of (v := none) hc2 rfl), if_pos rfl, z2, if_neg (by decide)]
        exact R_for hn (rs2.t (by omega)) h20 hj g1 g2 q2 p2 f_1 (by omega) (by omega)
      · have el2 : ldA st2 13 ((c32 k * (4 : Int32)) + (2 : Int32)) = some (st2.2.1 13 (4 * k + 2)) := ld_ex (i := 2) hk (by omega)
        rw [ob (gR_of (v := some c) hc2 rfl), if_neg (fun z => nomatch z), ob (gR_of (v := some c) hc2 rfl), ob (show some c = some c from rfl), z2, if_pos rfl, ob el2]
        rcases R_val (n := n) (S := S) hn rs2 hk (by omega) ((z3.vf q6).vf p6) with ⟨c0, σ3, st3, o1, o2, o3, o4, o5, rs3, o6⟩ | ⟨code, σ3, st3, u, o1, o2, o3, o4, rn, o5⟩
        · rw [ox o1, ob o5]
          exact R_for hn (rs3.t (by omega)) h20 hj g1 g2 q2 p2 o2 (by omega) (by omega)
        · rw [oxr o1, ob o4]
          dsimp only
          unfold bf_doFor_L92
          rw [if_neg rn.ne]
          exact SN.of (rn.t (by omega)) rfl rfl (gr.ft (by omega) (by omega) o2 o3)
    · rw [oxr p1, ob p4]
      dsimp only
      unfold bf_doFor_L49 bf_doFor_L92
      rw [if_neg rn.ne, if_neg rn.ne]
      exact SN.of (rn.t (by omega)) rfl rfl (gr.ft q3 q4 p2 p3)
  · rw [oxr q1, ob q4]
    dsimp only
    unfold bf_doFor_L49 bf_doFor_L92
    rw [if_neg rn.ne, if_neg rn.ne, if_neg rn.ne]
    exact SN.of (rn.t (by omega)) rfl rfl (gr.ft rfl rfl q2 q3)
end RUN3
