/-! THE PURE LAW: working out, elements and calls -/
section EVAL2
variable {x : Nat} {f : Nat → Value} {hp h : Nat → Option aE} {st0 : bS} {M F : Nat → Option Nat} {n : Nat} {S : Nat → Nat}
theorem ES.mb {σ : aS} {c : Nat} {V : Nat → UInt64} {CR : Nat → Int32} {CO : Nat → UInt64} {q R K : Nat} {G : Nat → Nat → UInt64} (hs : ES x f hp σ c V CR CO) (hq : x + 9 < q) (g : MB hp q R K G) : MB σ.2.2 q R K G := by
  have e : ∀ i, σ.2.2 (q + i) = hp (q + i) := fun i => hs.2.2.2.2 (q + i) (by omega) (by omega) (by omega) (by omega)
  obtain ⟨g1, g2, g3⟩ := g
  refine ⟨(e 0).trans g1, (e 1).trans g2, fun i hi => ?_⟩
  rw [Nat.add_assoc, e, ← Nat.add_assoc]
  exact g3 i hi
theorem ES.f6 {σ : aS} {c : Nat} {V : Nat → UInt64} {CR : Nat → Int32} {CO : Nat → UInt64} (hs : ES x f hp σ c V CR CO) (hf : FX x f) : gR σ x 0 6 = some (some (x + 3)) := m_R hs.1 ((va_ne_ (by decide)).trans hf.2.2.1)
theorem ES.f8 {σ : aS} {c : Nat} {V : Nat → UInt64} {CR : Nat → Int32} {CO : Nat → UInt64} (hs : ES x f hp σ c V CR CO) (hf : FX x f) : gR σ x 0 8 = some (some (x + 4)) := m_R hs.1 ((va_ne_ (by decide)).trans hf.2.2.2.1)
theorem ES.ms {σ : aS} {c m : Nat} {V : Nat → UInt64} {CR : Nat → Int32} {CO : Nat → UInt64} (hs : ES x f hp σ c V CR CO) (ec : EC x f hp h st0 M F) (hm : m < 3) : lR σ (x + 3) 4 (c32 m) = some (M m) := by
  have e : σ.2.2 (x + 3) = some (.inl (4, 3, rA M)) := by rw [hs.2.2.2.2 (x + 3) (by omega) (by omega) (by omega) (by omega)]; exact ec.2.2.2.1
  exact lR_of e hm (by omega)
theorem A_matrix_none {σ : aS} {c m : Nat} {V : Nat → UInt64} {CR : Nat → Int32} {CO : Nat → UInt64} (hs : ES x f hp σ c V CR CO) (ec : EC x f hp h st0 M F) (hm : m < 3) (e : M m = none) : af_X1_matrix n S σ x (c32 m) = some (aTh σ, .inr 4) := by
  unfold af_X1_matrix
  rw [ob (hs.f6 ec.1), ob (show some (x + 3) = some (x + 3) from rfl), ob (hs.ms ec hm), if_pos e]
  rfl
theorem A_matrix_some {σ : aS} {c m q : Nat} {V : Nat → UInt64} {CR : Nat → Int32} {CO : Nat → UInt64} (hs : ES x f hp σ c V CR CO) (ec : EC x f hp h st0 M F) (hm : m < 3) (e : M m = some q) : af_X1_matrix n S σ x (c32 m) = some (σ, .inl (some q)) := by
  unfold af_X1_matrix
  rw [ob (hs.f6 ec.1), ob (show some (x + 3) = some (x + 3) from rfl), ob (hs.ms ec hm), if_neg (by rw [e]; exact fun z => nomatch z), ob (hs.f6 ec.1), ob (show some (x + 3) = some (x + 3) from rfl), ob (hs.ms ec hm), e]
theorem EV_elt (ec : EC x f hp h st0 M F) {r c d a m y z : Nat} {ly lz : List Nat} (ih : EVS x f hp h st0 n S r c d) (g1 : h a = some (.inr (10, [.int (c32 m), .ref y, .ref z]))) (g2 : m < 3) (g4 : ex d h y ly) (g5 : ex d h z lz) (hl : (ly ++ (lz ++ [2, m])).length ≤ 121) {dd : Nat} (hd : d + 61 * r < dd) {σ : aS} {st : bS} {V : Nat → UInt64} {CR : Nat → Int32} {CO : Nat → UInt64} {t pc : Nat} (hc3 : c ≤ 3) (hs : ES x f hp σ c V CR CO) (hb : SB st0 st c t V CR CO) (hV : ∀ i, i < 26 → okd (V i)) (hCR : ∀ i, i < c → ∃ s, s < 26 ∧ CR i = c32 s) (hcd : CODE st0 pc (ly ++ (lz ++ [2, m]))) (hpc : pc + (ly ++ (lz ++ [2, m])).length < 4000) (ht : 3 * t + (ly ++ (lz ++ [2, m])).length ≤ 121 * (c + 1)) (ht2 : t + 1 < 200) :
    EvY x f hp σ (af_value n S (dd + 1) σ a (some x)) st0 st V CR CO c t pc (ly ++ (lz ++ [2, m])).length (Wk r) n ∨ EvN x f hp σ (af_value n S (dd + 1) σ a (some x)) st0 st V CR CO c pc ((ly ++ (lz ++ [2, m])).length * Wk r) n := by
  have hc := hs.cell ec g1
  have hW := Wk_pos r
  have hy2 := ex_len _ _ _ g4
  have hlen : (ly ++ (lz ++ [2, m])).length = ly.length + lz.length + 2 := by rw [List.length_append, List.length_append]; show _ + (_ + 2) = _; omega
  rw [hlen] at hl hpc ht ⊢
  have hmul : (ly.length + lz.length + 2) * Wk r = ly.length * Wk r + lz.length * Wk r + 2 * Wk r := by rw [Nat.add_mul, Nat.add_mul]
  rw [v_10 hc]
  unfold af_X11_value
  rw [ob (gR_of (v := some y) hc rfl), ob (show some y = some y from rfl)]
  rcases ih y ly g4 (by omega) dd σ st V CR CO t pc hd hs hb hV hCR hcd.l (by omega) (by omega) with ⟨v, σ1, CR1, CO1, st1, k1, q1, q2, q3, q4, q5, q6, q7, q8, q9, q10, q11, q12⟩ | hN
  · have hc1 := q5.cell ec g1
    rw [ox q1, oc (show af_X1_whole n S σ1 v = some (σ1, FP.d2l v) from rfl), ob (gR_of (v := some z) hc1 rfl), ob (show some z = some z from rfl)]
    have hCR1 : ∀ i, i < c → ∃ s, s < 26 ∧ CR1 i = c32 s := fun i hi => by
      obtain ⟨s, s1, s2⟩ := hCR i hi
      exact ⟨s, s1, (q6 i hi).1.trans s2⟩
    rcases ih z lz g5 (by omega) dd σ1 st1 V CR1 CO1 (t + 1) (pc + ly.length) hd q5 (q9.cong q6) hV hCR1 hcd.r.l (by omega) (by omega) with ⟨w, σ2, CR2, CO2, st2, k2, p1, p2, p3, p4, p5, p6, p7, p8, p9, p10, p11, p12⟩ | hN
    · have hc2 := p5.cell ec g1
      have p9' : SB st0 st2 c (t + 2) V CR CO := p9.cong (fun i hi => ⟨(q6 i hi).1.symm, (q6 i hi).2.symm⟩)
      have e14 : st2.2.1 14 (pc + ly.length + lz.length) = c32 2 := by rw [p9.1.2.1 14 (by decide) (by decide)]; exact hcd.r.r.h
      have ev : st2.2.2 30 t = v := (p11 t (by omega)).trans q10
      have hpp : pc + (ly.length + lz.length + 2) = pc + ly.length + lz.length + 2 := by omega
      have hfb : FB st0 (sI (sI st2 25 (c32 (t + 1))) 27 (c32 5)) 5 (UV c V CR CO) := p9'.fb hc3 hCR
      have hCR2 : ∀ i, i < c → ∃ s, s < 26 ∧ CR2 i = c32 s := fun i hi => by
        obtain ⟨s, s1, s2⟩ := hCR1 i hi
        exact ⟨s, s1, (p6 i hi).1.trans s2⟩
      have hU2 : ∀ i, i < 26 → UV c V CR2 CO2 i = UV c V CR CO i := UV_ext c _ _ _ _ _ _ (fun _ _ => rfl) (fun i hi => (p6 i hi).1.trans (q6 i hi).1) (fun i hi => (p6 i hi).2.trans (q6 i hi).2)
      rw [ox p1, oc (show af_X1_whole n S σ2 w = some (σ2, FP.d2l w) from rfl), ob (gI_of hc2 rfl), ob (show some x = some x from rfl), ob p5.cls]
      have hMR := (ec.2.2.2.2.2.1 m g2).1
      have hMq := (ec.2.2.2.2.2.1 m g2).2
      cases hMm : M m with
      | none =>
        rw [hMm] at hMR
        have hMR : st0.2.1 38 m = c32 0 := hMR
        rw [oxr (A_matrix_none p5 ec g2 hMm)]
        have hno : ¬ plc 0 0 (FP.d2l (st2.2.2 30 t)) (FP.d2l (st2.2.2 30 (t + 1))) := fun ⟨i, j, z1, _⟩ => by omega
        have ho2 := (o_2 (n := n) p9' (pc := pc + ly.length + lz.length) (by omega) (by omega) hcd.r.r.t.h g2 hMR (fun z => absurd rfl z) (by omega) (by omega) (K := 0)).2 hno
        exact Or.inr ⟨4, aTh σ2, c, V, CR2, CO2, _, k1 + k2 + 1, _, rfl, by omega, by show σ2.1 + 1 = _; omega, by show σ2.2.1 + 6 = _; omega, p5.th, hc3, hCR2, hU2, by omega, (q8.trans p8).trans (fun fu => w_step p9.2.2.2.1 e14 (by omega) (by omega) ho2), hfb⟩
      | some q =>
        rw [hMm] at hMR
        obtain ⟨R, K, G, m1, m2, m3, m4, m5, m6, m7, m8⟩ := hMR
        have hmb := p5.mb (hMq q hMm) m1
        rw [ox (A_matrix_some p5 ec g2 hMm), ob (show some q = some q from rfl), ob (gC_of hmb.1)]
        have ho2 := o_2 (n := n) p9' (pc := pc + ly.length + lz.length) (by omega) (by omega) hcd.r.r.t.h g2 m6 (fun _ => m7) m3 m5
        rw [ev, p10] at ho2
        by_cases hpl : plc R K (FP.d2l v) (FP.d2l w)
        · obtain ⟨i, j, i1, j1, ei, ej⟩ := hpl
          obtain ⟨n1, n2⟩ := m8 i j i1 j1
          have ho := ho2.1 i j i1 j1 ei ej
          rw [ei, ej, ox (A_mat_at hmb m3 m5 i1 j1)]
          refine Or.inl ⟨G i j, σ2, CR2, CO2, _, k1 + k2 + 1, rfl, n2, p3.trans q3, p4.trans q4, p5, fun i hi => ⟨(p6 i hi).1.trans (q6 i hi).1, (p6 i hi).2.trans (q6 i hi).2⟩, by omega, ?_, p9'.top.val (v := st0.2.2 35 (36 * m + 6 * i + j)) (i := t), by rw [sD_at, if_pos rfl, if_pos rfl]; exact n1.symm, fun i hi => ?_, fun i hi => (p12 i hi).trans (q12 i hi)⟩
          · rw [hpp]
            exact (q8.trans p8).trans (fun fu => w_step p9.2.2.2.1 e14 (by omega) (by omega) ho)
          · rw [sD_at, if_pos rfl, if_neg (by omega)]
            exact (p11 i (by omega)).trans (q11 i hi)
        · rw [oxr (A_mat_at_f hmb m3 m5 hpl)]
          exact Or.inr ⟨4, aTh σ2, c, V, CR2, CO2, _, k1 + k2 + 1, _, rfl, by omega, by show σ2.1 + 1 = _; omega, by show σ2.2.1 + 6 = _; omega, p5.th, hc3, hCR2, hU2, by omega, (q8.trans p8).trans (fun fu => w_step p9.2.2.2.1 e14 (by omega) (by omega) (ho2.2 hpl)), hfb⟩
    · refine Or.inr (hN.tr (k0 := k1) (fun σ' code e => ?_) q3 q4 q8 (by omega) (UV_ext c _ _ _ _ _ _ (fun _ _ => rfl) (fun i hi => (q6 i hi).1) (fun i hi => (q6 i hi).2)))
      rw [oxr e]
  · refine Or.inr (hN.tr (k0 := 0) (fun σ' code e => ?_) rfl rfl (fun fu => rfl) (by omega) (fun _ _ => rfl))
    rw [oxr e]
theorem vf_back {V : Nat → UInt64} {s : Nat} {v : UInt64} : vf_upd (vf_upd V s v) s (V s) = V := by
  funext j
  unfold vf_upd
  by_cases g : j = s
  · rw [if_pos g, g]
  · rw [if_neg g, if_neg g]
theorem EV_call (ec : EC x f hp h st0 M F) {r c d a g y : Nat} {ly : List Nat} (ih : EVS x f hp h st0 n S r c d) (ihr : ∀ r', r = r' + 1 → EVS x f hp h st0 n S r' (c + 1) 60) (g1 : h a = some (.inr (7, [.int (c32 g), .ref y]))) (g2 : g < 3) (g4 : ex d h y ly) (hl : (12 :: g :: (ly ++ [13, g])).length ≤ 121) {dd : Nat} (hd : d + 61 * r < dd) {σ : aS} {st : bS} {V : Nat → UInt64} {CR : Nat → Int32} {CO : Nat → UInt64} {t pc : Nat} (hcr : c + r = 3) (hs : ES x f hp σ c V CR CO) (hb : SB st0 st c t V CR CO) (hV : ∀ i, i < 26 → okd (V i)) (hCR : ∀ i, i < c → ∃ s, s < 26 ∧ CR i = c32 s) (hcd : CODE st0 pc (12 :: g :: (ly ++ [13, g]))) (hpc : pc + (12 :: g :: (ly ++ [13, g])).length < 4000) (ht : 3 * t + (12 :: g :: (ly ++ [13, g])).length ≤ 121 * (c + 1)) (ht2 : t + 1 < 200) :
    EvY x f hp σ (af_value n S (dd + 1) σ a (some x)) st0 st V CR CO c t pc (12 :: g :: (ly ++ [13, g])).length (Wk r) n ∨ EvN x f hp σ (af_value n S (dd + 1) σ a (some x)) st0 st V CR CO c pc ((12 :: g :: (ly ++ [13, g])).length * Wk r) n := by
  have hc := hs.cell ec g1
  have hW := Wk_pos r
  have hy2 := ex_len _ _ _ g4
  have hlen : (12 :: g :: (ly ++ [13, g])).length = ly.length + 4 := by show (ly ++ [13, g]).length + 1 + 1 = _; rw [List.length_append]; rfl
  rw [hlen] at hl hpc ht ⊢
  have hmul : (ly.length + 4) * Wk r = ly.length * Wk r + 4 * Wk r := by rw [Nat.add_mul]
  have e14 : st.2.1 14 pc = c32 12 := by rw [hb.1.2.1 14 (by decide) (by decide)]; exact hcd.h
  have h12 := o_12 (n := n) hb (pc := pc) (by omega) hcd.t.h g2
  have hFR := ec.2.2.2.2.2.2 g g2
  have eF : lR σ (x + 4) 5 (c32 g) = some (F g) := by
    have e : σ.2.2 (x + 4) = some (.inl (5, 3, rA F)) := by rw [hs.2.2.2.2 (x + 4) (by omega) (by omega) (by omega) (by omega)]; exact ec.2.2.2.2.1
    exact lR_of e g2 (by omega)
  rw [v_7 hc]
  unfold af_X8_value
  rw [ob (show some x = some x from rfl), ob (hs.f8 ec.1), ob (gI_of hc rfl), ob (show some (x + 4) = some (x + 4) from rfl), ob eF]
  cases hFg : F g with
  | none =>
    rw [hFg] at hFR
    rw [if_pos rfl]
    exact Or.inr ⟨2, aTh σ, c, V, CR, CO, _, 1, _, rfl, by omega, rfl, rfl, hs.th, by omega, hCR, fun _ _ => rfl, by omega, fun fu => w_step hb.2.2.2.1 e14 (by omega) (by omega) (h12.1 hFR), hb.fb0 (by omega) hCR⟩
  | some df =>
    rw [hFg] at hFR
    obtain ⟨gg, s, b, k, f1, f2, f3, f4, f5, lb, f6, f7, off, f8, f9, f10⟩ := hFR
    have f10 : CODE st0 (160 * k + off) (lb ++ [14]) := f10
    have hlb : (lb ++ [14]).length = lb.length + 1 := by rw [List.length_append]; rfl
    rw [hlb] at f9
    have hst1 : ST n st (c32 pc) 1 st (c32 (pc + 2)) := fun fu => w_step hb.2.2.2.1 e14 (by omega) (by omega) (h12.2 k f3 f4)
    rw [if_neg (fun z => nomatch z), ob (gR_of (v := some y) hc rfl), ob (show some y = some y from rfl)]
    rcases ih y ly g4 (by omega) dd σ st V CR CO t (pc + 2) hd hs hb hV hCR hcd.t.t.l (by omega) (by omega) with ⟨v, σ1, CR1, CO1, st1, k1, q1, q2, q3, q4, q5, q6, q7, q8, q9, q10, q11, q12⟩ | hN
    · have hCR1 : ∀ i, i < c → ∃ s, s < 26 ∧ CR1 i = c32 s := fun i hi => by
        obtain ⟨s, s1, s2⟩ := hCR i hi
        exact ⟨s, s1, (q6 i hi).1.trans s2⟩
      have hU1 : ∀ i, i < 26 → UV c V CR1 CO1 i = UV c V CR CO i := UV_ext c _ _ _ _ _ _ (fun _ _ => rfl) (fun i hi => (q6 i hi).1) (fun i hi => (q6 i hi).2)
      have e14b : st1.2.1 14 (pc + 2 + ly.length) = c32 13 := by rw [q9.1.2.1 14 (by decide) (by decide)]; exact hcd.t.t.r.h
      have hgb : st0.2.1 14 (pc + 2 + ly.length + 1) = c32 g := hcd.t.t.r.t.h
      rw [ox q1, ob q5.f9]
      by_cases hc3 : c = 3
      · subst hc3
        rw [if_pos (by decide)]
        exact Or.inr ⟨1, aTh σ1, 3, V, CR1, CO1, _, 1 + k1 + 1, _, rfl, by omega, by show σ1.1 + 1 = _; omega, by show σ1.2.1 + 6 = _; omega, q5.th, by omega, hCR1, hU1, by omega, (hst1.trans q8).trans (fun fu => w_step q9.2.2.2.1 e14b (by omega) (by omega) (o_13_f q9 (by omega) hgb g2)), q9.fb0 (by omega) hCR⟩
      · rw [if_neg (by exact n_c (b := 3) (by omega) (by omega) hc3)]
        obtain ⟨r', rfl⟩ : ∃ r', r = r' + 1 := ⟨r - 1, by omega⟩
        have hWr : Wk (r' + 1) = 2 + 131 * Wk r' := rfl
        have hd1 := q5.cell ec f1
        -- the machine's own steps
        obtain ⟨σ2, e2, z21, z22, hs2⟩ := q5.sr (i := c) (v := c32 s) (by omega)
        have hd2 := hs2.cell ec f1
        obtain ⟨σ3, e3, z31, z32, hs3⟩ := hs2.so (i := c) (v := V s) (by omega)
        have hd3 := hs3.cell ec f1
        obtain ⟨σ4, e4, z41, z42, hs4⟩ := hs3.sv (s := s) (v := v) f2
        obtain ⟨σ5, e5, z51, z52, hs5⟩ := hs4.sc (c' := c + 1)
        have hd5 := hs5.cell ec f1
        have es1 : af_X25_s n S σ1 df = some (σ1, c32 s) := by unfold af_X25_s; rw [ob (gI_of hd1 rfl)]
        have es2 : af_X25_s n S σ2 df = some (σ2, c32 s) := by unfold af_X25_s; rw [ob (gI_of hd2 rfl)]
        have es3 : af_X25_s n S σ3 df = some (σ3, c32 s) := by unfold af_X25_s; rw [ob (gI_of hd3 rfl)]
        have es5 : af_X25_body n S σ5 df = some (σ5, some b) := by unfold af_X25_body; rw [ob (gR_of (v := some b) hd5 rfl)]
        rw [ob (q5.f10 ec.1), ob q5.f9, ob (show some df = some df from rfl), ob (gC_of hd1), oc es1, ob (show some (x + 5) = some (x + 5) from rfl), ob e2, ob (hs2.f11 ec.1), ob hs2.f9, ob (hs2.f5 ec.1), ob (gC_of hd2), oc es2, ob (show some (x + 2) = some (x + 2) from rfl), ob (lD_of hs2.2.1 f2 (by omega)), ob (show some (x + 6) = some (x + 6) from rfl), ob e3, ob (hs3.f5 ec.1), ob (gC_of hd3), oc es3, ob (show some (x + 2) = some (x + 2) from rfl), ob e4, ob hs4.f9]
        have e5' : pF σ4 x 0 9 (.int (c32 c + (1 : Int32))) = some σ5 := by
          show pF σ4 x 0 9 (.int (c32 c + c32 1)) = _
          rw [c_add]
          exact e5
        rw [ob e5', ob (gC_of hd5), oc es5, ob (show some b = some b from rfl)]
        -- the model's
        have q9' : SB st0 st1 c (t + 1) V CR1 CO1 := q9.cong q6
        have ho13 := o_13 (n := n) q9' (by omega) (pc := pc + 2 + ly.length) (by omega) (by omega) hgb g2 f3 f4 f5 f2 f8
        rw [q10] at ho13
        have hst2 := (hst1.trans q8).trans (fun fu => w_step (fu := fu) q9.2.2.2.1 e14b (by omega) (by omega) ho13)
        have hsb := q9'.ca (s := s) (p' := c32 (pc + 2 + ly.length + 2)) (v := v)
        have h43 : (ca st1 c t s (c32 (pc + 2 + ly.length + 2)) v (V s)).2.1 43 c = c32 (pc + 2 + ly.length + 2) := by
          show (sA (sA st1 43 c (c32 (pc + 2 + ly.length + 2))) 44 c (c32 s)).2.1 43 c = _
          rw [sA_ne _ (by decide), sA_at, if_pos rfl, if_pos rfl]
        have h43' : ∀ i, i < c → (ca st1 c t s (c32 (pc + 2 + ly.length + 2)) v (V s)).2.1 43 i = st1.2.1 43 i := fun i hi => by
          show (sA (sA st1 43 c (c32 (pc + 2 + ly.length + 2))) 44 c (c32 s)).2.1 43 i = _
          rw [sA_ne _ (by decide), sA_at, if_pos rfl, if_neg (by omega)]
        have h30' : ∀ i, (ca st1 c t s (c32 (pc + 2 + ly.length + 2)) v (V s)).2.2 30 i = st1.2.2 30 i := fun i => by
          show (sD (sI (sI (sD (sA (sA st1 43 c (c32 (pc + 2 + ly.length + 2))) 44 c (c32 s)) 34 c (V s)) 24 (c32 (c + 1))) 25 (c32 t)) 29 s v).2.2 30 i = _
          rw [sD_ne _ (by decide)]
          show (sD (sA (sA st1 43 c (c32 (pc + 2 + ly.length + 2))) 44 c (c32 s)) 34 c (V s)).2.2 30 i = _
          rw [sD_ne _ (by decide)]
          rfl
        have hVv : ∀ i, i < 26 → okd (vf_upd V s v i) := fun i hi => by
          unfold vf_upd
          split
          · exact q2
          · exact hV i hi
        have hCRv : ∀ i, i < c + 1 → ∃ s', s' < 26 ∧ upd CR1 c (c32 s) i = c32 s' := fun i hi => by
          unfold upd
          by_cases gi : i = c
          · rw [if_pos gi]; exact ⟨s, f2, rfl⟩
          · rw [if_neg gi]; exact hCR1 i (by omega)
        have hUc : ∀ i, i < 26 → UV (c + 1) (vf_upd V s v) (upd CR1 c (c32 s)) (vf_upd CO1 c (V s)) i = UV c V CR CO i := fun i hi => by
          show UV c (vf_upd (vf_upd V s v) (upd CR1 c (c32 s) c).toNatClampNeg (vf_upd CO1 c (V s) c)) (upd CR1 c (c32 s)) (vf_upd CO1 c (V s)) i = _
          have e1 : upd CR1 c (c32 s) c = c32 s := by unfold upd; rw [if_pos rfl]
          rw [e1, c_nat (by omega), vf_at, vf_back]
          exact UV_ext c _ _ _ _ _ _ (fun _ _ => rfl) (fun j hj => by unfold upd; rw [if_neg (by omega)]; exact (q6 j hj).1) (fun j hj => by rw [vf_ne (by omega)]; exact (q6 j hj).2) i hi
        rcases ihr r' rfl b lb f6 f7 dd σ5 _ (vf_upd V s v) (upd CR1 c (c32 s)) (vf_upd CO1 c (V s)) t (160 * k + off) (by omega) hs5 hsb hVv hCRv f10.l (by omega) (by omega) with ⟨u, σ6, CR6, CO6, st6, k6, u1, u2, u3, u4, u5, u6, u7, u8, u9, u10, u11, u12⟩ | hN
        · have ecr : CR6 c = c32 s := by rw [(u6 c (by omega)).1]; unfold upd; rw [if_pos rfl]
          have eco : CO6 c = V s := by rw [(u6 c (by omega)).2, vf_at]
          obtain ⟨σ7, e7, z71, z72, hs7⟩ := A_leave (n := n) (S := S) u5 ec.1 (by omega) f2 ecr
          rw [eco, vf_back] at hs7
          have e14c : st6.2.1 14 (160 * k + off + lb.length) = c32 14 := by rw [u9.1.2.1 14 (by decide) (by decide)]; exact f10.r.h
          have u9' : SB st0 st6 (c + 1) (t + 1) (vf_upd V s v) CR6 CO6 := u9.cong (fun i hi => u6 i hi)
          have hret : ST n st6 (c32 (160 * k + off + lb.length)) 1 (lv st6 c s (CO6 c)) (c32 (pc + 2 + ly.length + 2)) := fun fu => w_ret u9' (by omega) f2 ecr e14c (by omega) ((u12 c (by omega)).trans h43)
          have hsb7 := (B_leave (n := n) u9' (by omega) f2 ecr).2
          have hsb8 : SB st0 (lv st6 c s (CO6 c)) c (t + 1) V CR CO := by
            rw [eco, vf_back] at hsb7
            rw [eco]
            refine hsb7.cong (fun i hi => ?_)
            rw [(u6 i (by omega)).1, (u6 i (by omega)).2]
            unfold upd
            rw [if_neg (by omega), vf_ne (by omega)]
            exact ⟨(q6 i hi).1.symm, (q6 i hi).2.symm⟩
          have hll : ∀ i, (lv st6 c s (CO6 c)).2.2 30 i = st6.2.2 30 i := fun i => by
            show (sD (sI st6 24 (c32 c)) 29 s (CO6 c)).2.2 30 i = _
            rw [sD_ne _ (by decide)]
            rfl
          have hk6 : k6 ≤ 121 * Wk r' := Nat.le_trans u7 (Nat.mul_le_mul_right _ f7)
          refine Or.inl ⟨u, σ7, CR6, CO6, lv st6 c s (CO6 c), 1 + k1 + 1 + k6 + 1, ?_, u2, by omega, by omega, hs7, fun i hi => ?_, by omega, ?_, hsb8, by rw [hll]; exact u10, fun i hi => ?_, fun i hi => ?_⟩
          · rw [ox u1, ob u5.cls, oc e7]
          · rw [(u6 i (by omega)).1, (u6 i (by omega)).2]
            unfold upd
            rw [if_neg (by omega), vf_ne (by omega)]
            exact q6 i hi
          · rw [show pc + (ly.length + 4) = pc + 2 + ly.length + 2 by omega]
            exact (hst2.trans u8).trans hret
          · rw [hll, u11 i hi, h30' i]
            exact q11 i hi
          · show st6.2.1 43 i = _
            rw [u12 i (by omega), h43' i hi]
            exact q12 i hi
        · refine Or.inr (hN.tr (k0 := 1 + k1 + 1) (fun σ' code e => ?_) (by omega) (by omega) hst2 ?_ hUc)
          · rw [oxr e]
          · have := Nat.mul_le_mul_right (Wk r') f7
            omega
    · refine Or.inr (hN.tr (k0 := 1) (fun σ' code e => ?_) rfl rfl hst1 (by omega) (fun _ _ => rfl))
      rw [oxr e]
/-- expressions are worked out alike -/
theorem EV_all (hn : 1000 ≤ n) (ec : EC x f hp h st0 M F) : ∀ (r c d : Nat), c + r = 3 → d ≤ 60 → EVS x f hp h st0 n S r c d := by
  intro r
  induction r with
  | zero =>
    intro c d hc
    induction d with
    | zero => intro _ a l g; exact g.elim
    | succ d ih =>
      intro hd60 a l g hl dd σ st V CR CO t pc hd hs hb hV hCR hcd hpc ht
      obtain ⟨dd, rfl⟩ : ∃ m, dd = m + 1 := ⟨dd - 1, by omega⟩
      rcases g with ⟨w, pl, g1, g2, g3, rfl⟩ | ⟨s, g1, g2, rfl⟩ | ⟨m, i, j, li, lj, g1, g2, g3, g4, rfl⟩ | ⟨o, y, z, ly, lz, g1, g2, g3, g4, g5, rfl⟩ | ⟨o, y, ly, g1, g2, g3, g4, rfl⟩ | ⟨o, y, ly, g1, g2, g3, rfl⟩
      · exact Or.inl (EV_num hn ec g1 g2 g3 hs hb hcd hpc (by omega))
      · exact Or.inl (EV_var ec g1 g2 hs hb hV hcd hpc (by omega))
      · exact EV_elt ec (ih (by omega)) g1 g2 g3 g4 hl (by omega) (by omega) hs hb hV hCR hcd hpc ht (by omega)
      · exact EV_two hn ec (ih (by omega)) g1 g2 g3 g4 g5 hl (by omega) (by omega) hs hb hV hCR hcd hpc ht (by omega)
      · exact EV_one ec (ih (by omega)) g1 g2 g3 g4 hl (by omega) hs hb hV hCR hcd hpc ht (by omega)
      · exact EV_call ec (ih (by omega)) (fun r' z => by omega) g1 g2 g3 hl (by omega) hc hs hb hV hCR hcd hpc ht (by omega)
  | succ r ihr =>
    intro c d hc
    induction d with
    | zero => intro _ a l g; exact g.elim
    | succ d ih =>
      intro hd60 a l g hl dd σ st V CR CO t pc hd hs hb hV hCR hcd hpc ht
      obtain ⟨dd, rfl⟩ : ∃ m, dd = m + 1 := ⟨dd - 1, by omega⟩
      rcases g with ⟨w, pl, g1, g2, g3, rfl⟩ | ⟨s, g1, g2, rfl⟩ | ⟨m, i, j, li, lj, g1, g2, g3, g4, rfl⟩ | ⟨o, y, z, ly, lz, g1, g2, g3, g4, g5, rfl⟩ | ⟨o, y, ly, g1, g2, g3, g4, rfl⟩ | ⟨o, y, ly, g1, g2, g3, rfl⟩
      · exact Or.inl (EV_num hn ec g1 g2 g3 hs hb hcd hpc (by omega))
      · exact Or.inl (EV_var ec g1 g2 hs hb hV hcd hpc (by omega))
      · exact EV_elt ec (ih (by omega)) g1 g2 g3 g4 hl (by omega) (by omega) hs hb hV hCR hcd hpc ht (by omega)
      · exact EV_two hn ec (ih (by omega)) g1 g2 g3 g4 g5 hl (by omega) (by omega) hs hb hV hCR hcd hpc ht (by omega)
      · exact EV_one ec (ih (by omega)) g1 g2 g3 g4 hl (by omega) hs hb hV hCR hcd hpc ht (by omega)
      · exact EV_call ec (ih (by omega)) (fun r' z => by cases z; exact ihr (c + 1) 60 (by omega) (Nat.le_refl _)) g1 g2 g3 hl (by omega) hc hs hb hV hCR hcd hpc ht (by omega)
end EVAL2
