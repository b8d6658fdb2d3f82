/-! THE PURE LAW: runs of statements, the simple ones -/
section RUN1
variable {x Z T : Nat} {P : PG_} {w : Nat → List UInt64} {h : Nat → Option aE} {f : Nat → Value} {hp hp' : Nat → Option aE} {st st' : bS} {M F : Nat → Option Nat} {σ σ0 : aS} {V : Nat → UInt64} {n : Nat} {S : Nat → Nat} {j ln s k : Nat}
theorem r_21 {σ : aS} {a : Nat} {fs : List Value} {r1 r2 : Option Nat} (g : σ.2.2 a = some (.inr (21, fs))) : af_run n S σ a r1 r2 = af_X22_run n S σ a r1 r2 := by
  show ((aCi σ a).bind _) = _
  rw [ob (aCi_of g)]
  rfl
theorem r_24 {σ : aS} {a : Nat} {fs : List Value} {r1 r2 : Option Nat} (g : σ.2.2 a = some (.inr (24, fs))) : af_run n S σ a r1 r2 = af_X25_run n S σ a r1 r2 := by
  show ((aCi σ a).bind _) = _
  rw [ob (aCi_of g)]
  rfl
theorem r_23 {σ : aS} {a : Nat} {fs : List Value} {r1 r2 : Option Nat} (g : σ.2.2 a = some (.inr (23, fs))) : af_run n S σ a r1 r2 = af_X24_run n S σ a r1 r2 := by
  show ((aCi σ a).bind _) = _
  rw [ob (aCi_of g)]
  rfl
theorem r_18 {σ : aS} {a : Nat} {fs : List Value} {r1 r2 : Option Nat} (g : σ.2.2 a = some (.inr (18, fs))) : af_run n S σ a r1 r2 = af_X19_run n S σ a r1 r2 := by
  show ((aCi σ a).bind _) = _
  rw [ob (aCi_of g)]
  rfl
theorem r_16 {σ : aS} {a : Nat} {fs : List Value} {r1 r2 : Option Nat} (g : σ.2.2 a = some (.inr (16, fs))) : af_run n S σ a r1 r2 = af_X17_run n S σ a r1 r2 := by
  show ((aCi σ a).bind _) = _
  rw [ob (aCi_of g)]
  rfl
theorem r_14 {σ : aS} {a : Nat} {fs : List Value} {r1 r2 : Option Nat} (g : σ.2.2 a = some (.inr (14, fs))) : af_run n S σ a r1 r2 = af_X15_run n S σ a r1 r2 := by
  show ((aCi σ a).bind _) = _
  rw [ob (aCi_of g)]
  rfl
theorem r_13 {σ : aS} {a : Nat} {fs : List Value} {r1 r2 : Option Nat} (g : σ.2.2 a = some (.inr (13, fs))) : af_run n S σ a r1 r2 = af_X14_run n S σ a r1 r2 := by
  show ((aCi σ a).bind _) = _
  rw [ob (aCi_of g)]
  rfl
theorem r_11 {σ : aS} {a : Nat} {fs : List Value} {r1 r2 : Option Nat} (g : σ.2.2 a = some (.inr (11, fs))) : af_run n S σ a r1 r2 = af_X12_run n S σ a r1 r2 := by
  show ((aCi σ a).bind _) = _
  rw [ob (aCi_of g)]
  rfl
theorem r_25 {σ : aS} {a : Nat} {fs : List Value} {r1 r2 : Option Nat} (g : σ.2.2 a = some (.inr (25, fs))) : af_run n S σ a r1 r2 = af_X26_run n S σ a r1 r2 := by
  show ((aCi σ a).bind _) = _
  rw [ob (aCi_of g)]
  rfl
theorem r_19 {σ : aS} {a : Nat} {fs : List Value} {r1 r2 : Option Nat} (g : σ.2.2 a = some (.inr (19, fs))) : af_run n S σ a r1 r2 = af_X20_run n S σ a r1 r2 := by
  show ((aCi σ a).bind _) = _
  rw [ob (aCi_of g)]
  rfl
theorem r_26 {σ : aS} {a : Nat} {fs : List Value} {r1 r2 : Option Nat} (g : σ.2.2 a = some (.inr (26, fs))) : af_run n S σ a r1 r2 = af_X27_run n S σ a r1 r2 := by
  show ((aCi σ a).bind _) = _
  rw [ob (aCi_of g)]
  rfl
theorem r_15 {σ : aS} {a : Nat} {fs : List Value} {r1 r2 : Option Nat} (g : σ.2.2 a = some (.inr (15, fs))) : af_run n S σ a r1 r2 = af_X16_run n S σ a r1 r2 := by
  show ((aCi σ a).bind _) = _
  rw [ob (aCi_of g)]
  rfl
theorem r_12 {σ : aS} {a : Nat} {fs : List Value} {r1 r2 : Option Nat} (g : σ.2.2 a = some (.inr (12, fs))) : af_run n S σ a r1 r2 = af_X13_run n S σ a r1 r2 := by
  show ((aCi σ a).bind _) = _
  rw [ob (aCi_of g)]
  rfl
theorem r_20 {σ : aS} {a : Nat} {fs : List Value} {r1 r2 : Option Nat} (g : σ.2.2 a = some (.inr (20, fs))) : af_run n S σ a r1 r2 = af_X21_run n S σ a r1 r2 := by
  show ((aCi σ a).bind _) = _
  rw [ob (aCi_of g)]
  rfl
theorem r_22 {σ : aS} {a : Nat} {fs : List Value} {r1 r2 : Option Nat} (g : σ.2.2 a = some (.inr (22, fs))) : af_run n S σ a r1 r2 = af_X23_run n S σ a r1 r2 := by
  show ((aCi σ a).bind _) = _
  rw [ob (aCi_of g)]
  rfl
theorem r_17 {σ : aS} {a : Nat} {fs : List Value} {r1 r2 : Option Nat} (g : σ.2.2 a = some (.inr (17, fs))) : af_run n S σ a r1 r2 = af_X18_run n S σ a r1 r2 := by
  show ((aCi σ a).bind _) = _
  rw [ob (aCi_of g)]
  rfl
theorem B_st {so : Nat} (hn : 1000 ≤ n) (hpg : PGM h st P) (hP : P j = some (ln, s, k, so)) (h0 : so ≠ 0) (h9 : so ≠ 9) : bf_step n st (c32 k) = bf_step_L55 n st (c32 k) (c32 so) (AV st k 0) (slk P (nx P j)) := by
  have hlt : so < 17 := (hpg.2.2 j _ hP).2.1
  have := B_step hn hpg hP
  rw [if_neg (show ¬ (c32 so : Int32) = 0 from n_c (b := 0) (by omega) (by omega) h0), if_neg (show ¬ (c32 so : Int32) = 9 from n_c (b := 9) (by omega) (by omega) h9)] at this
  exact this
theorem BS_0 {k so a b : Int32} (h : bf_step_L377 n st so b = some (st, b)) (h1 : so = 10 ∨ so = 15) : bf_step_L55 n st k so a b = some (st, b) := by
  rcases h1 with rfl | rfl <;> rfl
theorem bb_idI {z : Option (bS × Int32)} : (z.bind fun q_3 => some (q_3.1, q_3.2)) = z := by cases z <;> rfl
theorem xb_idR {z : Option (aS × (Option Nat ⊕ Nat))} : (xb z fun st_22 r_23 => some (st_22, .inl r_23)) = z := by
  cases z with
  | none => rfl
  | some q => obtain ⟨s, r⟩ := q; cases r <;> rfl
/-- nothing is done -/
theorem SY.none_ {zA : Option (aS × (Option Nat ⊕ Nat))} {zB : Option (bS × Int32)} (hN : PN (st.2.1 10) P) (rs : RS x Z T P w h σ st f hp M F V) (h20 : f 20 = .int 0) (hA : zA = some (σ, .inl none)) (hB : zB = some (st, slk P (nx P j))) (h1 : σ.1 = σ0.1) (h2 : σ.2.1 = σ0.2.1) : SO x T P w j h σ0 zA zB :=
  Or.inl ⟨σ, none, st, slk P (nx P j), Z, h, f, hp, M, F, V, hA, hB, rs, hle.rfl_, gr.eq h1 h2, nx P j, rfl, fun i hi => (nx_some hi).2.2.1, Or.inr (Or.inr ⟨rfl, rfl, h20⟩)⟩
theorem SN.of {zA : Option (aS × (Option Nat ⊕ Nat))} {zB : Option (bS × Int32)} {σ' : aS} {code : Nat} {k' : Int32} (rn : RN x Z T P w h σ' st' f hp M F V code) (hA : zA = some (σ', .inr code)) (hB : zB = some (st', k')) (hg : gr σ0 σ') : SO x T P w j h σ0 zA zB :=
  Or.inr ⟨code, σ', st', k', Z, h, f, hp, M, F, V, hA, hB, rn, hle.rfl_, hg⟩
theorem gr.ft {σ1 σ2 : aS} (h1 : σ1.1 = σ0.1) (h2 : σ1.2.1 = σ0.2.1) (h3 : σ2.1 = σ1.1 + 1) (h4 : σ2.2.1 = σ1.2.1 + 6) : gr σ0 σ2 := ⟨by omega, by omega, by omega, by omega⟩
theorem RS.tail {A B : Prop} (r : A ∧ B) : B := r.2
/-- to a line -/
theorem R_goto (hn : 300000000 ≤ n) (rs : RS x Z T P w h σ st f hp M F V) (h20 : f 20 = .int 0) {m : Nat} (hm : m < 1000) (h0 : m ≠ 0) (hs1 : σ.1 = σ0.1) (hs2 : σ.2.1 = σ0.2.1) : SO x T P w j h σ0 (af_X1_line n S σ x (c32 m)) (bf_goTo n st (c32 m)) := by
  have hN := rs.1.2.1.2.1
  cases hPm : P m with
  | some e' =>
    rw [A_line_t (by omega) rs hPm, B_goTo_t (by omega) hN hPm]
    exact Or.inl ⟨σ, some e'.1, st, slk P (some m), Z, h, f, hp, M, F, V, rfl, rfl, rs, hle.rfl_, gr.eq hs1 hs2, some m, rfl, fun i hi => by cases hi; exact ⟨_, hPm⟩, Or.inl ⟨(lnk_some hPm).symm, (fun z => nomatch z), h20⟩⟩
  | none =>
    rw [A_line_f (by omega) rs hPm hm, B_goTo_f (by omega) hN hPm h0 hm]
    exact SN.of (rs.tw (code := 2) (by omega)) rfl rfl (gr.th hs1 hs2)
/-! REM, DATA -/
theorem R_15 (hn : 300000000 ≤ n) (rs : RS x Z T P w h σ st f hp M F V) (h20 : f 20 = .int 0) (hj : P j = some (ln, s, k, 15)) : SO x (T + 1) P w j h σ (af_run n S σ s (some x) (some ln)) (bf_step n st (c32 k)) := by
  have g1 : h s = some (.inr (26, [.int 0])) := (rs.1.2.1.2.2 j _ hj).2.2
  have hc := rs.cell g1
  refine SY.none_ rs.1.2.1.2.1 (rs.t (by omega)) h20 ?_ ?_ rfl rfl
  · rw [r_26 hc]
    unfold af_X27_run
    rw [ob (gI_of hc rfl), if_pos rfl]
  · rw [B_st (by omega) rs.1.2.1 hj (by omega) (by omega)]
    rfl
theorem R_10 (hn : 300000000 ≤ n) (rs : RS x Z T P w h σ st f hp M F V) (h20 : f 20 = .int 0) (hj : P j = some (ln, s, k, 10)) : SO x (T + 1) P w j h σ (af_run n S σ s (some x) (some ln)) (bf_step n st (c32 k)) := by
  obtain ⟨q, g, ds, g1, _⟩ : STM h s 10 (AV st k) (RV st k) := (rs.1.2.1.2.2 j _ hj).2.2
  have hc := rs.cell g1
  refine SY.none_ rs.1.2.1.2.1 (rs.t (by omega)) h20 ?_ ?_ rfl rfl
  · rw [r_21 hc]
    rfl
  · rw [B_st (by omega) rs.1.2.1 hj (by omega) (by omega)]
    rfl
/-! GOTO -/
theorem R_3 (hn : 300000000 ≤ n) (rs : RS x Z T P w h σ st f hp M F V) (h20 : f 20 = .int 0) (hj : P j = some (ln, s, k, 3)) : SO x (T + 1) P w j h σ (af_run n S σ s (some x) (some ln)) (bf_step n st (c32 k)) := by
  obtain ⟨m, g1, g2, g3, g4⟩ : STM h s 3 (AV st k) (RV st k) := (rs.1.2.1.2.2 j _ hj).2.2
  have hc := rs.cell g1
  have hA : af_run n S σ s (some x) (some ln) = af_X1_line n S σ x (c32 m) := by
    rw [r_14 hc]
    unfold af_X15_run
    rw [ob (gI_of hc rfl), ob (show some x = some x from rfl), ob rs.cls, xb_idR]
  have hB : bf_step n st (c32 k) = bf_goTo n st (c32 m) := by
    rw [B_st (by omega) rs.1.2.1 hj (by omega) (by omega), g4]
    exact bb_idI
  rw [hA, hB]
  exact R_goto hn (rs.t (by omega)) h20 g2 g3 rfl rfl
/-! END -/
theorem RS.fld {k : Nat} {v : Value} (rs : RS x Z T P w h σ st f hp M F V) (rc : RC x Z T P w h (va_up f k v) hp st M F) (hk : k < 24 := by decide) (h9 : k ≠ 9 := by decide) : ∃ σ', pF σ x 0 k v = some σ' ∧ σ'.1 = σ.1 ∧ σ'.2.1 = σ.2.1 ∧ RS x Z T P w h σ' st (va_up f k v) hp M F V := by
  obtain ⟨_, ⟨CR, CO, es⟩, vv, h27, hz⟩ := rs
  obtain ⟨e1, e2⟩ := es.fld (k := k) (v := v) hk h9
  exact ⟨_, e1, rfl, rfl, rc, ⟨CR, CO, e2⟩, vv, h27, hz⟩
theorem R_16 (hn : 300000000 ≤ n) (rs : RS x Z T P w h σ st f hp M F V) (h20 : f 20 = .int 0) (hj : P j = some (ln, s, k, 16)) : SO x (T + 1) P w j h σ (af_run n S σ s (some x) (some ln)) (bf_step n st (c32 k)) := by
  have g1 : h s = some (.inr (26, [.int 1])) := (rs.1.2.1.2.2 j _ hj).2.2
  have hc := rs.cell g1
  obtain ⟨σ', e1, e2, e3, rs'⟩ := rs.fld (k := 20) (v := .int 1) rs.1
  refine Or.inl ⟨σ', none, st, -1, Z, h, va_up f 20 (.int 1), hp, M, F, V, ?_, ?_, rs'.t (by omega), hle.rfl_, gr.eq e2 e3, none, rfl, (fun i hi => nomatch hi), Or.inr (Or.inl ⟨rfl, rfl, rfl⟩)⟩
  · rw [r_26 hc]
    unfold af_X27_run
    rw [ob (gI_of hc rfl), if_neg n10, ob (show some x = some x from rfl), ob e1]
  · rw [B_st (by omega) rs.1.2.1 hj (by omega) (by omega)]
    rfl
/-! RESTORE -/
theorem R_11 (hn : 300000000 ≤ n) (rs : RS x Z T P w h σ st f hp M F V) (h20 : f 20 = .int 0) (hj : P j = some (ln, s, k, 11)) : SO x (T + 1) P w j h σ (af_run n S σ s (some x) (some ln)) (bf_step n st (c32 k)) := by
  have g1 : h s = some (.inr (22, [])) := (rs.1.2.1.2.2 j _ hj).2.2
  have hc := rs.cell g1
  obtain ⟨⟨ec, pg, h3, wp, ⟨d1, d2, d3, rd, d4, d5, d6⟩, rest⟩, ⟨CR, CO, es⟩, vv, h27, hz⟩ := id rs
  obtain ⟨e1, e2⟩ := es.fld (k := 18) (v := .int 0)
  have rc' : RC x Z T P w h (va_up f 18 (.int 0)) hp (sI st 19 0) M F := ⟨ec, pg, h3, wp, ⟨d1, d2, d3, 0, by omega, rfl, rfl⟩, rest⟩
  have rs' : RS x Z T P w h _ (sI st 19 0) (va_up f 18 (.int 0)) hp M F V := ⟨rc', ⟨CR, CO, e2⟩, vv, h27, hz⟩
  refine SY.none_ rs'.1.2.1.2.1 (rs'.t (by omega)) h20 ?_ ?_ rfl rfl
  · rw [r_22 hc]
    unfold af_X23_run
    rw [ob (show some x = some x from rfl), ob e1]
  · rw [B_st (by omega) rs.1.2.1 hj (by omega) (by omega)]
    rfl
/-! PRINT -/
theorem MB.of {q R K : Nat} {G : Nat → Nat → UInt64} (b : MB hp q R K G) (hh : ∀ i, i < 8 → hp' (q + i) = hp (q + i)) : MB hp' q R K G := by
  obtain ⟨b1, b2, b3⟩ := b
  refine ⟨(hh 0 (by omega)).trans b1, (hh 1 (by omega)).trans b2, fun i hi => ?_⟩
  rw [Nat.add_assoc, hh (2 + i) (by omega), ← Nat.add_assoc]
  exact b3 i hi
theorem MR.of {m : Nat} {r : Option Nat} (b : MR hp st m r) (hh : ∀ q, r = some q → ∀ i, i < 8 → hp' (q + i) = hp (q + i)) : MR hp' st m r := by
  cases r with
  | none => exact b
  | some q =>
    obtain ⟨R, K, G, b1, b2⟩ := b
    exact ⟨R, K, G, b1.of (hh q rfl), b2⟩
theorem EC.of (ec : EC x f hp h st M F) (h1 : ∀ q e, h q = some e → hp' q = hp q) (h3 : hp' (x + 3) = hp (x + 3)) (h4 : hp' (x + 4) = hp (x + 4)) (hm : ∀ m, m < 3 → ∀ q, M m = some q → ∀ i, i < 8 → hp' (q + i) = hp (q + i)) : EC x f hp' h st M F := by
  obtain ⟨c1, c2, c3, c4, c5, c6, c7⟩ := ec
  exact ⟨c1, fun q e he => (h1 q e he).trans (c2 q e he), c3, h3.trans c4, h4.trans c5, fun m hm2 => ⟨(c6 m hm2).1.of (hm m hm2), (c6 m hm2).2⟩, c7⟩
theorem EC.hx {q0 : Nat} {e : aE} (ec : EC x f hp h st M F) (h1 : x + 7 ≤ q0) (h2 : q0 ≤ x + 9) : EC x f (va_up hp q0 (some e)) h st M F :=
  ec.of (fun q e he => va_ne_ (fun z => by rw [ec.2.2.1 q (by omega) (by omega)] at he; exact nomatch he)) (va_ne_ (by omega)) (va_ne_ (by omega)) (fun m hm q hq i hi => va_ne_ (by have := (ec.2.2.2.2.2.1 m hm).2 q hq; omega))
theorem BK.of {q : Nat} (b : BK x Z h hp q) (hh : ∀ i, i < 8 → hp' (q + i) = hp (q + i)) : BK x Z h hp' q := by
  obtain ⟨b1, b2, b3, R, K, G, b4⟩ := b
  exact ⟨b1, b2, b3, R, K, G, b4.of hh⟩
theorem MX.hx {q0 : Nat} {e : aE} (mx : MX x Z h hp f M) (h2 : q0 ≤ x + 9) : MX x Z h (va_up hp q0 (some e)) f M := by
  obtain ⟨sp, m1, m2, m3, m4⟩ := mx
  exact ⟨sp, m1, fun q hq => (m2 q hq).of (fun i _ => va_ne_ (by have := (m2 q hq).1; omega)), fun m hm q hq => ⟨(m3 m hm q hq).1.of (fun i _ => va_ne_ (by have := (m3 m hm q hq).1.1; omega)), (m3 m hm q hq).2⟩, m4⟩
theorem OT.hx {q0 : Nat} {e : aE} (ot : OT x f hp st) (h1 : x + 3 ≤ q0) : OT x f (va_up hp q0 (some e)) st := by
  obtain ⟨⟨tl, Tc, t1, t2, t3, t4, t5⟩, rest⟩ := ot
  exact ⟨⟨tl, Tc, t1, t2, t3, (va_ne_ (by omega)).trans t4, t5⟩, rest⟩
theorem SUB.hx {q0 : Nat} {e : aE} (g : SUB x P f hp st) (h1 : q0 ≠ x + 7) : SUB x P f (va_up hp q0 (some e)) st := by
  obtain ⟨r, B, t1, t2, t3, t4, t5⟩ := g
  exact ⟨r, B, t1, t2, t3, (va_ne_ (fun z => h1 z.symm)).trans t4, t5⟩
theorem LOP.hx {q0 : Nat} {e : aE} (g : LOP x P h f hp st) (h1 : q0 ≠ x + 8) : LOP x P h f (va_up hp q0 (some e)) st := by
  obtain ⟨r, B, t1, t2, t3, t4, t5⟩ := g
  exact ⟨r, B, t1, t2, t3, (va_ne_ (fun z => h1 z.symm)).trans t4, t5⟩
theorem PRT.hx {q0 : Nat} {e : aE} (g : PRT x T f hp st) (h1 : q0 ≠ x + 9) : PRT x T f (va_up hp q0 (some e)) st := by
  obtain ⟨r, B, t1, t2, t3, t4, t5⟩ := g
  exact ⟨r, B, t1, t2, t3, (va_ne_ (fun z => h1 z.symm)).trans t4, t5⟩
theorem R_1 (hn : 300000000 ≤ n) (hT : T ≤ 300) (rs : RS x Z T P w h σ st f hp M F V) (h20 : f 20 = .int 0) (hj : P j = some (ln, s, k, 1)) : SO x (T + 1) P w j h σ (af_run n S σ s (some x) (some ln)) (bf_step n st (c32 k)) := by
  obtain ⟨e, g1, g2⟩ : STM h s 1 (AV st k) (RV st k) := (rs.1.2.1.2.2 j _ hj).2.2
  have hk : k < 24 := (rs.1.2.1.2.1.1 j _ hj).2.2.1
  have hc := rs.cell g1
  have hA : af_run n S σ s (some x) (some ln) = af_X13_run n S σ s (some x) (some ln) := r_12 hc
  have hB : bf_step n st (c32 k) = (bf_work n st (st.2.1 13 (4 * k + 0))).bind fun q_3 => if (q_3.1.1 27) = 0 then if (40 : Int32) ≤ (q_3.1.1 18) then bf_step_L101 n q_3.1 (c32 k) (c32 1) (AV st k 0) (slk P (nx P j)) else (stD q_3.1 28 (q_3.1.1 18) q_3.2).bind fun st_6 => bf_step_L101 n st_6 (c32 k) (c32 1) (AV st k 0) (slk P (nx P j)) else bf_step_L101 n q_3.1 (c32 k) (c32 1) (AV st k 0) (slk P (nx P j)) := by
    rw [B_st (by omega) rs.1.2.1 hj (by omega) (by omega)]
    unfold bf_step_L55
    rw [if_pos (by decide), ob (ld_ex0 hk)]
  rw [hA, hB]
  unfold af_X13_run
  rw [ob (gR_of (v := some e) hc rfl), ob (show some e = some e from rfl)]
  rcases R_val (n := n) (S := S) hn rs hk (by omega) g2 with ⟨v, σ1, st1, q1, q2, q3, q4, q5, rs1, q6⟩ | ⟨code, σ1, st1, u, q1, q2, q3, q4, rn, q5⟩
  · obtain ⟨⟨ec, pg, h3, wp, dat, sub, lop, ⟨p, G, p1, p2, p3, p4, p5⟩, mx, ot, hz1, hz2⟩, ⟨CR, CO, es⟩, vv, h27, hz⟩ := id rs1
    rw [ox q1, ob (show some x = some x from rfl), ob (rs1.gI p2), ob q5]
    dsimp only
    rw [if_pos h27, p3]
    by_cases g40 : 40 ≤ p
    · have g40' : (40 : Int32) ≤ c32 p := (c_le (a := 40) (by omega) (by omega)).mpr g40
      rw [if_pos g40', if_pos g40']
      obtain ⟨e1, e2⟩ := es.fld (k := 17) (v := .int (c32 (p + 1)))
      have rc' : RC x Z (T + 1) P w h (va_up f 17 (.int (c32 (p + 1)))) hp (sI st1 18 (c32 (p + 1))) M F := ⟨ec, pg, h3, wp, dat, sub, lop, ⟨p + 1, G, by omega, rfl, rfl, p4, fun i hi hi2 => p5 i (by omega) hi2⟩, mx, ot, hz1, hz2⟩
      have rs' : RS x Z (T + 1) P w h _ (sI st1 18 (c32 (p + 1))) (va_up f 17 (.int (c32 (p + 1)))) hp M F V := ⟨rc', ⟨CR, CO, e2⟩, vv, h27, hz⟩
      refine SY.none_ rs'.1.2.1.2.1 rs' h20 ?_ ?_ q3 q4
      · unfold af_X13_run_L30
        rw [ob (show some x = some x from rfl), ob (rs1.gI p2)]
        show (pF σ1 x 0 17 (.int (c32 p + c32 1))).bind _ = _
        rw [c_add, ob e1]
      · unfold bf_step_L101
        rw [if_pos h27, p3]
        show (ptI st1 18 (c32 p + c32 1)).bind _ = _
        rw [c_add]
        rfl
    · have g40' : ¬ (40 : Int32) ≤ c32 p := fun z => g40 ((c_le (a := 40) (by omega) (by omega)).mp z)
      have hx9 : σ1.2.2 (x + 9) = some (.inl (2, 40, dA G)) := (rs1.hp_ (by omega) (by omega) (by omega) (by omega)).trans p4
      rw [if_neg g40', if_neg g40', ob (rs1.gR (v := some (x + 9)) ec.1.2.2.2.2.2.2.2.2), ob (rs1.gI p2), ob (show some (x + 9) = some (x + 9) from rfl), ob (wD_of hx9 (by omega) (by omega)), ob (st_D (show p < 40 by omega))]
      have es2 := es.cw (q := x + 9) (e := .inl (2, 40, dA (vf_upd G p v))) (by omega) (by omega) (by omega) (by omega)
      obtain ⟨e1, e2⟩ := es2.fld (k := 17) (v := .int (c32 (p + 1)))
      have rc' : RC x Z (T + 1) P w h (va_up f 17 (.int (c32 (p + 1)))) (va_up hp (x + 9) (some (.inl (2, 40, dA (vf_upd G p v))))) (sI (sD st1 28 p v) 18 (c32 (p + 1))) M F := ⟨ec.hx (by omega) (by omega), pg, h3, wp, dat, sub.hx (by omega), lop.hx (by omega), ⟨p + 1, vf_upd G p v, by omega, rfl, rfl, va_at_, fun i hi hi2 => by
        show vf_upd G p v i = (sD st1 28 p v).2.2 28 i ∧ okd (vf_upd G p v i)
        rw [sD_at, if_pos rfl]
        by_cases gi : i = p
        · rw [gi, vf_at, if_pos rfl]; exact ⟨rfl, q2⟩
        · rw [vf_ne gi, if_neg gi]; exact p5 i (by omega) hi2⟩, mx.hx (by omega), ot.hx (by omega), hz1, hz2⟩
      have rs' : RS x Z (T + 1) P w h _ (sI (sD st1 28 p v) 18 (c32 (p + 1))) (va_up f 17 (.int (c32 (p + 1)))) (va_up hp (x + 9) (some (.inl (2, 40, dA (vf_upd G p v))))) M F V := ⟨rc', ⟨CR, CO, e2⟩, vv, h27, hz⟩
      refine SY.none_ rs'.1.2.1.2.1 rs' h20 ?_ ?_ q3 q4
      · unfold af_X13_run_L30
        have gp : gI (mv σ1 (x + 9) (.inl (2, 40, dA (vf_upd G p v)))) x 0 17 = some (c32 p) := m_I es2.1 ((va_ne_ (by decide)).trans p2)
        rw [ob (show some x = some x from rfl), ob gp]
        show (pF _ x 0 17 (.int (c32 p + c32 1))).bind _ = _
        rw [c_add, ob e1]
      · unfold bf_step_L101
        have e18 : (sD st1 28 p v).1 18 = c32 p := p3
        rw [if_pos (show (sD st1 28 p v).1 27 = 0 from h27), e18]
        show (ptI (sD st1 28 p v) 18 (c32 p + c32 1)).bind _ = _
        rw [c_add]
        rfl
  · rw [oxr q1, ob q4]
    dsimp only
    have h27 : ¬ st1.1 27 = 0 := by rw [rn.2.2.2.2.1]; exact n_c (b := 0) (by have := rn.1; omega) (by omega) (by omega)
    rw [if_neg h27]
    refine SN.of (k' := slk P (nx P j)) (rn.t (by omega)) rfl ?_ (gr.ft rfl rfl q2 q3)
    · unfold bf_step_L101
      rw [if_neg h27]
      rfl
end RUN1
