/-! THE PURE LAW: powers, terms, expressions -/
section EXPR2
variable {C : pC} {n op : Nat} {rx : aS → Nat → Option (aS × (Option Nat ⊕ Nat))}
theorem rk_3 {w : Nat} (h1 : 3 ≤ w) (h2 : w ≤ 7) (h : rk w = 3) : w = 7 := by
  rw [rk_op h1 h2] at h
  split at h
  · assumption
  · split at h <;> omega
theorem rk_2 {w : Nat} (h1 : 3 ≤ w) (h2 : w ≤ 7) (h : rk w = 2) : w = 5 ∨ w = 6 := by
  rw [rk_op h1 h2] at h
  split at h
  · omega
  · split at h
    · assumption
    · omega
theorem rk_1 {w : Nat} (h1 : 3 ≤ w) (h2 : w ≤ 7) (h : rk w = 1) : w = 3 ∨ w = 4 := by
  rw [rk_op h1 h2] at h
  split at h
  · omega
  · split at h <;> omega
theorem LV3 (ok : pOk C) (hn : 1000 ≤ n) (h4 : LV C n 4 op (fun σ => af_X3_part n C.S rx σ C.P)) : LV C n 3 op (fun σ => af_X3_power n C.S rx σ C.P) := by
  have hN := ok.1
  refine LVs (zsub := fun σ => af_X3_part n C.S rx σ C.P) (Z := fun f σ e => af_X3_power_S5 n C.S rx f σ C.P (some e)) (cf := 1) ok hn (by omega) (by omega) h4 (by omega) ?_ ?_ ?_ ?_
  · intro f σ e p go hA hp hnop
    show af_X3_power_S5 n C.S rx (f + 1 + 1) σ C.P (some e) = _
    rw [af_X3_power_S5, af_X3_power_B5, ob (A_cls hA), oc (A_takes_f (c := 94) ok hA (by omega) (by omega) (hnop.1 (by omega))), if_pos rfl]
  · intro f σ e p go w hA hp w1 w2 w3 w4
    have hw7 := rk_3 w1 w2 w3
    subst hw7
    show af_X3_power_S5 n C.S rx (f + 1) σ C.P (some e) = _
    have hA1 : PA C (nw (ps C σ (p + 1) op go) (.inr (9, [.int 0, .null, .null])) 3) (p + 1) op go := hA.ps.nwc
    rw [af_X3_power_S5, af_X3_power_B5, ob (A_cls hA), oc (A_takes_t (c := 94) ok hA (by omega) w4 (by omega)), if_neg n10, ob (nO_eq _ _ _ _), ob (A_cls hA1)]
    rfl
  · intro σ p go σ1 e hA h
    show af_X3_power n C.S rx σ C.P = _
    unfold af_X3_power
    rw [ob (A_cls hA), ox h]
  · intro σ p go σ1 hA h
    show af_X3_power n C.S rx σ C.P = _
    unfold af_X3_power
    rw [ob (A_cls hA), oxr h]
theorem LV2 (ok : pOk C) (hn : 1000 ≤ n) (h3 : LV C n 3 op (fun σ => af_X3_power n C.S rx σ C.P)) : LV C n 2 op (fun σ => af_X3_term n C.S rx σ C.P) := by
  have hN := ok.1
  refine LVs (zsub := fun σ => af_X3_power n C.S rx σ C.P) (Z := fun f σ e => af_X3_term_S5 n C.S rx f 0 σ C.P (some e)) (cf := 2) ok hn (by omega) (by omega) h3 (by omega) ?_ ?_ ?_ ?_
  · intro f σ e p go hA hp hnop
    have hc := ch_lt ok p
    have h2 := hnop.2.1 (by omega)
    show af_X3_term_S5 n C.S rx (f + 1 + 1) 0 σ C.P (some e) = _
    rw [af_X3_term_S5, if_pos rfl, af_X3_term_B5, ob (A_cls hA), oc (A_here ok hA (by omega)), if_neg (by exact n_c (b := 42) (by omega) (by omega) h2.1), ob (A_cls hA), oc (A_here ok hA (by omega)), if_neg (by exact n_c (b := 47) (by omega) (by omega) h2.2)]
  · intro f σ e p go w hA hp w1 w2 w3 w4
    have hA1 : PA C (nw (ps C σ (p + 1) op go) (.inr (9, [.int 0, .null, .null])) 3) (p + 1) op go := hA.ps.nwc
    have e1 : af_X3_term_S5 n C.S rx (f + 1) 1 σ C.P (some e) = xb (af_X3_power n C.S rx (nw (ps C σ (p + 1) op go) (.inr (9, [.int 0, .null, .null])) 3) C.P) fun σ3 r2 => cb (af_X10_init n C.S σ3 σ.1 (c32 (osg w)) (some e) r2) fun σ4 _ => af_X3_term_S5 n C.S rx f 0 σ4 C.P (some σ.1) := by
      rw [af_X3_term_S5, if_neg (by decide), af_X3_term_B23, ob (A_cls hA), oc (A_here ok hA (by omega)), ob (A_at hA)]
      show (pF σ C.P 2 2 (.int (c32 p + c32 1))).bind _ = _
      rw [c_add, ob (A_setAt hA), ob (nO_eq _ _ _ _), ob (A_cls hA1), w4]
      rfl
    show af_X3_term_S5 n C.S rx (f + 1 + 1) 0 σ C.P (some e) = _
    rw [af_X3_term_S5, if_pos rfl, af_X3_term_B5, ob (A_cls hA), oc (A_here ok hA (by omega))]
    rcases rk_2 w1 w2 w3 with h | h
    · rw [if_pos (by rw [w4, h]; rfl)]
      exact e1
    · rw [if_neg (by rw [w4, h]; decide), ob (A_cls hA), oc (A_here ok hA (by omega)), if_pos (by rw [w4, h]; rfl)]
      exact e1
  · intro σ p go σ1 e hA h
    show af_X3_term n C.S rx σ C.P = _
    unfold af_X3_term
    rw [ob (A_cls hA), ox h]
  · intro σ p go σ1 hA h
    show af_X3_term n C.S rx σ C.P = _
    unfold af_X3_term
    rw [ob (A_cls hA), oxr h]
theorem Z1_stop (ok : pOk C) (f : Nat) (σ : aS) (e p go : Nat) (hA : PA C σ p op go) (hp : p ≤ C.N) (hnop : nop 1 (ch C p)) : af_X3_expression_S27 n C.S rx (f + 2) 0 σ C.P (some e) = some (σ, .inl (some e)) := by
  have hN := ok.1
  have hc := ch_lt ok p
  have h2 := hnop.2.2 (by omega)
  show af_X3_expression_S27 n C.S rx (f + 1 + 1) 0 σ C.P (some e) = _
  rw [af_X3_expression_S27, if_pos rfl, af_X3_expression_B27, ob (A_cls hA), oc (A_here ok hA (by omega)), if_neg (by exact n_c (b := 43) (by omega) (by omega) h2.1), ob (A_cls hA), oc (A_here ok hA (by omega)), if_neg (by exact n_c (b := 45) (by omega) (by omega) h2.2)]
theorem Z1_step (ok : pOk C) (f : Nat) (σ : aS) (e p go w : Nat) (hA : PA C σ p op go) (hp : p ≤ C.N) (w1 : 3 ≤ w) (w2 : w ≤ 7) (w3 : rk w = 1) (w4 : ch C p = osg w) : af_X3_expression_S27 n C.S rx (f + 2) 0 σ C.P (some e) = xb (af_X3_term n C.S rx (nw (ps C σ (p + 1) op go) (.inr (9, [.int 0, .null, .null])) 3) C.P) fun σ3 r2 => cb (af_X10_init n C.S σ3 σ.1 (c32 (osg w)) (some e) r2) fun σ4 _ => af_X3_expression_S27 n C.S rx f 0 σ4 C.P (some σ.1) := by
  have hN := ok.1
  have hA1 : PA C (nw (ps C σ (p + 1) op go) (.inr (9, [.int 0, .null, .null])) 3) (p + 1) op go := hA.ps.nwc
  have e1 : af_X3_expression_S27 n C.S rx (f + 1) 1 σ C.P (some e) = xb (af_X3_term n C.S rx (nw (ps C σ (p + 1) op go) (.inr (9, [.int 0, .null, .null])) 3) C.P) fun σ3 r2 => cb (af_X10_init n C.S σ3 σ.1 (c32 (osg w)) (some e) r2) fun σ4 _ => af_X3_expression_S27 n C.S rx f 0 σ4 C.P (some σ.1) := by
    rw [af_X3_expression_S27, if_neg (by decide), af_X3_expression_B45, ob (A_cls hA), oc (A_here ok hA (by omega)), ob (A_at hA)]
    show (pF σ C.P 2 2 (.int (c32 p + c32 1))).bind _ = _
    rw [c_add, ob (A_setAt hA), ob (nO_eq _ _ _ _), ob (A_cls hA1), w4]
    rfl
  show af_X3_expression_S27 n C.S rx (f + 1 + 1) 0 σ C.P (some e) = _
  rw [af_X3_expression_S27, if_pos rfl, af_X3_expression_B27, ob (A_cls hA), oc (A_here ok hA (by omega))]
  rcases rk_1 w1 w2 w3 with h | h
  · rw [if_pos (by rw [w4, h]; rfl)]
    exact e1
  · rw [if_neg (by rw [w4, h]; decide), ob (A_cls hA), oc (A_here ok hA (by omega)), if_pos (by rw [w4, h]; rfl)]
    exact e1
theorem EX1 (ok : pOk C) (hn : 1000 ≤ n) (h2 : LV C n 2 op (fun σ => af_X3_term n C.S rx σ C.P)) {x1 x2 : Int32} {ins a0 go : Nat} {st0 st : bS} {ws cs : List Nat} {σ : aS} (E : Ent C x1 ins st0 ws σ a0 op go st cs) (hst : stops 1 ws) :
    Out 1 C n x1 x2 ins st0 ws σ (af_X3_expression n C.S rx σ C.P) a0 op go st cs (fun k => LSx n k st x1 x2 ws.length ins 1 1) := by
  have hN := ok.1
  have E' := E
  obtain ⟨hA, hB, hp, ho6, hx, hgo, hi', hmk, hb, hb2⟩ := E'
  have hcl := ch_lt ok a0
  by_cases h45 : ch C a0 = 45
  · have hin := ch_in (C := C) (i := a0) (by omega)
    obtain ⟨st1, hz1, hBL1⟩ := L_neg (n := n) (ins := ins) (x1 := x1) (x2 := x2) ok hB h45 hin hb2
    have hA1 : PA C (ps C σ (a0 + 1) op go) (a0 + 1) op go := hA.ps
    unfold af_X3_expression
    rw [ob (A_cls hA), oc (A_takes_t (c := 45) ok hA (by omega) h45 (by omega)), ob (A_cls hA1)]
    have hmk1 : marks (8 :: ws) = ins := by
      show (if 100 ≤ 8 then 1 else 0) + marks ws = _
      rw [if_neg (by omega)]
      omega
    rcases h2 x1 x2 ins st0 (8 :: ws) _ (a0 + 1) go st1 cs 0 ⟨hA1, hBL1, by omega, ho6, hx, hgo, hi', hmk1, by rw [List.length_cons]; omega, by rw [List.length_cons]; omega⟩ (Or.inr (by decide)) (Or.inl rfl) with ⟨at1, l, q1, q2, ⟨σ1, e, e1, hA2, hx2, t1, t2, hex⟩, hnop, j1, st2, c, o, hl, ho, hz, hBL, hbb, hbb2, hj1⟩ | ⟨at1, q1, q2, ⟨σ1, op1, go1, e1, hA2, hx2, t1, t2⟩, j1, st2, op1', m1, bad1, hz, hj1, f1, f2, f3, f4, f5⟩
    · have t1 : σ1.1 ≤ σ.1 + (at1 - (a0 + 1)) := t1
      have t2 : σ1.2.1 ≤ σ.2.1 + 3 * (at1 - (a0 + 1)) := t2
      rw [ox e1, if_neg n10, ob (nO_eq _ _ _ _)]
      have hcell : (nw σ1 (.inr (6, [.int 0, .null])) 2).2.2 σ1.1 = some (.inr (6, [.int 0, .null])) := nw_at _ _ _
      rw [oc (show af_X7_init n C.S (nw σ1 (.inr (6, [.int 0, .null])) 2) σ1.1 45 (some e) = some (mv (nw σ1 (.inr (6, [.int 0, .null])) 2) σ1.1 (.inr (6, [.int (c32 45), va_rf (some e)])), ()) from i_X7 hcell (cz_of (a := 45) (by omega)))]
      have hs01 : σ.1 ≤ σ1.1 := hx2.1
      have hPlt := hA.2.2.2.1
      have hXlt := hA.2.2.2.2.1
      have hWlt := hA.2.2.2.2.2
      have hA3 : PA C (mv (nw σ1 (.inr (6, [.int 0, .null])) 2) σ1.1 (.inr (6, [.int (c32 45), va_rf (some e)]))) at1 op go := PA.mvq hA2.nwc (by omega) (by omega) (by omega)
      have hx3 : Ext C.P σ1 (mv (nw σ1 (.inr (6, [.int 0, .null])) 2) σ1.1 (.inr (6, [.int (c32 45), va_rf (some e)]))) := Ext.nwc.new (Nat.le_refl _)
      have hx03 : Ext C.P σ (mv (nw σ1 (.inr (6, [.int 0, .null])) 2) σ1.1 (.inr (6, [.int (c32 45), va_rf (some e)]))) := (Ext.mvP.trans hx2).trans hx3
      have hex3 : ex (at1 - a0) (hi σ.1 (mv (nw σ1 (.inr (6, [.int 0, .null])) 2) σ1.1 (.inr (6, [.int (c32 45), va_rf (some e)])))) σ1.1 (l ++ [8]) := by
        refine ex.up (d := (at1 - (a0 + 1)) + 1) ?_ (by omega)
        exact Or.inr (Or.inr (Or.inr (Or.inr (Or.inl ⟨8, e, l, hi_at (mv_at _ _ _) hs01 (by show σ1.1 < σ1.1 + 1; omega), by omega, by omega, ex.map (hi_le hx3 hPlt (Nat.le_refl _)) _ _ _ hex, rfl⟩))))
      have hst2 : o ++ 8 :: ws = (o ++ [8]) ++ ws := by simp
      rw [hst2] at hBL hbb hbb2 hz
      rcases LOOP (zsub := fun σ => af_X3_term n C.S rx σ C.P) (Z := fun f σ e => af_X3_expression_S27 n C.S rx f 0 σ C.P (some e)) (cf := 2) (x2 := x2) (cs := cs) (a0 := a0) (σ0 := σ) (st0 := st0) ok hn (by omega) (by omega) h2 (by omega) (fun f σ e p go hA hp hnop => Z1_stop ok f σ e p go hA hp hnop) (fun f σ e p go w hA hp w1 w2 w3 w4 => Z1_step ok f σ e p go w hA hp w1 w2 w3 w4) hPlt hXlt hWlt ho6 hx hgo hi' hmk hst (C.N - at1) _ σ1.1 at1 (l ++ [8]) st2 c (o ++ [8]) n (Nat.le_refl _) hA3 hx03 (by omega) q2 (by show σ1.1 + 1 ≤ _; omega) (by show σ1.2.1 + 2 ≤ _; omega) hex3 hnop (by rw [← hl]; simp) (fun v hv => by
          rcases List.mem_append.mp hv with hv | hv
          · exact ⟨(ho v hv).1, by have := (ho v hv).2; omega⟩
          · rcases List.mem_cons.mp hv with rfl | hv
            · exact ⟨by omega, by decide⟩
            · cases hv) hBL hbb hbb2 (by omega) with ⟨at2, l3, p1, p2, hok, hno, j3, st3, c3, o3, g1, g2, g3, g4, g5, g6, g7⟩ | ⟨at2, p1, p2, hno, j3, st3, op3, m3, bad3, g1, g2, g3⟩
      · refine Or.inl ⟨at2, l3, by omega, p2, hok, hno, j3 + j1 + 1, st3, c3, o3, g1, g2, fun k => ?_, g4, g5, g6, by omega⟩
        show LSx n (k + (j3 + j1 + 1)) st x1 x2 ws.length ins 1 1 = _
        rw [show k + (j3 + j1 + 1) = (k + j3 + j1) + 1 by omega, hz1]
        exact (hz (k + j3)).trans (g3 k)
      · refine Or.inr ⟨at2, by omega, p2, hno, j3 + j1 + 1, st3, op3, m3, bad3, fun k => ?_, by omega, g3⟩
        show LSx n (k + (j3 + j1 + 1)) st x1 x2 ws.length ins 1 1 = _
        rw [show k + (j3 + j1 + 1) = (k + j3 + j1) + 1 by omega, hz1]
        exact (hz (k + j3)).trans (g1 k)
    · have t1 : σ1.1 ≤ σ.1 + (at1 - (a0 + 1)) + 2 := t1
      have t2 : σ1.2.1 ≤ σ.2.1 + 3 * (at1 - (a0 + 1)) + 9 := t2
      rw [oxr e1]
      refine Or.inr ⟨at1, by omega, q2, ⟨_, op1, go1, rfl, hA2, Ext.mvP.trans hx2, by omega, by omega⟩, j1 + 1, st2, op1', m1, bad1, fun k => ?_, by omega, f1, f2, f3, f4, f5⟩
      show LSx n (k + (j1 + 1)) st x1 x2 ws.length ins 1 1 = _
      rw [← Nat.add_assoc, hz1]
      exact hz k
  · have key : LV C n 1 op (fun σ => xb (af_X3_term n C.S rx σ C.P) fun σ4 r => af_X3_expression_S27 n C.S rx n 0 σ4 C.P r) := by
      refine LVs (zsub := fun σ => af_X3_term n C.S rx σ C.P) (Z := fun f σ e => af_X3_expression_S27 n C.S rx f 0 σ C.P (some e)) (cf := 2) ok hn (by omega) (by omega) h2 (by omega) (fun f σ e p go hA hp hnop => Z1_stop ok f σ e p go hA hp hnop) (fun f σ e p go w hA hp w1 w2 w3 w4 => Z1_step ok f σ e p go w hA hp w1 w2 w3 w4) (fun σ p go σ1 e hA h => ox h) (fun σ p go σ1 hA h => oxr h)
    have e0 : af_X3_expression n C.S rx σ C.P = xb (af_X3_term n C.S rx σ C.P) fun σ4 r => af_X3_expression_S27 n C.S rx n 0 σ4 C.P r := by
      unfold af_X3_expression
      rw [ob (A_cls hA), oc (A_takes_f (c := 45) ok hA (by omega) (by omega) h45), ob (A_cls hA)]
      rfl
    rw [e0]
    exact key x1 x2 ins st0 ws σ a0 go st cs 1 E hst (Or.inr ⟨rfl, h45⟩)
theorem EXs.up {lo lo' : Nat} (h : EXs C n rx lo) (hl : lo ≤ lo') : EXs C n rx lo' :=
  fun x1 x2 ins st0 ws σ a0 op go st cs ho E hs => h x1 x2 ins st0 ws σ a0 op go st cs (by omega) E hs
theorem EXall (ok : pOk C) (hS : sInj C.S) (hn : 1000 ≤ n) : ∀ d, EXs C n (af_expr n C.S d) (7 - d) := by
  intro d
  induction d with
  | zero =>
    intro x1 x2 ins st0 ws σ a0 op go st cs ho E hs
    have := E.2.2.2.1
    omega
  | succ d ih =>
    intro x1 x2 ins st0 ws σ a0 op go st cs ho E hs
    show Out 1 C n x1 x2 ins st0 ws σ (af_X3_expression n C.S (af_expr n C.S d) σ C.P) a0 op go st cs _
    exact EX1 ok hn (LV2 ok hn (LV3 ok hn (LV4 ok hS hn (fun _ => EXs.up ih (by omega))))) E hs
end EXPR2
