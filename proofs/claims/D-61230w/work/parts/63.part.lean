/-! THE PURE LAW: a part of an expression is read alike -/
def marks : List Nat → Nat
  | [] => 0
  | w :: ws => (if 100 ≤ w then 1 else 0) + marks ws
theorem marks_app : ∀ (o ws : List Nat), (∀ w ∈ o, w < 100) → marks (o ++ ws) = marks ws := by
  intro o
  induction o with
  | nil => intro ws _; rfl
  | cons w o ih =>
    intro ws h
    show (if 100 ≤ w then 1 else 0) + marks (o ++ ws) = _
    rw [if_neg (by have := h w (List.mem_cons_self ..); omega), ih ws (fun v hv => h v (List.mem_cons_of_mem _ hv)), Nat.zero_add]
theorem marks_0 : ∀ (ws : List Nat), marks ws = 0 → ∀ w ∈ ws, w < 100 := by
  intro ws
  induction ws with
  | nil => intro _ w h; cases h
  | cons v ws ih =>
    intro h w hw
    have h : (if 100 ≤ v then 1 else 0) + marks ws = 0 := h
    by_cases g : 100 ≤ v
    · rw [if_pos g] at h; omega
    · rw [if_neg g] at h
      rcases List.mem_cons.mp hw with rfl | hw
      · omega
      · exact ih (by omega) w hw
theorem marks_s : ∀ (ws : List Nat) (i : Nat), marks ws = i + 1 → ∃ o m r, ws = o ++ m :: r ∧ (∀ w ∈ o, w < 100 ∧ 1 ≤ rk w) ∧ 100 ≤ m := by
  intro ws
  induction ws with
  | nil => intro i h; cases h
  | cons v ws ih =>
    intro i h
    have h : (if 100 ≤ v then 1 else 0) + marks ws = i + 1 := h
    by_cases g : 100 ≤ v
    · exact ⟨[], v, ws, rfl, (fun _ h => nomatch h), g⟩
    · rw [if_neg g] at h
      obtain ⟨o, m, r, h1, h2, h3⟩ := ih i (by omega)
      refine ⟨v :: o, m, r, by rw [h1]; rfl, fun w hw => ?_, h3⟩
      rcases List.mem_cons.mp hw with rfl | hw
      · exact ⟨by omega, by unfold rk; rw [if_neg g]; split <;> (try split) <;> omega⟩
      · exact h2 w hw
theorem bm_mk2 {st : bS} {cs : List Nat} {a b : Nat} (h : BM st cs) : BM (mk (mk st cs.length (c32 a)) (cs.length + 1) (c32 b)) (cs ++ [a, b]) := by
  have h2 := BM.mk (BM.mk (w := a) h) (w := b)
  rw [show (cs ++ [a]).length = cs.length + 1 from List.length_append, List.append_assoc] at h2
  exact h2
theorem bm_mk3 {st : bS} {cs : List Nat} {a b d : Nat} (h : BM st cs) : BM (mk (mk (mk st cs.length (c32 a)) (cs.length + 1) (c32 b)) (cs.length + 2) (c32 d)) (cs ++ [a, b, d]) := by
  have h2 := BM.mk (bm_mk2 (a := a) (b := b) h) (w := d)
  rw [show (cs ++ [a, b]).length = cs.length + 2 from List.length_append, List.append_assoc] at h2
  exact h2
/-- both stand at the same place -/
def Ent (C : pC) (x1 : Int32) (ins : Nat) (st0 : bS) (ws : List Nat) (σ : aS) (a0 op go : Nat) (st : bS) (cs : List Nat) : Prop :=
  PA C σ a0 op go ∧ BL C st0 st a0 op cs ws ∧ a0 ≤ C.N ∧ op ≤ 6 ∧ x1 = c32 go ∧ (go = 0 ∨ go = 1 ∧ op = ins) ∧ ins ≤ op ∧ marks ws = ins ∧ cs.length + ws.length ≤ 2 * a0 ∧ ws.length ≤ a0
/-- what is known of the expressions inside brackets -/
def EXs (C : pC) (n : Nat) (rx : aS → Nat → Option (aS × (Option Nat ⊕ Nat))) (lo : Nat) : Prop :=
  ∀ (x1 x2 : Int32) (ins : Nat) (st0 : bS) (ws : List Nat) (σ : aS) (a0 op go : Nat) (st : bS) (cs : List Nat), lo ≤ op → Ent C x1 ins st0 ws σ a0 op go st cs → stops 1 ws → Out 1 C n x1 x2 ins st0 ws σ (rx σ C.P) a0 op go st cs (fun k => LSx n k st x1 x2 ws.length ins 1 1)
section PART
variable {C : pC} {st st0 : bS} {n ins a0 op go : Nat} {x1 x2 : Int32} {cs ws : List Nat} {σ : aS} {rx : aS → Nat → Option (aS × (Option Nat ⊕ Nat))}
/-- a further digit: the machine refuses it at once, the model behind the expression or at the bracket -/
theorem F_dig (ok : pOk C) (hn : 1000 ≤ n) {at_ : Nat} (h : BL C st0 st at_ op cs ws) (hm : marks ws = ins) (hd : dig (ch C at_)) (hp : at_ ≤ C.N) (ho : op ≤ 6) (hi : ins ≤ op) (hb : cs.length + ws.length ≤ 2 * at_ + 1) (hb2 : ws.length ≤ at_) :
    ∃ j st' m bad, (∀ k, LSx n (k + j) st x1 x2 ws.length ins 0 0 = some (st', x2)) ∧ j ≤ 2 ∧ BP C st' at_ op bad ∧ (bad = 1 ∨ bad = 0 ∧ dig (ch C at_)) ∧ BE st0 st' ∧ st'.1 6 = c32 m ∧ m ≤ 2 * at_ + 10 := by
  have hN := ok.1
  have hnop : nop 1 (ch C at_) := by unfold nop; unfold dig at hd; omega
  cases ins with
  | zero =>
    obtain ⟨st', m', e, h1, h2, h3, h4, -⟩ := L_end (x1 := x1) (x2 := x2) ok hn h hnop (by omega) hb (by omega)
    exact ⟨1, st', m', 0, e, by omega, h1, Or.inr ⟨rfl, hd⟩, h2, h3, by omega⟩
  | succ i =>
    obtain ⟨o, m, r, rfl, ho2, hm2⟩ := marks_s ws i hm
    obtain ⟨st', m', e, h1, h2, h3, h4⟩ := L_wrong (ins := i) (x1 := x1) (x2 := x2) ok hn h ho2 hm2 hnop ⟨fun z => by unfold dig at hd; omega, fun z => by unfold dig at hd; omega⟩ (by omega) (by omega) hb (by omega)
    exact ⟨2, st', m', 1, e, by omega, h1, Or.inl rfl, h2, h3, by omega⟩
theorem P_num (ok : pOk C) (hn : 1000 ≤ n) {f : Int32} (E : Ent C x1 ins st0 ws σ a0 op go st cs) (hf : f = 0 ∨ f = 1 ∧ ch C a0 ≠ 45) (hd : dig (ch C a0)) :
    Out 4 C n x1 x2 ins st0 ws σ (af_X3_part n C.S rx σ C.P) a0 op go st cs (fun k => LSx n k st x1 x2 ws.length ins 1 f) := by
  have hN := ok.1
  obtain ⟨hA, hB, hp, ho, hx, hgo, hi, hmk, hb, hb2⟩ := E
  have hB' := hB
  obtain ⟨hP, hM, hW, hE, hw⟩ := hB
  obtain ⟨u1, u2, u3, u4, u5⟩ := nuS_le (C := C) hp
  rw [pa_num ok hA (by omega) hd]
  have hA1 : PA C (nw σ (.inr (5, [.double 0])) 1) a0 op go := hA.nwc
  have hstep : ∀ k, LSx n (k + 3) st x1 x2 ws.length ins 1 f = _ := fun k => L_part (x1 := x1) (x2 := x2) (nw := ws.length) ok hP (by omega) hf (by omega) k
  by_cases hg : (nuS C a0).1 = true
  · have u5 := u5 hg
    -- the model reads it
    have e1 := B_numeral_t (n := n) (m := cs.length) ok hP hp (by omega) hM.1 (by omega) hg
    have hBL : BL C st0 (mk (mk (mk (sI st 4 (c32 (nuS C a0).2.2.2)) cs.length (c32 0)) (cs.length + 1) (c32 (nuS C a0).2.1)) (cs.length + 2) (c32 (nuS C a0).2.2.1)) (nuS C a0).2.2.2 op (cs ++ [0, (nuS C a0).2.1, (nuS C a0).2.2.1]) ws := by
      have hM0 : BM (sI st 4 (c32 (nuS C a0).2.2.2)) cs := hM
      have hM3 := bm_mk3 (a := 0) (b := (nuS C a0).2.1) (d := (nuS C a0).2.2.1) hM0
      exact ⟨hP.p.mk.mk.mk, hM3, BW.mk (BW.mk (BW.mk (BW.of (st := st) rfl hW))), hE.trans (BE.i4.trans (BE.mk.trans (BE.mk.trans BE.mk))), hw⟩
    have hlen : (cs ++ [0, (nuS C a0).2.1, (nuS C a0).2.2.1]).length = cs.length + 3 := List.length_append
    have hz : ∀ k, LSx n (k + 3) st x1 x2 ws.length ins 1 f = LSx n k (mk (mk (mk (sI st 4 (c32 (nuS C a0).2.2.2)) cs.length (c32 0)) (cs.length + 1) (c32 (nuS C a0).2.1)) (cs.length + 2) (c32 (nuS C a0).2.2.1)) x1 x2 ws.length ins 0 0 := by
      intro k
      rw [hstep, pm_num ok hP (by omega) ho hd, e1]
      rfl
    by_cases hdd : dig (ch C (nuS C a0).2.2.2)
    · refine Or.inr ⟨(nuS C a0).2.2.2, u1, u2, ?_, ?_⟩
      · rw [oxr (A_numeral_f ok hA1 hp (by omega) (Or.inr hdd))]
        exact ⟨_, op, go, rfl, hA1.ps.th, (Ext.nwc.trans Ext.mvP).th, by show σ.1 + 1 + 1 ≤ _; omega, by show σ.2.1 + 1 + 6 ≤ _; omega⟩
      · obtain ⟨j, st', m, bad, e, h1, h2, h3, h4, h5, h6⟩ := F_dig (x1 := x1) (x2 := x2) ok hn hBL hmk hdd u2 ho hi (by omega) (by omega)
        exact ⟨j + 3, st', op, m, bad, fun k => by show LSx n (k + (j + 3)) st x1 x2 ws.length ins 1 f = _; rw [← Nat.add_assoc, hz, e], by omega, h2, h3, h4, h5, h6⟩
    · refine Or.inl ⟨(nuS C a0).2.2.2, [0, (nuS C a0).2.1, (nuS C a0).2.2.1], u5, u2, ?_, ⟨fun z => by omega, fun z => by omega, fun z => by omega⟩, 3, _, [0, (nuS C a0).2.1, (nuS C a0).2.2.1], [], List.append_nil _, (fun _ h => nomatch h), hz, hBL, by rw [hlen, List.nil_append]; omega, by rw [List.nil_append]; omega, by omega⟩
      rw [ox (A_numeral_t ok hA1 hp (by omega) hg hdd)]
      have hcell : (ps C (nw σ (.inr (5, [.double 0])) 1) (nuS C a0).2.2.2 op go).2.2 σ.1 = some (.inr (5, [.double 0])) := by
        rw [mv_ne _ _ (by have := hA.2.2.2.1; omega)]
        exact nw_at _ _ _
      rw [oc (i_X6 hcell)]
      refine ⟨_, _, rfl, hA1.ps.mvq (by have := hA.2.2.2.1; omega) (by have := hA.2.2.2.2.1; omega) (by have := hA.2.2.2.2.2; omega), (Ext.nwc.trans Ext.mvP).new (Nat.le_refl _), by show σ.1 + 1 ≤ _; omega, by show σ.2.1 + 1 ≤ _; omega, ?_⟩
      refine ex.up (d := 1) ?_ (by omega)
      exact Or.inl ⟨_, _, hi_at (mv_at _ _ _) (Nat.le_refl _) (by show σ.1 < σ.1 + 1; omega), u3, by omega, rfl⟩
  · have hg : (nuS C a0).1 = false := by
      cases h : (nuS C a0).1 with
      | true => exact absurd h hg
      | false => rfl
    refine Or.inr ⟨(nuS C a0).2.2.2, u1, u2, ?_, ?_⟩
    · rw [oxr (A_numeral_f ok hA1 hp (by omega) (Or.inl hg))]
      exact ⟨_, op, go, rfl, hA1.ps.th, (Ext.nwc.trans Ext.mvP).th, by show σ.1 + 1 + 1 ≤ _; omega, by show σ.2.1 + 1 + 6 ≤ _; omega⟩
    · obtain ⟨st', e, h1, h2, h3, h4⟩ := B_numeral_f (n := n) (m := cs.length) ok hP hp (by omega) hM.1 (by omega) hg
      obtain ⟨st2, m', e2, k1, k2, k3, k4⟩ := L_bad (x1 := x1) (x2 := x2) (ins := ins) (opd := 0) (fst := 0) hn h1 (hW.of h3) hw h4 (by omega) (by omega) (hE.trans h2)
      refine ⟨4, st2, op, m', 1, fun k => ?_, by omega, k1, Or.inl rfl, k2, k3, by omega⟩
      show LSx n (k + 1 + 3) st x1 x2 ws.length ins 1 f = _
      have e1 : (bf_numeral n st).bind (fun q => some (q.1, (0 : Int32))) = some (st', 0) := by rw [e]; rfl
      rw [hstep, pm_num ok hP (by omega) ho hd, ob e1, if_pos rfl]
      exact e2 k
theorem P_var (ok : pOk C) (hn : 1000 ≤ n) {f : Int32} (E : Ent C x1 ins st0 ws σ a0 op go st cs) (hf : f = 0 ∨ f = 1 ∧ ch C a0 ≠ 45) (h1 : ch C a0 ≠ 40) (h2 : ¬ isM (ch C a0)) (h3 : ¬ dig (ch C a0)) (hF : ¬ (op < 6 ∧ isF C a0 op go)) :
    Out 4 C n x1 x2 ins st0 ws σ (af_X3_part n C.S rx σ C.P) a0 op go st cs (fun k => LSx n k st x1 x2 ws.length ins 1 f) := by
  have hN := ok.1
  have hl := ch_lt ok a0
  obtain ⟨hA, hB, hp, ho, hx, hgo, hi, hmk, hb, hb2⟩ := E
  obtain ⟨hP, hM, hW, hE, hw⟩ := hB
  rw [pa_var ok hA (by omega) (by omega) ho (fun _ => h1) h2 h3 hF, pa_72 hA]
  have hA1 : PA C (nw σ (.inr (8, [.int 0])) 1) a0 op go := hA.nwc
  have hstep : ∀ k, LSx n (k + 3) st x1 x2 ws.length ins 1 f = _ := fun k => L_part (x1 := x1) (x2 := x2) (nw := ws.length) ok hP (by omega) hf (by omega) k
  have hpm := pm_var (n := n) (ins := ins) ok hP (by omega) ho h1 h2 h3 hx hgo hF
  by_cases hv : isV (ch C a0)
  · have hin := ch_in (C := C) (i := a0) (by have := hv.1; omega)
    have hz : ∀ k, LSx n (k + 3) st x1 x2 ws.length ins 1 f = LSx n k (mk (mk (sI st 4 (c32 (a0 + 1))) cs.length (c32 1)) (cs.length + 1) (c32 (ch C a0 - 65))) x1 x2 ws.length ins 0 0 := by
      intro k
      have e1 : bf_partMark_L305 n st = some (mk (mk (sI st 4 (c32 (a0 + 1))) cs.length (c32 1)) (cs.length + 1) (c32 (ch C a0 - 65)), 0) := by
        unfold bf_partMark_L305
        rw [ob (b_variable_t ok hP (by omega) hv), ob (b_make (m := cs.length) (by exact hM.1) (by omega)), ob (b_make mk_6 (by omega))]
        rfl
      rw [hstep, hpm, ob e1, if_pos rfl]
    have hM0 : BM (sI st 4 (c32 (a0 + 1))) cs := hM
    have hM3 := (hM0.mk (w := 1)).mk (w := ch C a0 - 65)
    rw [List.length_append, List.append_assoc] at hM3
    have hlen : (cs ++ [1, ch C a0 - 65]).length = cs.length + 2 := List.length_append
    refine Or.inl ⟨a0 + 1, [1, ch C a0 - 65], by omega, by omega, ?_, ⟨fun z => by omega, fun z => by omega, fun z => by omega⟩, 3, _, [1, ch C a0 - 65], [], List.append_nil _, (fun _ h => nomatch h), hz, ⟨hP.p.mk.mk, hM3, BW.mk (BW.mk (BW.of (st := st) rfl hW)), hE.trans (BE.i4.trans (BE.mk.trans BE.mk)), hw⟩, by rw [hlen, List.nil_append]; omega, by rw [List.nil_append]; omega, by omega⟩
    rw [ox (A_variable_t ok hA1 (by omega) hv)]
    have hcell : (ps C (nw σ (.inr (8, [.int 0])) 1) (a0 + 1) op go).2.2 σ.1 = some (.inr (8, [.int 0])) := by
      rw [mv_ne _ _ (by have := hA.2.2.2.1; omega)]
      exact nw_at _ _ _
    rw [oc (i_X9 hcell)]
    refine ⟨_, _, rfl, hA1.ps.mvq (by have := hA.2.2.2.1; omega) (by have := hA.2.2.2.2.1; omega) (by have := hA.2.2.2.2.2; omega), (Ext.nwc.trans Ext.mvP).new (Nat.le_refl _), by show σ.1 + 1 ≤ _; omega, by show σ.2.1 + 1 ≤ _; omega, ?_⟩
    refine ex.up (d := 1) ?_ (by omega)
    exact Or.inr (Or.inl ⟨_, hi_at (mv_at _ _ _) (Nat.le_refl _) (by show σ.1 < σ.1 + 1; omega), by have := hv.2.1; omega, rfl⟩)
  · refine Or.inr ⟨a0, Nat.le_refl _, hp, ?_, ?_⟩
    · rw [oxr (A_variable_f ok hA1 (by omega) hv)]
      exact ⟨_, op, go, rfl, hA1.th, Ext.nwc.th, by show σ.1 + 1 + 1 ≤ _; omega, by show σ.2.1 + 1 + 6 ≤ _; omega⟩
    · have e1 : bf_partMark_L305 n st = some (mk (mk (sI st 7 1) cs.length (c32 1)) (cs.length + 1) 0, 0) := by
        unfold bf_partMark_L305
        rw [ob (b_variable_f ok hP (by omega) hv), ob (b_make (m := cs.length) (by exact hM.1) (by omega)), ob (b_make mk_6 (by omega))]
        rfl
      obtain ⟨st2, m', e2, k1, k2, k3, k4⟩ := L_bad (x1 := x1) (x2 := x2) (ins := ins) (opd := 0) (fst := 0) (m := cs.length + 2) (st := mk (mk (sI st 7 1) cs.length (c32 1)) (cs.length + 1) 0) hn (hP.b (b := 1)).mk.mk (BW.mk (BW.mk (BW.of (st := st) rfl hW))) hw mk_6 (by omega) (by omega) (hE.trans (BE.i7.trans (BE.mk.trans BE.mk)))
      refine ⟨4, st2, op, m', 1, fun k => ?_, by omega, k1, Or.inl rfl, k2, k3, by omega⟩
      show LSx n (k + 1 + 3) st x1 x2 ws.length ins 1 f = _
      rw [hstep, hpm, ob e1, if_pos rfl]
      exact e2 k
/-- brackets: from the opening one on -/
theorem P_ins (ok : pOk C) (hn : 1000 ≤ n) (IH : EXs C n rx (op + 1)) {m : Nat} (hA : PA C σ a0 op go) (hB : BL C st0 st a0 op cs ws) (hp : a0 ≤ C.N) (ho : op < 6) (hx : x1 = c32 go) (hgo : go = 0 ∨ go = 1 ∧ op = ins) (hi : ins ≤ op) (hmk : marks ws = ins) (hb : cs.length + ws.length ≤ 2 * a0 + 1) (hb2 : ws.length ≤ a0) (hm1 : 100 ≤ m) (hm2 : m < 110) :
    (∃ at_ l, a0 < at_ ∧ at_ ≤ C.N ∧ okE C σ (af_X3_inside n C.S rx σ C.P) (a0 + 1) at_ op go l ∧ ∃ j st', (∀ k, ((bf_bracket n st).bind fun q_3 => (stA q_3.1 15 (c32 ws.length) (c32 m)).bind fun st_4 => LSx n (k + j) st_4 x1 x2 (ws.length + 1) (ins + 1) 1 1) = LSx n k st' x1 x2 ws.length ins 0 0) ∧ BL C st0 st' at_ op (cs ++ l ++ clo m) ws ∧ (cs ++ l ++ clo m).length + ws.length ≤ 2 * at_ + 1 ∧ j ≤ 6 * (at_ - a0) - 6) ∨
    (∃ at_, a0 ≤ at_ ∧ at_ ≤ C.N ∧ noE C σ (af_X3_inside n C.S rx σ C.P) a0 at_ ∧ FIN C st0 (fun k => (bf_bracket n st).bind fun q_3 => (stA q_3.1 15 (c32 ws.length) (c32 m)).bind fun st_4 => LSx n k st_4 x1 x2 (ws.length + 1) (ins + 1) 1 1) x2 17 a0 at_) := by
  have hN := ok.1
  have hclo : (clo m).length ≤ 2 := by unfold clo; split <;> (try split) <;> (try split) <;> simp
  obtain ⟨hP, hM, hW, hE, hw⟩ := hB
  unfold af_X3_inside
  rw [ob (A_cls hA)]
  by_cases hc : ch C a0 = 40
  · have hin := ch_in (C := C) (i := a0) (by omega)
    rw [ox (A_open_t ok hA (by omega) hc), ps_ps]
    have hA1 : PA C (ps C σ (a0 + 1) (op + 1) go) (a0 + 1) (op + 1) go := hA.ps
    rw [ob (A_cls hA1)]
    have hBL1 : BL C st0 (sA (sI (sI st 4 (c32 (a0 + 1))) 5 (c32 (op + 1))) 15 ws.length (c32 m)) (a0 + 1) (op + 1) cs (m :: ws) := by
      refine ⟨hP.p.o.of rfl (sA_ne _ (by decide)) rfl rfl rfl, ⟨hM.1, fun i v hi => by rw [sA_ne _ (by decide)]; exact hM.2 i v hi⟩, BW.push (BW.of (st := st) rfl hW), hE.trans (BE.i4.trans (BE.i5.trans BE.w)), fun v hv => ?_⟩
      rcases List.mem_cons.mp hv with rfl | hv
      · omega
      · exact hw v hv
    have hz : ∀ k, ((bf_bracket n st).bind fun q_3 => (stA q_3.1 15 (c32 ws.length) (c32 m)).bind fun st_4 => LSx n k st_4 x1 x2 (ws.length + 1) (ins + 1) 1 1) = LSx n k (sA (sI (sI st 4 (c32 (a0 + 1))) 5 (c32 (op + 1))) 15 ws.length (c32 m)) x1 x2 (m :: ws).length (ins + 1) 1 1 := by
      intro k
      rw [ob (b_bracket_t ok hP (by omega) ho hc), ob (st_A (show ws.length < 64 by omega))]
      rfl
    have hex : Ext C.P σ (ps C σ (a0 + 1) (op + 1) go) := Ext.mvP
    rcases IH x1 x2 (ins + 1) st0 (m :: ws) _ (a0 + 1) (op + 1) go _ cs (Nat.le_refl _) ⟨hA1, hBL1, by omega, by omega, hx, hgo.imp id (fun z => ⟨z.1, by omega⟩), by omega, by show (if 100 ≤ m then 1 else 0) + marks ws = _; rw [if_pos hm1]; omega, by rw [List.length_cons]; omega, by rw [List.length_cons]; omega⟩ (Or.inl hm1) with ⟨at1, l1, q1, q2, ⟨σ1, r1, e1, hA2, hx2, s1, s2, hex1⟩, hnop, j1, st1, c1, o1, hl1, ho1, hz1, hBL2, hbb, hbb2, hj1⟩ | ⟨at1, q1, q2, ⟨σ1, op1, go1, e1, hA2, hx2, s1, s2⟩, j1, st1, op1', m1, bad1, hz1, hj1, f1, f2, f3, f4, f5⟩
    · rw [ox e1, ob (A_cls hA2)]
      have hl1' : l1.length = c1.length + o1.length := by rw [← hl1, List.length_append]
      by_cases hc2 : ch C at1 = 41
      · have hin2 := ch_in (C := C) (i := at1) (by omega)
        rw [ox (A_close_t ok hA2 (by omega) (by omega) hc2), ps_ps]
        obtain ⟨st2, hz2, hBL3⟩ := L_close (ins := ins) (x1 := x1) (x2 := x2) ok hn hBL2 ho1 hm1 (Or.inl hm2) hc2 hin2 (by omega) (by omega) hbb hbb2
        have hcode : cs ++ c1 ++ o1 ++ clo m = cs ++ l1 ++ clo m := by rw [← hl1, List.append_assoc cs c1 o1]
        rw [hcode, Nat.add_sub_cancel] at hBL3
        have hlen : (cs ++ l1 ++ clo m).length = cs.length + l1.length + (clo m).length := by rw [List.length_append, List.length_append]
        have hlen2 : (cs ++ c1).length = cs.length + c1.length := List.length_append
        have hlen3 : (o1 ++ m :: ws).length = o1.length + (ws.length + 1) := List.length_append
        refine Or.inl ⟨at1 + 1, l1, by omega, by omega, ⟨_, _, rfl, hA2.ps, (hex.trans hx2).trans Ext.mvP, ?_, ?_, ?_⟩, j1 + 4, st2, fun k => ?_, hBL3, by omega, by omega⟩
        · have s1 : σ1.1 ≤ σ.1 + (at1 - (a0 + 1)) := s1
          show σ1.1 ≤ _
          omega
        · have s2 : σ1.2.1 ≤ σ.2.1 + 3 * (at1 - (a0 + 1)) := s2
          show σ1.2.1 ≤ _
          omega
        · exact (ex.map (hi_le Ext.mvP hA.2.2.2.1 (Nat.le_refl _)) _ _ _ hex1).up (by omega)
        · rw [hz, show k + (j1 + 4) = k + 4 + j1 by omega]
          exact (hz1 (k + 4)).trans (hz2 k)
      · rw [oxr (A_close_f ok hA2 (by omega) hc2)]
        obtain ⟨st2, m2, hz2, g1, g2, g3, g4⟩ := L_wrong (ins := ins) (x1 := x1) (x2 := x2) ok hn hBL2 ho1 hm1 hnop ⟨fun _ => Or.inl hm2, fun z => absurd z hc2⟩ (by omega) (by omega) hbb (by omega)
        refine Or.inr ⟨at1, by omega, q2, ⟨_, _, _, rfl, hA2.th, (hex.trans hx2).th, ?_, ?_⟩, j1 + 2, st2, op + 1, m2, 1, fun k => ?_, by omega, g1, Or.inl rfl, g2, g3, by omega⟩
        · have s1 : σ1.1 ≤ σ.1 + (at1 - (a0 + 1)) := s1
          show σ1.1 + 1 ≤ _
          omega
        · have s2 : σ1.2.1 ≤ σ.2.1 + 3 * (at1 - (a0 + 1)) := s2
          show σ1.2.1 + 6 ≤ _
          omega
        · show ((bf_bracket n st).bind fun q_3 => (stA q_3.1 15 (c32 ws.length) (c32 m)).bind fun st_4 => LSx n (k + (j1 + 2)) st_4 x1 x2 (ws.length + 1) (ins + 1) 1 1) = _
          rw [hz, show k + (j1 + 2) = k + 2 + j1 by omega]
          exact (hz1 (k + 2)).trans (hz2 k)
    · rw [oxr e1]
      refine Or.inr ⟨at1, by omega, q2, ⟨_, _, _, rfl, hA2, hex.trans hx2, ?_, ?_⟩, j1, st1, op1', m1, bad1, fun k => ?_, by omega, f1, f2, f3, f4, f5⟩
      · have s1 : σ1.1 ≤ σ.1 + (at1 - (a0 + 1)) + 2 := s1
        omega
      · have s2 : σ1.2.1 ≤ σ.2.1 + 3 * (at1 - (a0 + 1)) + 9 := s2
        omega
      · show ((bf_bracket n st).bind fun q_3 => (stA q_3.1 15 (c32 ws.length) (c32 m)).bind fun st_4 => LSx n (k + j1) st_4 x1 x2 (ws.length + 1) (ins + 1) 1 1) = _
        rw [hz]
        exact hz1 k
  · rw [oxr (A_open_f ok hA (by omega) hc)]
    have hwc : ∀ v ∈ m :: ws, v < 1000 := by
      intro v hv
      rcases List.mem_cons.mp hv with rfl | hv
      · omega
      · exact hw v hv
    obtain ⟨st2, m', e2, k1, k2, k3, k4⟩ := L_bad (x1 := x1) (x2 := x2) (ins := ins + 1) (opd := 1) (fst := 1) (m := cs.length) (ws := m :: ws) (st := sA (sI st 7 1) 15 ws.length (c32 m)) (st0 := st0) (p := a0) (op := op) (C := C) hn ((hP.b (b := 1)).of rfl (sA_ne _ (by decide)) rfl rfl rfl) (BW.push (BW.of (st := st) rfl hW)) hwc (by exact hM.1) (by rw [List.length_cons]; omega) (by rw [List.length_cons]; omega) (hE.trans (BE.i7.trans BE.w))
    refine Or.inr ⟨a0, Nat.le_refl _, hp, ⟨_, op, go, rfl, hA.th, Ext.rfl_.th, by show σ.1 + 1 ≤ _; omega, by show σ.2.1 + 6 ≤ _; omega⟩, 1, st2, op, m', 1, fun k => ?_, by omega, k1, Or.inl rfl, k2, k3, by rw [List.length_cons] at k4; omega⟩
    show ((bf_bracket n st).bind fun q_3 => (stA q_3.1 15 (c32 ws.length) (c32 m)).bind fun st_4 => LSx n (k + 1) st_4 x1 x2 (ws.length + 1) (ins + 1) 1 1) = _
    rw [ob (b_bracket_f ok hP (by omega) ho hc), ob (st_A (show ws.length < 64 by omega))]
    exact e2 k
end PART
