/-! THE PURE LAW: whole expressions; what a statement's taking leaves -/
def BF (st st' : bS) : Prop := (∀ k, k ≠ 4 → k ≠ 5 → k ≠ 6 → k ≠ 7 → st'.1 k = st.1 k) ∧ (∀ k, k ≠ 12 → k ≠ 13 → k ≠ 14 → k ≠ 15 → st'.2.1 k = st.2.1 k) ∧ (∀ i, i < 192 → st'.2.1 12 i = st.2.1 12 i) ∧ (∀ i, i < 96 → st'.2.1 13 i = st.2.1 13 i) ∧ (∀ i, i < 3840 → st'.2.1 14 i = st.2.1 14 i) ∧ st'.2.2 = st.2.2
theorem BF.rfl_ {st : bS} : BF st st := ⟨fun _ _ _ _ _ => rfl, fun _ _ _ _ _ => rfl, fun _ _ => rfl, fun _ _ => rfl, fun _ _ => rfl, rfl⟩
theorem BF.trans {a b c : bS} (h : BF a b) (g : BF b c) : BF a c := by
  obtain ⟨h1, h2, h5, h6, h7, h8⟩ := h
  obtain ⟨g1, g2, g5, g6, g7, g8⟩ := g
  exact ⟨fun k a b c d => (g1 k a b c d).trans (h1 k a b c d), fun k a b c d => (g2 k a b c d).trans (h2 k a b c d), fun i hi => (g5 i hi).trans (h5 i hi), fun i hi => (g6 i hi).trans (h6 i hi), fun i hi => (g7 i hi).trans (h7 i hi), g8.trans h8⟩
theorem BE.f {a b : bS} (h : BE a b) : BF a b := by
  obtain ⟨h1, h2, h3, h4⟩ := h
  refine ⟨h1, fun k _ _ h14 h15 => h2 k h14 h15, fun i _ => ?_, fun i _ => ?_, h3, h4⟩
  · rw [h2 12 (by decide) (by decide)]
  · rw [h2 13 (by decide) (by decide)]
theorem BF.a {st : bS} {i : Nat} {v : Int32} (h : 192 ≤ i) : BF st (sA st 12 i v) := by
  refine ⟨fun _ _ _ _ _ => rfl, fun q h12 _ _ _ => sA_ne st h12, fun j hj => ?_, fun j hj => ?_, fun j hj => ?_, rfl⟩
  · rw [sA_at, if_pos rfl, if_neg (by omega)]
  · rw [sA_at, if_neg (by decide)]
  · rw [sA_at, if_neg (by decide)]
theorem BF.e {st : bS} {i : Nat} {v : Int32} (h : 96 ≤ i) : BF st (sA st 13 i v) := by
  refine ⟨fun _ _ _ _ _ => rfl, fun q _ h13 _ _ => sA_ne st h13, fun j hj => ?_, fun j hj => ?_, fun j hj => ?_, rfl⟩
  · rw [sA_at, if_neg (by decide)]
  · rw [sA_at, if_pos rfl, if_neg (by omega)]
  · rw [sA_at, if_neg (by decide)]
/-- the model has gone wrong at a place, or will at once -/
def DM (C : pC) (st : bS) (at_ M : Nat) : Prop := ∃ op' m bad, BP C st at_ op' bad ∧ (bad = 1 ∨ bad = 0 ∧ dig (ch C at_)) ∧ st.1 6 = c32 m ∧ m ≤ M
/-- .. and is bad -/
def DB (C : pC) (st : bS) (at_ M : Nat) : Prop := ∃ op' m, BP C st at_ op' 1 ∧ st.1 6 = c32 m ∧ m ≤ M
theorem DB.m {C : pC} {st : bS} {at_ M : Nat} (h : DB C st at_ M) : DM C st at_ M := by
  obtain ⟨o, m, h1, h2, h3⟩ := h
  exact ⟨o, m, 1, h1, Or.inl rfl, h2, h3⟩
theorem DB.up {C : pC} {st : bS} {at_ M M' : Nat} (h : DB C st at_ M) (hM : M ≤ M') : DB C st at_ M' := by
  obtain ⟨o, m, h1, h2, h3⟩ := h
  exact ⟨o, m, h1, h2, by omega⟩
section TOP
variable {C : pC} {st : bS} {n at_ M : Nat}
theorem DB.set {k i : Nat} {v : Int32} (h : DB C st at_ M) (hk : k ≠ 9) : DB C (sA st k i v) at_ M := by
  obtain ⟨o, m, h1, h2, h3⟩ := h
  exact ⟨o, m, h1.of rfl (sA_ne st (fun z => hk z.symm)) rfl rfl rfl, h2, h3⟩
theorem DM.set {k i : Nat} {v : Int32} (h : DM C st at_ M) (hk : k ≠ 9) : DM C (sA st k i v) at_ M := by
  obtain ⟨o, m, b, h1, h4, h2, h3⟩ := h
  exact ⟨o, m, b, h1.of rfl (sA_ne st (fun z => hk z.symm)) rfl rfl rfl, h4, h2, h3⟩
theorem b_setArg {k : Nat} {v w : Int32} (hk : k < 8) (hv : w = c32 k := by rfl) : bf_setArg n st w v = some (sA st 12 (192 + k) v, ()) := by
  subst hv
  unfold bf_setArg
  show (stA st 12 (c32 192 + c32 k) v).bind _ = _
  rw [c_add, ob (st_A (show 192 + k < 200 by omega))]
theorem b_setExpr {k : Nat} {v w : Int32} (hk : k < 4) (hv : w = c32 k := by rfl) : bf_setExpr n st w v = some (sA st 13 (96 + k) v, ()) := by
  subst hv
  unfold bf_setExpr
  show (stA st 13 (c32 96 + c32 k) v).bind _ = _
  rw [c_add, ob (st_A (show 96 + k < 100 by omega))]
/-- need where a digit can't be -/
theorem D_need {c : Nat} {v : Int32} (ok : pOk C) (h : DM C st at_ M) (hp : at_ ≤ 60) (hc : c < 128) (hcd : ¬ dig c) (hv : v = c32 c := by rfl) : ∃ st', bf_need n st v = some (st', ()) ∧ DB C st' at_ M ∧ BF st st' := by
  obtain ⟨o, m, b, h1, h4, h2, h3⟩ := h
  rcases h4 with rfl | ⟨rfl, hd⟩
  · exact ⟨sI st 7 1, b_need_b h1, ⟨o, m, h1.b, h2, h3⟩, BE.i7.f⟩
  · exact ⟨sI st 7 1, b_need_f ok h1 hp hc (fun z => hcd (by rw [← z]; exact hd)) hv, ⟨o, m, h1.b, h2, h3⟩, BE.i7.f⟩
theorem D_take {c : Nat} {v : Int32} (ok : pOk C) (h : DM C st at_ M) (hp : at_ ≤ 60) (hc : c < 128) (hcd : ¬ dig c) (hv : v = c32 c := by rfl) : bf_take n st v = some (st, 0) := by
  obtain ⟨o, m, b, h1, h4, h2, h3⟩ := h
  rcases h4 with rfl | ⟨rfl, hd⟩
  · exact b_take_b h1
  · exact b_take_f ok h1 hp hc (fun z => hcd (by rw [← z]; exact hd)) hv
theorem wb_dig : ∀ i : Fin 28, ∀ c ∈ (wb i.val).head?, ¬ (48 ≤ c ∧ c ≤ 57) := by decide +kernel
theorem mt_dig {p i : Nat} (hi : i < 28) (hd : dig (ch C p)) : mt C (wb i) p = 0 := by
  have := wb_dig ⟨i, hi⟩
  have this : ∀ c ∈ (wb i).head?, ¬ (48 ≤ c ∧ c ≤ 57) := this
  cases hw : wb i with
  | nil => rfl
  | cons c w =>
    rw [hw] at this
    have h2 := this c rfl
    unfold mt
    rw [if_neg (fun z => h2 (by rw [← z]; exact hd))]
theorem D_word {lo c : Nat} {x y : Int32} (ok : pOk C) (h : DM C st at_ M) (hp : at_ ≤ C.N) (hhi : lo + c ≤ 28) (hc : 1 ≤ c) (hn : 1000 ≤ n) (hx : x = c32 lo := by rfl) (hy : y = c32 (lo + c - 1) := by rfl) : ∃ st', bf_takeWord n st x y = some (st', -1) ∧ DB C st' at_ M ∧ BF st st' := by
  obtain ⟨o, m, b, h1, h4, h2, h3⟩ := h
  rcases h4 with rfl | ⟨rfl, hd⟩
  · exact ⟨st, b_takeWord_b h1 hn, ⟨o, m, h1, h2, h3⟩, BF.rfl_⟩
  · have hz : ∀ k, k < c → mt C (wb (lo + k)) at_ = 0 := fun k hk => mt_dig (by omega) hd
    have hmx : mx C at_ lo c = 0 := by
      apply Classical.byContradiction
      intro g
      obtain ⟨k, k1, k2⟩ := mx_at C at_ lo c 0 (by omega)
      rw [hz k k1] at k2
      omega
    refine ⟨_, b_takeWord_f ok h1 hp hhi hc (fun k hk => ?_) hn hx hy, ?_, (BE.i4.trans BE.i7).f⟩
    · rw [hz k hk]
      have : 2 ≤ (wb (lo + k)).length := (wb_ok ⟨lo + k, by omega⟩).2.1
      omega
    · rw [hmx, Nat.add_zero]
      exact ⟨o, m, (h1.p (p' := at_)).b, h2, h3⟩
theorem D_shut (ok : pOk C) (h : DM C st at_ M) (hp : at_ ≤ 60) : ∃ st', bf_shut n st = some (st', ()) ∧ DB C st' at_ M ∧ BF st st' := by
  obtain ⟨o, m, b, h1, h4, h2, h3⟩ := h
  rcases h4 with rfl | ⟨rfl, hd⟩
  · exact ⟨sI st 7 1, b_shut_b h1, ⟨o, m, h1.b, h2, h3⟩, BE.i7.f⟩
  · exact ⟨sI st 7 1, b_shut_f ok h1 hp (fun z => by unfold dig at hd; omega), ⟨o, m, h1.b, h2, h3⟩, BE.i7.f⟩
theorem D_bracket (h : DB C st at_ M) : ∃ st', bf_bracket n st = some (st', ()) ∧ DB C st' at_ M ∧ BF st st' := by
  obtain ⟨o, m, h1, h2, h3⟩ := h
  obtain ⟨st', e, g1, g2, g3, g4⟩ := b_bracket_b (n := n) h1
  exact ⟨st', e, ⟨o, m, g1, by rw [g4]; exact h2, h3⟩, g2.f⟩
/-- once bad, an expression is one code -/
theorem D_expr {x1 : Int32} (h : DB C st at_ M) (hn : 1000 ≤ n) (hM : M < 159) : ∃ st' v, bf_expression n st x1 = some (st', v) ∧ DB C st' at_ (M + 1) ∧ BF st st' := by
  obtain ⟨o, m, h1, h2, h3⟩ := h
  unfold bf_expression
  obtain ⟨st', m', e, g1, g2, g3, g4⟩ := L_bad (C := C) (x1 := x1) (x2 := st.1 6) (ins := 0) (opd := 1) (fst := 1) (ws := []) (st0 := st) hn h1 trivial (fun _ h => nomatch h) h2 (by show m + 0 + 1 ≤ 160; omega) (by show 0 ≤ 64; omega) BE.rfl_
  obtain ⟨k, hk⟩ : ∃ k, n = k + 1 := ⟨n - 1, by omega⟩
  have e1 := e k
  rw [← hk] at e1
  have g4 : m' ≤ m + 0 + 1 := g4
  exact ⟨st', st.1 6, e1, ⟨o, m', g1, g3, by omega⟩, g2.f⟩
theorem D_variable (ok : pOk C) (h : DB C st at_ M) (hp : at_ ≤ 60) : bf_variable n st = some (sI st 7 1, 0) ∧ DB C (sI st 7 1) at_ M := by
  obtain ⟨o, m, h1, h2, h3⟩ := h
  exact ⟨b_variable_b ok h1 hp, o, m, h1.b, h2, h3⟩
theorem D_matrix (ok : pOk C) (h : DB C st at_ M) (hp : at_ ≤ 60) : bf_matrix n st = some (sI st 7 1, 0) ∧ DB C (sI st 7 1) at_ M := by
  obtain ⟨o, m, h1, h2, h3⟩ := h
  exact ⟨b_matrix_b ok h1 hp, o, m, h1.b, h2, h3⟩
theorem D_one6 (ok : pOk C) (h : DB C st at_ M) (hp : at_ ≤ 60) : bf_oneToSix n st = some (sI st 7 1, 0) ∧ DB C (sI st 7 1) at_ M := by
  obtain ⟨o, m, h1, h2, h3⟩ := h
  exact ⟨b_one6_b ok h1 hp, o, m, h1.b, h2, h3⟩
theorem D_number (h : DB C st at_ M) : bf_lineNumber n st = some (st, 0) := by
  obtain ⟨o, m, h1, h2, h3⟩ := h
  exact B_number_b h1
theorem D_needB {c : Int32} (h : DB C st at_ M) : bf_need n st c = some (sI st 7 1, ()) ∧ DB C (sI st 7 1) at_ M := by
  obtain ⟨o, m, h1, h2, h3⟩ := h
  exact ⟨b_need_b h1, o, m, h1.b, h2, h3⟩
theorem D_wordB {x y : Int32} (h : DB C st at_ M) (hn : 1000 ≤ n) : bf_takeWord n st x y = some (st, -1) := by
  obtain ⟨o, m, h1, h2, h3⟩ := h
  exact b_takeWord_b h1 hn
theorem D_takeB {x : Int32} (h : DB C st at_ M) : bf_take n st x = some (st, 0) := by
  obtain ⟨o, m, h1, h2, h3⟩ := h
  exact b_take_b h1
theorem D_bad (h : DB C st at_ M) : ¬ st.1 7 = 0 := by
  obtain ⟨o, m, h1, h2, h3⟩ := h
  rw [h1.2.2.2.2]
  exact n10
/-- a whole expression, read by both -/
theorem E_top (ok : pOk C) (hS : sInj C.S) (hn : 1000 ≤ n) {σ : aS} {a0 op go : Nat} {cs : List Nat} {x1 : Int32} (hA : PA C σ a0 op go) (hP : BP C st a0 op 0) (hM : BM st cs) (hb : cs.length ≤ 2 * a0) (hp : a0 ≤ C.N) (ho : op ≤ 6) (hgo : go = 0 ∨ go = 1 ∧ op = 0) (hx : x1 = c32 go := by rfl) :
    (∃ at_ l, a0 < at_ ∧ at_ ≤ C.N ∧ okE C σ (af_expr n C.S dX σ C.P) a0 at_ op go l ∧ nop 1 (ch C at_) ∧ ∃ st', bf_expression n st x1 = some (st', c32 cs.length) ∧ BP C st' at_ op 0 ∧ BM st' (cs ++ (l ++ [14])) ∧ BE st st' ∧ cs.length + l.length ≤ 2 * at_ + 1) ∨
    (∃ at_, a0 ≤ at_ ∧ at_ ≤ C.N ∧ noE C σ (af_expr n C.S dX σ C.P) a0 at_ ∧ ∃ st', bf_expression n st x1 = some (st', c32 cs.length) ∧ DM C st' at_ (2 * at_ + 10) ∧ BF st st') := by
  have hN := ok.1
  have e0 : bf_expression n st x1 = LSx n n st x1 (c32 cs.length) 0 0 1 1 := by
    unfold bf_expression
    rw [hM.1]
    rfl
  rw [e0]
  rcases EXall (n := n) ok hS hn dX x1 (c32 cs.length) 0 st [] σ a0 op go st cs (by show 7 - 12 ≤ op; omega) ⟨hA, ⟨hP, hM, trivial, BE.rfl_, (fun _ h => nomatch h)⟩, hp, ho, hx, hgo.imp id (fun z => ⟨z.1, z.2⟩), by omega, rfl, by show cs.length + 0 ≤ _; omega, by show 0 ≤ a0; omega⟩ trivial with ⟨at1, l, q1, q2, hok, hnop, j, st1, c, o, hl, ho1, hz, hBL, hbb, hbb2, hj⟩ | ⟨at1, q1, q2, hno, j, st1, op1, m1, bad1, hz, hj, f1, f2, f3, f4, f5⟩
  · rw [List.append_nil] at hbb hbb2 hBL hz
    have hcl : (cs ++ c).length = cs.length + c.length := List.length_append
    have hll : l.length = c.length + o.length := by rw [← hl, List.length_append]
    obtain ⟨st2, m', e, g1, g2, g3, g4, g5⟩ := L_end (x1 := x1) (x2 := c32 cs.length) ok hn hBL hnop (by omega) hbb (by omega)
    refine Or.inl ⟨at1, l, q1, q2, hok, hnop, st2, ?_, g1, ?_, g2, by omega⟩
    · obtain ⟨k, hk⟩ : ∃ k, n = k + 1 + j := ⟨n - 1 - j, by omega⟩
      have h1 := (hz (k + 1)).trans (e k)
      rw [← hk] at h1
      exact h1
    · have h2 := g5 (fun w hw => (ho1 w hw).1)
      rw [List.append_assoc cs c o, hl, List.append_assoc] at h2
      exact h2
  · refine Or.inr ⟨at1, q1, q2, hno, st1, ?_, ⟨op1, m1, bad1, f1, f2, f4, f5⟩, f3.f⟩
    obtain ⟨k, hk⟩ : ∃ k, n = k + j := ⟨n - j, by omega⟩
    have h1 := hz k
    rw [← hk] at h1
    exact h1
end TOP
