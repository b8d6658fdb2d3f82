/-! THE PURE LAW: ON -/
section KINDS5
variable {C : pC} {n : Nat}
/-- the numbers so far, in the machine's row -/
def onR (σ : aS) (q : Nat) (ms : List Nat) : Prop := ∃ f, σ.2.2 q = some (.inl (1, 4, .inl f)) ∧ ∀ i m, ms[i]? = some m → f i = c32 m
def onB (st : bS) (ms : List Nat) : Prop := ∀ i m, ms[i]? = some m → st.2.1 12 (192 + (i + 1)) = c32 m
def onM (ms : List Nat) : Prop := ∀ m ∈ ms, m < 1000 ∧ m ≠ 0
theorem onR.up {σ : aS} {q v : Nat} {ms : List Nat} (h : onR σ q ms) (hl : ms.length < 4) : ∃ σ', wI σ q 1 (c32 ms.length) (c32 v) = some σ' ∧ σ'.1 = σ.1 ∧ σ'.2.1 = σ.2.1 ∧ (∀ p, p ≠ q → σ'.2.2 p = σ.2.2 p) ∧ onR σ' q (ms ++ [v]) := by
  obtain ⟨f, h1, h2⟩ := h
  refine ⟨_, wI_of h1 hl (by omega), rfl, rfl, fun p hp => mv_ne _ _ hp, _, mv_at _ _ _, fun i m hi => ?_⟩
  show (if i = ms.length then c32 v else f i) = _
  by_cases g : i = ms.length
  · subst g
    rw [if_pos rfl]
    rw [List.getElem?_append_right (Nat.le_refl _), Nat.sub_self] at hi
    cases hi
    rfl
  · rw [if_neg g]
    have hlt : i < ms.length := by
      have := (List.getElem?_eq_some_iff.mp hi).1
      rw [List.length_append] at this
      have : i < ms.length + 1 := this
      omega
    rw [List.getElem?_append_left hlt] at hi
    exact h2 i m hi
theorem onB.up {st : bS} {v : Nat} {ms : List Nat} (h : onB st ms) : onB (sA st 12 (192 + (ms.length + 1)) (c32 v)) (ms ++ [v]) := by
  intro i m hi
  rw [sA_at, if_pos rfl]
  by_cases g : i = ms.length
  · subst g
    rw [if_pos rfl]
    rw [List.getElem?_append_right (Nat.le_refl _), Nat.sub_self] at hi
    cases hi
    rfl
  · rw [if_neg (by omega)]
    have hlt : i < ms.length := by
      have := (List.getElem?_eq_some_iff.mp hi).1
      rw [List.length_append] at this
      have : i < ms.length + 1 := this
      omega
    rw [List.getElem?_append_left hlt] at hi
    exact h i m hi
theorem A_onwI {σ σ' : aS} {q a : Nat} (hA : PA C σ a 0 1) (hne : q ≠ C.P ∧ q ≠ C.X ∧ q ≠ C.W) (h1 : σ'.1 = σ.1) (h2 : ∀ p, p ≠ q → σ'.2.2 p = σ.2.2 p) : PA C σ' a 0 1 :=
  ⟨by rw [h2 _ hne.1.symm]; exact hA.1, by rw [h2 _ hne.2.1.symm]; exact hA.2.1, by rw [h2 _ hne.2.2.symm]; exact hA.2.2.1, by rw [h1]; exact hA.2.2.2.1, by rw [h1]; exact hA.2.2.2.2.1, by rw [h1]; exact hA.2.2.2.2.2⟩
/-- the loop over the numbers -/
theorem O_loop (ok : pOk C) (hn : 1000 ≤ n) {e : Option Nat} {q : Nat} (hne : q ≠ C.P ∧ q ≠ C.X ∧ q ≠ C.W) {cs : List Nat} : ∀ (k : Nat) (ms : List Nat) (σ : aS) (st : bS) (a f g : Nat), ms.length + k = 4 → 1 ≤ k → k + 1 ≤ f → k + 1 ≤ g → PA C σ a 0 1 → BP C st a 0 0 → BM st cs → a ≤ C.N → onR σ q ms → onB st ms → onM ms →
    (∃ at_ ms' σ' st', at_ ≤ C.N ∧ 1 ≤ ms'.length ∧ ms'.length ≤ 4 ∧ onM ms' ∧ af_X3_on_S22 n C.S f σ C.P e (some q) (c32 ms.length) = af_X3_on_L46 n C.S σ' C.P e (some q) (c32 ms'.length) ∧ PA C σ' at_ 0 1 ∧ onR σ' q ms' ∧ σ'.1 = σ.1 ∧ σ'.2.1 = σ.2.1 ∧ (∀ p, p ≠ q → p ≠ C.P → σ'.2.2 p = σ.2.2 p) ∧ bf_choice_S19 n g st (c32 ms.length) = some (st', ()) ∧ BP C st' at_ 0 0 ∧ BM st' cs ∧ onB st' ms' ∧ st'.2.1 12 192 = c32 ms'.length ∧ BF st st' ∧ st'.2.1 13 = st.2.1 13) ∨
    (∃ at_ σ' st', at_ ≤ C.N ∧ af_X3_on_S22 n C.S f σ C.P e (some q) (c32 ms.length) = some (σ', .inr 0) ∧ PA C σ' at_ 0 1 ∧ σ'.1 = σ.1 + 1 ∧ σ'.2.1 = σ.2.1 + 6 ∧ (∀ p, p ≠ q → p ≠ C.P → σ'.2.2 p = σ.2.2 p) ∧ bf_choice_S19 n g st (c32 ms.length) = some (st', ()) ∧ DB C st' at_ cs.length ∧ BF st st') := by
  have hN := ok.1
  intro k
  induction k with
  | zero => intro ms σ st a f g hk h1; omega
  | succ k ih =>
    intro ms σ st a f g hk h1 hf hg hA hP hM hp hR hB hm
    obtain ⟨f, rfl⟩ : ∃ f', f = f' + 1 := ⟨f - 1, by omega⟩
    obtain ⟨g, rfl⟩ : ∃ g', g = g' + 1 := ⟨g - 1, by omega⟩
    obtain ⟨u1, u2, u3, u4, u5⟩ := sNum_le C a
    rw [af_X3_on_S22, af_X3_on_B22, ob (A_cls hA), bf_choice_S19, bf_choice_B19, if_pos hP.2.2.2.2, if_neg (fun z => by have := (c_le (a := 4) (b := ms.length) (by omega) (by omega)).mp z; omega)]
    by_cases hv : (sNum C a).1 = 0
    · have e1 : c32 ms.length + 1 = c32 (ms.length + 1) := c_add _ 1
      rw [oxr (A_number_f ok hA hp (by omega) hv), ob (B_number_f ok hP hp (by omega) hv), e1, ob (b_setArg (k := ms.length + 1) (by omega))]
      have hD : DB C (sA (sI (sI st 4 (c32 (sNum C a).2)) 7 1) 12 (192 + (ms.length + 1)) 0) (sNum C a).2 cs.length := ⟨0, cs.length, BP.set hP.p.b (by decide), (by exact hM.1), by omega⟩
      have hF : BF st (sA (sI (sI st 4 (c32 (sNum C a).2)) 7 1) 12 (192 + (ms.length + 1)) 0) := (BE.i4.trans BE.i7).f.trans (BF.a (by omega))
      have e2 : ∀ s, DB C s (sNum C a).2 cs.length → bf_choice_L60 n s (c32 (ms.length + 1)) = some (sA s 12 (192 + 0) (c32 (ms.length + 1)), ()) := by
        intro s _
        unfold bf_choice_L60
        rw [ob (b_setArg (k := 0) (by omega))]
      refine Or.inr ⟨(sNum C a).2, _, _, u3 hp, rfl, hA.ps.th, rfl, rfl, fun p h1 h2 => mv_ne _ _ h2, ?_, hD.set (k := 12) (i := 192 + 0) (v := c32 (ms.length + 1)) (by decide), hF.trans (BF.a (by omega))⟩
      dsimp only
      by_cases g4 : c32 (ms.length + 1) = (4 : Int32)
      · rw [if_pos g4]
        exact e2 _ hD
      · rw [if_neg g4, ob (D_takeB hD), if_pos rfl]
        exact e2 _ hD
    · have e1 : c32 ms.length + 1 = c32 (ms.length + 1) := c_add _ 1
      have hA1 : PA C (ps C σ (sNum C a).2 0 1) (sNum C a).2 0 1 := hA.ps
      have hR1 : onR (ps C σ (sNum C a).2 0 1) q ms := by
        obtain ⟨f0, r1, r2⟩ := hR
        exact ⟨f0, by rw [mv_ne _ _ hne.1]; exact r1, r2⟩
      obtain ⟨σ1, ew, z1, z2, z3, z4⟩ := hR1.up (v := (sNum C a).1) (by omega)
      have hA2 : PA C σ1 (sNum C a).2 0 1 := A_onwI hA1 hne z1 z3
      have hm1 : onM (ms ++ [(sNum C a).1]) := by
        intro m hmm
        rcases List.mem_append.mp hmm with hmm | hmm
        · exact hm m hmm
        · rcases List.mem_cons.mp hmm with rfl | hmm
          · exact ⟨u4, hv⟩
          · cases hmm
      have hl1 : (ms ++ [(sNum C a).1]).length = ms.length + 1 := List.length_append
      have hfr : ∀ p, p ≠ q → p ≠ C.P → σ1.2.2 p = σ.2.2 p := fun p h1 h2 => (z3 p h1).trans (mv_ne _ _ h2)
      rw [ox (A_number_t ok hA hp (by omega) hv)]
      have eq0 : some q = some q := rfl
      have hP1 : BP C (sA (sI st 4 (c32 (sNum C a).2)) 12 (192 + (ms.length + 1)) (c32 (sNum C a).1)) (sNum C a).2 0 0 := BP.set hP.p (by decide)
      have hM1 : BM (sA (sI st 4 (c32 (sNum C a).2)) 12 (192 + (ms.length + 1)) (c32 (sNum C a).1)) cs := BM.set (st := sI st 4 (c32 (sNum C a).2)) hM (by decide)
      have hF1 : BF st (sA (sI st 4 (c32 (sNum C a).2)) 12 (192 + (ms.length + 1)) (c32 (sNum C a).1)) := BE.i4.f.trans (BF.a (by omega))
      have hB1 : onB (sA (sI st 4 (c32 (sNum C a).2)) 12 (192 + (ms.length + 1)) (c32 (sNum C a).1)) (ms ++ [(sNum C a).1]) := onB.up (st := sI st 4 (c32 (sNum C a).2)) hB
      have h13 : (sA (sI st 4 (c32 (sNum C a).2)) 12 (192 + (ms.length + 1)) (c32 (sNum C a).1)).2.1 13 = st.2.1 13 := sA_ne _ (by decide)
      rw [ob (B_number_t ok hP hp (by omega) hv), e1, ob (b_setArg (k := ms.length + 1) (by omega))]
      dsimp only
      generalize sA (sI st 4 (c32 (sNum C a).2)) 12 (192 + (ms.length + 1)) (c32 (sNum C a).1) = s1 at *
      have fin : ∀ (X : Option (aS × (Option Nat ⊕ Nat))) (Y : Option (bS × Unit)), X = af_X3_on_L46 n C.S σ1 C.P e (some q) (c32 (ms.length + 1)) → Y = bf_choice_L60 n s1 (c32 (ms.length + 1)) →
          ∃ at_ ms' σ' st', at_ ≤ C.N ∧ 1 ≤ ms'.length ∧ ms'.length ≤ 4 ∧ onM ms' ∧ X = af_X3_on_L46 n C.S σ' C.P e (some q) (c32 ms'.length) ∧ PA C σ' at_ 0 1 ∧ onR σ' q ms' ∧ σ'.1 = σ.1 ∧ σ'.2.1 = σ.2.1 ∧ (∀ p, p ≠ q → p ≠ C.P → σ'.2.2 p = σ.2.2 p) ∧ Y = some (st', ()) ∧ BP C st' at_ 0 0 ∧ BM st' cs ∧ onB st' ms' ∧ st'.2.1 12 192 = c32 ms'.length ∧ BF st st' ∧ st'.2.1 13 = st.2.1 13 := by
        intro X Y hX hY
        refine ⟨(sNum C a).2, ms ++ [(sNum C a).1], σ1, sA s1 12 (192 + 0) (c32 (ms.length + 1)), u3 hp, by omega, by omega, hm1, by rw [hl1]; exact hX, hA2, z4, z1, z2, hfr, ?_, hP1.set (by decide), hM1.set (by decide), fun i m hi => ?_, ?_, hF1.trans (BF.a (by omega)), (sA_ne _ (by decide)).trans h13⟩
        · rw [hY]
          unfold bf_choice_L60
          rw [ob (b_setArg (k := 0) (by omega))]
        · rw [sA_at, if_pos rfl, if_neg (by omega)]
          exact hB1 i m hi
        · rw [hl1, sA_at, if_pos rfl, if_pos rfl]
      by_cases g4 : ms.length + 1 = 4
      · refine Or.inl (fin _ _ ?_ ?_)
        · rw [ob eq0, ob ew, if_pos (by exact (c_le (a := 4) (b := ms.length + 1) (by omega) (by omega)).mpr (by omega))]
        · rw [if_pos (by rw [g4]; rfl)]
      · have hcl := ch_lt ok (sNum C a).2
        have hpN := u3 hp
        by_cases h44 : ch C (sNum C a).2 = 44
        · have hin := ch_in (C := C) (i := (sNum C a).2) (by omega)
          have hA3 : PA C (ps C σ1 ((sNum C a).2 + 1) 0 1) ((sNum C a).2 + 1) 0 1 := hA2.ps
          have hR3 : onR (ps C σ1 ((sNum C a).2 + 1) 0 1) q (ms ++ [(sNum C a).1]) := by
            obtain ⟨f0, r1, r2⟩ := z4
            exact ⟨f0, by rw [mv_ne _ _ hne.1]; exact r1, r2⟩
          have i2 := ih (ms ++ [(sNum C a).1]) (ps C σ1 ((sNum C a).2 + 1) 0 1) (sI s1 4 (c32 ((sNum C a).2 + 1))) ((sNum C a).2 + 1) f g (by omega) (by omega) (by omega) (by omega) hA3 hP1.p hM1 (by omega) hR3 hB1 hm1
          rw [hl1] at i2
          rw [ob eq0, ob ew, if_neg (fun z => by have := (c_le (a := 4) (b := ms.length + 1) (by omega) (by omega)).mp z; omega), ob (A_cls hA2), oc (A_takes_t (c := 44) ok hA2 (by omega) h44 (by omega)), if_neg n10, if_neg (by exact n_c (b := 4) (by omega) (by omega) g4), ob (b_take_t (c := 44) ok hP1 (by omega) h44), if_neg n10]
          dsimp only
          rcases i2 with ⟨at_, ms', σ', st', w1, w2, w3, w4, w5, w6, w7, w8, w9, w10, w11, w12, w13, w14, w15, w16, w17⟩ | ⟨at_, σ', st', w1, w2, w3, w4, w5, w6, w7, w8, w9⟩
          · exact Or.inl ⟨at_, ms', σ', st', w1, w2, w3, w4, w5, w6, w7, w8.trans z1, w9.trans z2, fun p h1 h2 => (w10 p h1 h2).trans ((mv_ne _ _ h2).trans (hfr p h1 h2)), w11, w12, w13, w14, w15, hF1.trans (BE.i4.f.trans w16), w17.trans h13⟩
          · exact Or.inr ⟨at_, σ', st', w1, w2, w3, w4.trans (by show σ1.1 + 1 = _; rw [z1]; rfl), w5.trans (by show σ1.2.1 + 6 = _; rw [z2]; rfl), fun p h1 h2 => (w6 p h1 h2).trans ((mv_ne _ _ h2).trans (hfr p h1 h2)), w7, w8, hF1.trans (BE.i4.f.trans w9)⟩
        · refine Or.inl (fin _ _ ?_ ?_)
          · rw [ob eq0, ob ew, if_neg (fun z => by have := (c_le (a := 4) (b := ms.length + 1) (by omega) (by omega)).mp z; omega), ob (A_cls hA2), oc (A_takes_f (c := 44) ok hA2 (by omega) (by omega) h44), if_pos rfl]
          · rw [if_neg (by exact n_c (b := 4) (by omega) (by omega) g4), ob (b_take_f (c := 44) ok hP1 (by omega) (by omega) h44), if_pos rfl]
/-- the row of just as many -/
theorem O_copy {e : Option Nat} {q q2 c : Nat} (hc : c ≤ 4) (hq : q ≠ q2) {F : Nat → Int32} : ∀ (k i f : Nat) (σ : aS) (G : Nat → Int32), i + k = c → k + 1 ≤ f → σ.2.2 q = some (.inl (1, 4, .inl F)) → σ.2.2 q2 = some (.inl (1, c, .inl G)) → (∀ j, j < i → G j = F j) →
    ∃ σ' G', af_X3_on_S54 n C.S f σ C.P e (some q) (c32 c) (some q2) (c32 i) = (cb (af_X16_init n C.S (nw σ' (.inr (15, [.null, .null])) 2) σ'.1 e (some q2)) fun st_3 _ => some (st_3, .inl (some σ'.1)) : Option (aS × (Option Nat ⊕ Nat))) ∧ σ'.1 = σ.1 ∧ σ'.2.1 = σ.2.1 ∧ (∀ p, p ≠ q2 → σ'.2.2 p = σ.2.2 p) ∧ σ'.2.2 q2 = some (.inl (1, c, .inl G')) ∧ ∀ j, j < c → G' j = F j := by
  intro k
  induction k with
  | zero =>
    intro i f σ G hi hf h1 h2 h3
    obtain ⟨f, rfl⟩ : ∃ f', f = f' + 1 := ⟨f - 1, by omega⟩
    have : i = c := by omega
    subst this
    exact ⟨σ, G, by rw [af_X3_on_S54, af_X3_on_B54, if_pos (by exact (c_le (by omega) (by omega)).mpr (Nat.le_refl _)), ob (nO_eq _ _ _ _)], rfl, rfl, fun _ _ => rfl, h2, h3⟩
  | succ k ih =>
    intro i f σ G hi hf h1 h2 h3
    obtain ⟨f, rfl⟩ : ∃ f', f = f' + 1 := ⟨f - 1, by omega⟩
    obtain ⟨σ', G', e1, e2, e3, e4, e5, e6⟩ := ih (i + 1) f (mv σ q2 (.inl (1, c, .inl (upd G i (F i))))) (upd G i (F i)) (by omega) (by omega) (by rw [mv_ne _ _ hq]; exact h1) (mv_at _ _ _) (fun j hj => by
      show (if j = i then F i else G j) = _
      by_cases g : j = i
      · rw [if_pos g, g]
      · rw [if_neg g]; exact h3 j (by omega))
    refine ⟨σ', G', ?_, e2, e3, fun p hp => (e4 p hp).trans (mv_ne _ _ hp), e5, e6⟩
    rw [af_X3_on_S54, af_X3_on_B54, if_neg (fun z => by have := (c_le (a := c) (b := i) (by omega) (by omega)).mp z; omega)]
    show (lI σ q 1 (c32 i)).bind _ = _
    rw [ob (lI_of h1 (by omega) (by omega))]
    show (wI σ q2 1 (c32 i) (F i)).bind _ = _
    rw [ob (wI_of h2 (by omega) (by omega))]
    show af_X3_on_S54 n C.S f _ C.P e (some q) (c32 c) (some q2) (c32 i + c32 1) = _
    rw [c_add]
    exact e1
theorem K_4 (ok : pOk C) (hS : sInj C.S) (hn : 1000 ≤ n) {σ : aS} {st : bS} {a : Nat} {cs : List Nat} (J : JS C σ st a 0 0 cs) : KO C σ (af_X3_statement_L379 n C.S σ C.P 4) st (bf_choice n st) 4 := by
  have hN := ok.1
  obtain ⟨hA, hP, hM, hp, hb⟩ := J
  have hPlt := hA.2.2.2.1
  unfold af_X3_statement_L379
  rw [if_neg (by decide), if_neg (by decide), if_neg (by decide), if_neg (by decide), if_pos rfl, ob (A_cls hA), xb_id]
  unfold af_X3_on bf_choice
  have T3 : ∀ (s : bS) (at_ M : Nat), DB C s at_ M → ∃ s', bf_choice_S19 n n s (0 : Int32) = some (s', ()) ∧ DB C s' at_ M ∧ BF s s' := by
    intro s at_ M hD
    obtain ⟨k, hk⟩ : ∃ k, n = k + 1 := ⟨n - 1, by omega⟩
    refine ⟨sA s 12 (192 + 0) 0, ?_, hD.set (by decide), BF.a (by omega)⟩
    have e1 : bf_choice_S19 n (k + 1) s (0 : Int32) = some (sA s 12 (192 + 0) 0, ()) := by
      rw [bf_choice_S19, bf_choice_B19, if_neg (D_bad hD)]
      unfold bf_choice_L60
      rw [ob (b_setArg (k := 0) (by omega))]
    rw [← hk] at e1
    exact e1
  have hA1 : PA C (ps C σ a 0 1) a 0 1 := hA.ps
  have hx1 : Ext C.P σ (ps C σ a 0 1) := Ext.mvP
  have eg : pF σ C.P 2 4 (.int (1 : Int32)) = some (ps C σ a 0 1) := A_setGo (k := 1) hA
  rw [ob eg, ob (A_cls hA1)]
  rcases E_top (n := n) (x1 := 1) ok hS hn hA1 hP hM hb hp (by omega) (Or.inr ⟨rfl, rfl⟩) with ⟨at1, l1, q1, q2, ⟨σ1, r1, e1, hA2, hx2, t1, t2, hex1⟩, hnop1, s1, e2, hP1, hM1, hE1, hb1⟩ | ⟨at1, q1, q2, ⟨σ1, op1, go1, e1, hA2, hx2, t1, t2⟩, s1, e2, hD1, hF1⟩
  · have t1 : σ1.1 ≤ σ.1 + (at1 - a) := t1
    have t2 : σ1.2.1 ≤ σ.2.1 + 3 * (at1 - a) := t2
    have hs1 : σ.1 ≤ σ1.1 := hx2.1
    rw [ox e1, ob (A_cls hA2), ob e2, ob (b_setExpr (k := 0) (by omega))]
    have hl1 : (cs ++ (l1 ++ [14])).length = cs.length + (l1.length + 1) := by simp
    have hP2 : BP C (sA s1 13 (96 + 0) (c32 cs.length)) at1 0 0 := hP1.set (by decide)
    have hM2 : BM (sA s1 13 (96 + 0) (c32 cs.length)) (cs ++ (l1 ++ [14])) := hM1.set (by decide)
    have hF2 : BF st (sA s1 13 (96 + 0) (c32 cs.length)) := hE1.f.trans (BF.e (by omega))
    have hw2 : (sA s1 13 (96 + 0) (c32 cs.length)).2.1 13 (96 + 0) = c32 cs.length := by rw [sA_at, if_pos rfl, if_pos rfl]
    dsimp only
    generalize sA s1 13 (96 + 0) (c32 cs.length) = s2 at *
    rcases W_one (n := n) (i := 3) (w := 3) ok hS hn (by omega) (by omega) wb_17.2.2.2.2 hA2 hP2 q2 (x := 3) with ⟨y1, y2, y3⟩ | ⟨at3, y0, y1, y2, y3⟩
    · rw [wb_17l.2.2.2.2] at y1 y2 y3
      have eN : nA (ps C σ1 (at1 + 4) 0 1) 1 (4 : Int32) (.inl (fun _ => 0)) = some (nw (ps C σ1 (at1 + 4) 0 1) (.inl (1, 4, .inl (fun _ => 0))) 4) := rfl
      rw [ox y2, ob eN, ob y3]
      have hA3 : PA C (nw (ps C σ1 (at1 + 4) 0 1) (.inl (1, 4, .inl (fun _ => 0))) 4) (at1 + 4) 0 1 := hA2.ps.nwc
      have hx3 : Ext C.P σ1 (nw (ps C σ1 (at1 + 4) 0 1) (.inl (1, 4, .inl (fun _ => 0))) 4) := Ext.mvP.trans Ext.nwc
      have hne := hA.ne (q := σ1.1) hs1
      have hR3 : onR (nw (ps C σ1 (at1 + 4) 0 1) (.inl (1, 4, .inl (fun _ => 0))) 4) σ1.1 [] := ⟨_, nw_at _ _ _, fun i m h => by cases h⟩
      have hsz3 : (nw (ps C σ1 (at1 + 4) 0 1) (.inl (1, 4, .inl (fun _ => 0))) 4).1 = σ1.1 + 1 := rfl
      have hsl3 : (nw (ps C σ1 (at1 + 4) 0 1) (.inl (1, 4, .inl (fun _ => 0))) 4).2.1 = σ1.2.1 + 4 := rfl
      have hq3 : (ps C σ1 (at1 + 4) 0 1).1 = σ1.1 := rfl
      rw [hq3]
      generalize nw (ps C σ1 (at1 + 4) 0 1) (.inl (1, 4, .inl (fun _ => 0))) 4 = σ3 at *
      dsimp only
      rcases O_loop (n := n) (e := some r1) (q := σ1.1) (cs := cs ++ (l1 ++ [14])) ok hn hne 4 [] σ3 (sI s2 4 (c32 (at1 + 4))) (at1 + 4) n n rfl (by omega) (by omega) (by omega) hA3 hP2.p hM2 y1 hR3 (fun i m h => by cases h) (fun m h => by cases h) with ⟨at_, ms, σ4, st4, w1, w2, w3, w4, w5, w6, w7, w8, w9, w10, w11, w12, w13, w14, w15, w16, w17⟩ | ⟨at_, σ4, st4, w1, w2, w3, w4, w5, w6, w7, w8, w9⟩
      · have w5 : af_X3_on_S22 n C.S n σ3 C.P (some r1) (some σ1.1) (0 : Int32) = af_X3_on_L46 n C.S σ4 C.P (some r1) (some σ1.1) (c32 ms.length) := w5
        have w11 : bf_choice_S19 n n (sI s2 4 (c32 (at1 + 4))) (0 : Int32) = some (st4, ()) := w11
        rw [w5, w11]
        unfold af_X3_on_L46
        have eN2 : nA σ4 1 (c32 ms.length) (.inl (fun _ => 0)) = some (nw σ4 (.inl (1, ms.length, .inl (fun _ => 0))) ms.length) := by
          unfold nA
          rw [if_neg (fun z => by
            rcases z with z | z
            · exact c_nn (by omega) z
            · rw [c_nat (by omega)] at z; omega), c_nat (by omega)]
          rfl
        rw [ob eN2]
        obtain ⟨F, hF, hF2'⟩ := w7
        have hq41 : σ1.1 < σ4.1 := by rw [w8, hsz3]; omega
        obtain ⟨σ5, G, c1, c2, c3, c4, c5, c6⟩ := O_copy (C := C) (n := n) (e := some r1) (q := σ1.1) (q2 := σ4.1) (c := ms.length) w3 (by omega) (F := F) ms.length 0 n (nw σ4 (.inl (1, ms.length, .inl (fun _ => 0))) ms.length) (fun _ => 0) (by omega) (by omega) (by rw [nw_ne _ _ _ (by omega)]; exact hF) (nw_at _ _ _) (fun j hj => by omega)
        have c1 : af_X3_on_S54 n C.S n (nw σ4 (.inl (1, ms.length, .inl (fun _ => 0))) ms.length) C.P (some r1) (some σ1.1) (c32 ms.length) (some σ4.1) (0 : Int32) = _ := c1
        rw [c1]
        have c2 : σ5.1 = σ4.1 + 1 := c2
        have c3 : σ5.2.1 = σ4.2.1 + ms.length := c3
        have hne4 := hA.ne (q := σ4.1) (by omega)
        have hne5 := hA.ne (q := σ5.1) (by omega)
        have hA5 : PA C σ5 at_ 0 1 := A_onwI (σ := nw σ4 (.inl (1, ms.length, .inl (fun _ => 0))) ms.length) w6.nwc hne4 c2 c4
        rw [oc (i_X16 (nw_at _ _ _))]
        have hx15 : Ext C.P σ1 σ5 := by
          refine ⟨by omega, fun p p1 p2 => ?_⟩
          rw [c4 p (by omega), nw_ne _ _ _ (by omega), w10 p (by omega) p2, hx3.2 p p1 p2]
        have hxx : Ext C.P σ1 (mv (nw σ5 (.inr (15, [.null, .null])) 2) σ5.1 (.inr (15, [va_rf (some r1), va_rf (some σ4.1)]))) := (hx15.trans Ext.nwc).new (by omega)
        have hlm : ms.length ≤ 4 := w3
        refine Or.inl ⟨at_, _, σ5.1, st4, _, w1, rfl, ⟨0, 1, PA.mvq hA5.nwc hne5.1 hne5.2.1 hne5.2.2⟩, (hx1.trans hx2).trans hxx, by show σ5.1 + 1 ≤ _; omega, by show σ5.2.1 + 2 ≤ _; omega, rfl, ⟨0, w12⟩, w13, by omega, hF2.trans (BE.i4.f.trans w16), ?_⟩
        refine ⟨r1, σ4.1, G, ms.length, hi_at (mv_at _ _ _) (by omega) (by show σ5.1 < σ5.1 + 1; omega), hi_at (by rw [mv_ne _ _ (by omega), nw_ne _ _ _ (by omega)]; exact c5) (by omega) (by show σ4.1 < σ5.1 + 1; omega), w2, w3, w15, fun i hi => ?_, l1, ?_, by omega, ?_⟩
        · have hgi : ms[i]? = some ms[i] := List.getElem?_eq_getElem hi
          obtain ⟨m1, m2⟩ := w4 ms[i] (List.getElem_mem hi)
          exact ⟨ms[i], m1, m2, by rw [c6 i hi]; exact hF2' i _ hgi, w14 i _ hgi⟩
        · exact (ex.map (hi_le hxx hPlt (Nat.le_refl _)) _ _ _ hex1).up (by omega)
        · have h7 := R24_of (cs := cs) (l := l1 ++ [14]) (x := []) (i := 0) (st := st4) (by rw [List.append_nil]; exact w13) (by rw [w17]; exact hw2)
          rw [List.append_nil] at h7
          exact h7
      · have w2 : af_X3_on_S22 n C.S n σ3 C.P (some r1) (some σ1.1) (0 : Int32) = some (σ4, .inr 0) := w2
        have w7 : bf_choice_S19 n n (sI s2 4 (c32 (at1 + 4))) (0 : Int32) = some (st4, ()) := w7
        rw [w2, w7]
        have hx4 : Ext C.P σ1 σ4 := ⟨by omega, fun p p1 p2 => (w6 p (by omega) p2).trans (hx3.2 p p1 p2)⟩
        exact Or.inr ⟨at_, σ4, st4, w1, rfl, ⟨_, _, w3⟩, (hx1.trans hx2).trans hx4, by omega, by omega, rfl, DM.e (w8.m.up (by omega)), hF2.trans (BE.i4.f.trans w9)⟩
    · have hD : DB C (sI (sI s2 4 (c32 at3)) 7 1) at3 130 := ⟨0, (cs ++ (l1 ++ [14])).length, hP2.p.b, (by exact hM2.1), by omega⟩
      obtain ⟨s', e, g1, g2⟩ := T3 _ _ _ hD
      rw [oxr y2, ob y3]
      dsimp only
      exact KN_of rfl y1 ⟨_, _, hA2.ps.th⟩ ((hx1.trans hx2).trans Ext.mvP).th (by show σ1.1 + 1 ≤ _; omega) (by show σ1.2.1 + 6 ≤ _; omega) e g1 (by omega) hF2 ((BE.i4.trans BE.i7).f.trans g2)
  · have t1 : σ1.1 ≤ σ.1 + (at1 - a) + 2 := t1
    have t2 : σ1.2.1 ≤ σ.2.1 + 3 * (at1 - a) + 9 := t2
    rw [oxr e1, ob e2, ob (b_setExpr (k := 0) (by omega))]
    obtain ⟨s3, e3, g1, g2⟩ := D_word (n := n) (lo := 3) (c := 1) (x := 3) (y := 3) ok (hD1.set (k := 13) (i := 96 + 0) (v := c32 cs.length) (by decide)) q2 (by omega) (by omega) hn
    obtain ⟨s', e, g3, g4⟩ := T3 s3 at1 _ g1
    dsimp only
    rw [ob e3]
    dsimp only
    exact KN_of rfl q2 ⟨_, _, hA2⟩ (hx1.trans hx2) (by omega) (by omega) e g3 (by omega) (hF1.trans (BF.e (by omega))) (g2.trans g4)
end KINDS5
