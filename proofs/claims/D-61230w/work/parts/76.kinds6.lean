/-! THE PURE LAW: DATA -/
section KINDS6
variable {C : pC} {n : Nat}
def daR (σ : aS) (q : Nat) (ds : List (Nat × Nat × Nat)) : Prop := ∃ f, σ.2.2 q = some (.inl (2, 6, .inr (.inr (.inr (.inl f))))) ∧ ∀ i d, ds[i]? = some d → f i = dval d
def daM (ds : List (Nat × Nat × Nat)) : Prop := ∀ d ∈ ds, dok d
theorem daR.up {σ : aS} {q : Nat} {ds : List (Nat × Nat × Nat)} {d : Nat × Nat × Nat} (h : daR σ q ds) (hl : ds.length < 6) : ∃ σ', wD σ q (c32 ds.length) (dval d) = some σ' ∧ σ'.1 = σ.1 ∧ σ'.2.1 = σ.2.1 ∧ (∀ p, p ≠ q → σ'.2.2 p = σ.2.2 p) ∧ daR σ' q (ds ++ [d]) := by
  obtain ⟨f, h1, h2⟩ := h
  refine ⟨_, wD_of h1 hl (by omega), rfl, rfl, fun p hp => mv_ne _ _ hp, _, mv_at _ _ _, fun i m hi => ?_⟩
  show (if i = ds.length then dval d else f i) = _
  by_cases g : i = ds.length
  · subst g
    rw [if_pos rfl]
    rw [List.getElem?_append_right (Nat.le_refl _), Nat.sub_self] at hi
    cases hi
    rfl
  · rw [if_neg g]
    have hlt : i < ds.length := by
      have := (List.getElem?_eq_some_iff.mp hi).1
      rw [List.length_append] at this
      have : i < ds.length + 1 := this
      omega
    rw [List.getElem?_append_left hlt] at hi
    exact h2 i m hi
theorem A_daw {σ σ' : aS} {q a : Nat} (hA : PA C σ a 0 0) (hne : q ≠ C.P ∧ q ≠ C.X ∧ q ≠ C.W) (h1 : σ'.1 = σ.1) (h2 : ∀ p, p ≠ q → σ'.2.2 p = σ.2.2 p) : PA C σ' a 0 0 :=
  ⟨by rw [h2 _ hne.1.symm]; exact hA.1, by rw [h2 _ hne.2.1.symm]; exact hA.2.1, by rw [h2 _ hne.2.2.symm]; exact hA.2.2.1, by rw [h1]; exact hA.2.2.2.1, by rw [h1]; exact hA.2.2.2.2.1, by rw [h1]; exact hA.2.2.2.2.2⟩
theorem dc_app (ds : List (Nat × Nat × Nat)) (d : Nat × Nat × Nat) : (ds ++ [d]).flatMap dcode = ds.flatMap dcode ++ dcode d := by simp
/-- one number, with its sign -/
theorem D_num (ok : pOk C) (hn : 1000 ≤ n) {σ : aS} {st : bS} {a : Nat} {cs : List Nat} {sg : Nat} (hA : PA C σ a 0 0) (hP : BP C st a 0 0) (hM : BM st cs) (hp : a ≤ C.N) (hb : cs.length + 4 ≤ 150) (hsg : sg ≤ 1) :
    (∃ at_ w pl st1, a < at_ ∧ at_ ≤ C.N ∧ w < 1000000000 ∧ pl < 4 ∧ af_X3_numeral n C.S σ C.P = some (ps C σ at_ 0 0, .inl (nuV w pl)) ∧ ((bf_make n st (c32 sg)).bind fun q_1 => bf_numeral n q_1.1) = some (st1, ()) ∧ BP C st1 at_ 0 0 ∧ BM st1 (cs ++ [sg, 0, w, pl]) ∧ BE st st1) ∨
    (∃ at_ st1, a ≤ at_ ∧ at_ ≤ C.N ∧ af_X3_numeral n C.S σ C.P = some (aTh (ps C σ at_ 0 0), .inr 0) ∧ ((bf_make n st (c32 sg)).bind fun q_1 => bf_numeral n q_1.1) = some (st1, ()) ∧ DM C st1 at_ (cs.length + 4) ∧ BE st st1) := by
  have hN := ok.1
  obtain ⟨u1, u2, u3, u4, u5⟩ := nuS_le (C := C) hp
  rw [ob (b_make hM.1 (by omega))]
  have hP1 : BP C (mk st cs.length (c32 sg)) a 0 0 := hP.mk
  have hM1 : BM (mk st cs.length (c32 sg)) (cs ++ [sg]) := hM.mk
  have hE1 : BE st (mk st cs.length (c32 sg)) := BE.mk
  have hl1 : (cs ++ [sg]).length = cs.length + 1 := List.length_append
  dsimp only
  generalize mk st cs.length (c32 sg) = s1 at *
  by_cases hg : (nuS C a).1 = true
  · have e1 := B_numeral_t (n := n) (m := (cs ++ [sg]).length) ok hP1 hp (by omega) hM1.1 (by omega) hg
    have hM2 := bm_mk3 (st := sI s1 4 (c32 (nuS C a).2.2.2)) (cs := cs ++ [sg]) (a := 0) (b := (nuS C a).2.1) (d := (nuS C a).2.2.1) hM1
    have hc : cs ++ [sg] ++ [0, (nuS C a).2.1, (nuS C a).2.2.1] = cs ++ [sg, 0, (nuS C a).2.1, (nuS C a).2.2.1] := by simp
    rw [hc] at hM2
    have hE2 : BE st (mk (mk (mk (sI s1 4 (c32 (nuS C a).2.2.2)) (cs ++ [sg]).length (c32 0)) ((cs ++ [sg]).length + 1) (c32 (nuS C a).2.1)) ((cs ++ [sg]).length + 2) (c32 (nuS C a).2.2.1)) := hE1.trans (BE.i4.trans (BE.mk.trans (BE.mk.trans BE.mk)))
    have hP2 : BP C (mk (mk (mk (sI s1 4 (c32 (nuS C a).2.2.2)) (cs ++ [sg]).length (c32 0)) ((cs ++ [sg]).length + 1) (c32 (nuS C a).2.1)) ((cs ++ [sg]).length + 2) (c32 (nuS C a).2.2.1)) (nuS C a).2.2.2 0 0 := BP.mk (BP.mk (BP.mk hP1.p))
    by_cases hd : dig (ch C (nuS C a).2.2.2)
    · exact Or.inr ⟨(nuS C a).2.2.2, _, u1, u2, A_numeral_f ok hA hp (by omega) (Or.inr hd), e1, ⟨0, _, 0, hP2, Or.inr ⟨rfl, hd⟩, mk_6, by omega⟩, hE2⟩
    · exact Or.inl ⟨(nuS C a).2.2.2, (nuS C a).2.1, (nuS C a).2.2.1, _, u5 hg, u2, u3, by omega, A_numeral_t ok hA hp (by omega) hg hd, e1, hP2, hM2, hE2⟩
  · have hg : (nuS C a).1 = false := by
      cases h : (nuS C a).1 with
      | true => exact absurd h hg
      | false => rfl
    obtain ⟨st', e, h1, h2, h3, h4⟩ := B_numeral_f (n := n) (m := (cs ++ [sg]).length) ok hP1 hp (by omega) hM1.1 (by omega) hg
    exact Or.inr ⟨(nuS C a).2.2.2, st', u1, u2, A_numeral_f ok hA hp (by omega) (Or.inl hg), e, ⟨0, _, 1, h1, Or.inl rfl, h4, by omega⟩, hE1.trans h2⟩
theorem DA_loop (ok : pOk C) (hn : 1000 ≤ n) {q : Nat} (hne : q ≠ C.P ∧ q ≠ C.X ∧ q ≠ C.W) {cs : List Nat} : ∀ (k : Nat) (ds : List (Nat × Nat × Nat)) (σ : aS) (st : bS) (a f g : Nat) (zo : Option Nat) (zi : Int32) (zd : UInt64) (zb : Int32), ds.length + k = 6 → 1 ≤ k → 2 * k + 1 ≤ f → 2 * k + 1 ≤ g → PA C σ a 0 0 → BP C st a 0 0 → BM st (cs ++ ds.flatMap dcode) → (cs ++ ds.flatMap dcode).length ≤ 2 * a → a ≤ C.N → daR σ q ds → daM ds →
    (∃ at_ ds' σ' st', at_ ≤ C.N ∧ 1 ≤ ds'.length ∧ ds'.length ≤ 6 ∧ daM ds' ∧ af_X3_data_S7 n C.S f 0 σ C.P (some q) (c32 ds.length) zo zi zd = af_X3_data_L53 n C.S σ' C.P (some q) (c32 ds'.length) ∧ PA C σ' at_ 0 0 ∧ daR σ' q ds' ∧ σ'.1 = σ.1 ∧ σ'.2.1 = σ.2.1 ∧ (∀ p, p ≠ q → p ≠ C.P → σ'.2.2 p = σ.2.2 p) ∧ bf_numbers_S11 n g 0 st (c32 ds.length) zb = some (st', ()) ∧ BP C st' at_ 0 0 ∧ BM st' (cs ++ ds'.flatMap dcode) ∧ (cs ++ ds'.flatMap dcode).length ≤ 2 * at_ + 2 ∧ st'.2.1 12 192 = c32 ds'.length ∧ BF st st' ∧ st'.2.1 13 = st.2.1 13) ∨
    (∃ at_ σ' st', at_ ≤ C.N ∧ af_X3_data_S7 n C.S f 0 σ C.P (some q) (c32 ds.length) zo zi zd = some (σ', .inr 0) ∧ PA C σ' at_ 0 0 ∧ σ'.1 = σ.1 + 1 ∧ σ'.2.1 = σ.2.1 + 6 ∧ (∀ p, p ≠ q → p ≠ C.P → σ'.2.2 p = σ.2.2 p) ∧ bf_numbers_S11 n g 0 st (c32 ds.length) zb = some (st', ()) ∧ DM C st' at_ 130 ∧ BF st st') := by
  have hN := ok.1
  intro k
  induction k with
  | zero => intro ds σ st a f g zo zi zd zb hk h1; omega
  | succ k ih =>
    intro ds σ st a f g zo zi zd zb hk h1 hf hg hA hP hM hb hp hR hm
    obtain ⟨f, rfl⟩ : ∃ f', f = f' + 1 + 1 := ⟨f - 2, by omega⟩
    obtain ⟨g, rfl⟩ : ∃ g', g = g' + 1 + 1 := ⟨g - 2, by omega⟩
    have e0 : c32 ds.length + 1 = c32 (ds.length + 1) := c_add _ 1
    -- the sign
    have hsign : ∃ a1 sg, a ≤ a1 ∧ a1 ≤ C.N ∧ sg ≤ 1 ∧ af_X3_takes n C.S σ C.P (45 : Int32) = some (ps C σ a1 0 0, c32 sg) ∧ bf_take n st (45 : Int32) = some (sI st 4 (c32 a1), c32 sg) := by
      by_cases h45 : ch C a = 45
      · have hin := ch_in (C := C) (i := a) (by omega)
        exact ⟨a + 1, 1, by omega, by omega, by omega, A_takes_t (c := 45) ok hA (by omega) h45 (by omega), b_take_t (c := 45) ok hP (by omega) h45⟩
      · refine ⟨a, 0, Nat.le_refl _, hp, by omega, ?_, ?_⟩
        · rw [A_takes_f (c := 45) ok hA (by omega) (by omega) h45, ps_self hA]
          rfl
        · rw [b_take_f (c := 45) ok hP (by omega) (by omega) h45, sI_self hP.2.2.1]
          rfl
    obtain ⟨a1, sg, s1, s2, s3, s4, s5⟩ := hsign
    have hA1 : PA C (ps C σ a1 0 0) a1 0 0 := hA.ps
    have hP1 : BP C (sI st 4 (c32 a1)) a1 0 0 := hP.p
    have hM1 : BM (sI st 4 (c32 a1)) (cs ++ ds.flatMap dcode) := hM
    have eB1 : bf_numbers_S11 n (g + 1 + 1) 0 st (c32 ds.length) zb = bf_numbers_S11 n (g + 1) 1 (sI st 4 (c32 a1)) (c32 ds.length) (c32 sg) := by
      rw [bf_numbers_S11, if_pos rfl, bf_numbers_B11, if_pos hP.2.2.2.2, if_neg (fun z => by have := (c_le (a := 6) (b := ds.length) (by omega) (by omega)).mp z; omega), ob s5]
      dsimp only
      by_cases g0 : sg = 0
      · rw [if_pos (by rw [g0]; rfl), g0]
        rfl
      · have : sg = 1 := by omega
        rw [if_neg (by rw [this]; exact n10), this]
        rfl
    have eA1 : af_X3_data_S7 n C.S (f + 1 + 1) 0 σ C.P (some q) (c32 ds.length) zo zi zd = xb (af_X3_numeral n C.S (ps C σ a1 0 0) C.P) fun st_4 v_5 => if c32 sg = 0 then af_X3_data_S7 n C.S (f + 1) 1 st_4 C.P (some q) (c32 ds.length) (some q) (c32 ds.length) v_5 else af_X3_data_S7 n C.S (f + 1) 1 st_4 C.P (some q) (c32 ds.length) (some q) (c32 ds.length) (FP.dneg v_5) := by
      rw [af_X3_data_S7, if_pos rfl, af_X3_data_B7, ob (A_cls hA), oc s4, ob (A_cls hA1)]
    have eL67 : ∀ s : bS, bf_numbers_L67 n s (c32 (ds.length + 1)) = some (sA s 12 (192 + 0) (c32 (ds.length + 1)), ()) := by
      intro s
      unfold bf_numbers_L67
      rw [ob (b_setArg (k := 0) (by omega))]
    rcases D_num (sg := sg) ok hn hA1 hP1 hM1 s2 (by omega) s3 with ⟨at1, w, pl, st1, w1, w2, w3, w4, w5, w6, w7, w8, w9⟩ | ⟨at1, st1, w1, w2, w5, w6, w7, w9⟩
    · have hd : dok (sg, w, pl) := ⟨s3, w3, w4⟩
      have hdv : (if c32 sg = 0 then nuV w pl else FP.dneg (nuV w pl)) = dval (sg, w, pl) := by
        unfold dval
        by_cases g0 : sg = 0
        · rw [if_pos (by rw [g0]; rfl), if_neg (by show ¬ sg = 1; omega)]
        · rw [if_neg (by exact n_c (b := 0) (by omega) (by omega) g0), if_pos (by show sg = 1; omega)]
      have hR1 : daR (ps C (ps C σ a1 0 0) at1 0 0) q ds := by
        obtain ⟨f0, r1, r2⟩ := hR
        exact ⟨f0, by rw [mv_ne _ _ hne.1, mv_ne _ _ hne.1]; exact r1, r2⟩
      obtain ⟨σ1, ew, z1, z2, z3, z4⟩ := hR1.up (d := (sg, w, pl)) (by omega)
      have hA2 : PA C σ1 at1 0 0 := A_daw (hA1.ps (a' := at1) (o' := 0) (g' := 0)) hne z1 z3
      have hm1 : daM (ds ++ [(sg, w, pl)]) := by
        intro d hmm
        rcases List.mem_append.mp hmm with hmm | hmm
        · exact hm d hmm
        · rcases List.mem_cons.mp hmm with rfl | hmm
          · exact hd
          · cases hmm
      have hl1 : (ds ++ [(sg, w, pl)]).length = ds.length + 1 := List.length_append
      have hfr : ∀ p, p ≠ q → p ≠ C.P → σ1.2.2 p = σ.2.2 p := fun p h1 h2 => (z3 p h1).trans ((mv_ne _ _ h2).trans (mv_ne _ _ h2))
      have hcode : cs ++ ds.flatMap dcode ++ [sg, 0, w, pl] = cs ++ (ds ++ [(sg, w, pl)]).flatMap dcode := by
        rw [dc_app, List.append_assoc]
        rfl
      have hlc : (cs ++ (ds ++ [(sg, w, pl)]).flatMap dcode).length = (cs ++ ds.flatMap dcode).length + 4 := by rw [← hcode, List.length_append]; rfl
      rw [hcode] at w8
      have eA2 : af_X3_data_S7 n C.S (f + 1 + 1) 0 σ C.P (some q) (c32 ds.length) zo zi zd = if (6 : Int32) ≤ c32 (ds.length + 1) then af_X3_data_L53 n C.S σ1 C.P (some q) (c32 (ds.length + 1)) else (gC σ1 C.P 2).bind fun _ => cb (af_X3_takes n C.S σ1 C.P (44 : Int32)) fun st_4 v_5 => if v_5 = 0 then af_X3_data_L53 n C.S st_4 C.P (some q) (c32 (ds.length + 1)) else af_X3_data_S7 n C.S f 0 st_4 C.P (some q) (c32 (ds.length + 1)) none 0 0 := by
        have e9 : af_X3_data_S7 n C.S (f + 1) 1 (ps C (ps C σ a1 0 0) at1 0 0) C.P (some q) (c32 ds.length) (some q) (c32 ds.length) (dval (sg, w, pl)) = if (6 : Int32) ≤ c32 (ds.length + 1) then af_X3_data_L53 n C.S σ1 C.P (some q) (c32 (ds.length + 1)) else (gC σ1 C.P 2).bind fun _ => cb (af_X3_takes n C.S σ1 C.P (44 : Int32)) fun st_4 v_5 => if v_5 = 0 then af_X3_data_L53 n C.S st_4 C.P (some q) (c32 (ds.length + 1)) else af_X3_data_S7 n C.S f 0 st_4 C.P (some q) (c32 (ds.length + 1)) none 0 0 := by
          have eq0 : some q = some q := rfl
          rw [af_X3_data_S7, if_neg (by decide), af_X3_data_B34, ob eq0, ob ew, e0]
        rw [eA1, ox w5, ← e9, ← hdv]
        by_cases g0 : c32 sg = 0
        · rw [if_pos g0, if_pos g0]
        · rw [if_neg g0, if_neg g0]
      have eB2 : bf_numbers_S11 n (g + 1 + 1) 0 st (c32 ds.length) zb = if c32 (ds.length + 1) = (6 : Int32) then bf_numbers_L67 n st1 (c32 (ds.length + 1)) else (bf_take n st1 (44 : Int32)).bind fun q_4 => if q_4.2 = 0 then bf_numbers_L67 n q_4.1 (c32 (ds.length + 1)) else bf_numbers_S11 n g 0 q_4.1 (c32 (ds.length + 1)) 0 := by
        rw [eB1, bf_numbers_S11, if_neg (by decide), bf_numbers_B39, e0]
        have hh := w6
        cases hmk : bf_make n (sI st 4 (c32 a1)) (c32 sg) with
        | none => rw [hmk] at hh; cases hh
        | some qq =>
          rw [hmk] at hh
          have hh : bf_numeral n qq.1 = some (st1, ()) := hh
          show (bf_numeral n qq.1).bind _ = _
          rw [ob hh]
      rw [eA2, eB2]
      have hF1 : BF st st1 := BE.i4.f.trans w9.f
      have h13 : st1.2.1 13 = st.2.1 13 := w9.2.1 13 (by decide) (by decide)
      have fin : ∀ (X : Option (aS × (Option Nat ⊕ Nat))) (Y : Option (bS × Unit)), X = af_X3_data_L53 n C.S σ1 C.P (some q) (c32 (ds.length + 1)) → Y = bf_numbers_L67 n st1 (c32 (ds.length + 1)) →
          ∃ at_ ds' σ' st', at_ ≤ C.N ∧ 1 ≤ ds'.length ∧ ds'.length ≤ 6 ∧ daM ds' ∧ X = af_X3_data_L53 n C.S σ' C.P (some q) (c32 ds'.length) ∧ PA C σ' at_ 0 0 ∧ daR σ' q ds' ∧ σ'.1 = σ.1 ∧ σ'.2.1 = σ.2.1 ∧ (∀ p, p ≠ q → p ≠ C.P → σ'.2.2 p = σ.2.2 p) ∧ Y = some (st', ()) ∧ BP C st' at_ 0 0 ∧ BM st' (cs ++ ds'.flatMap dcode) ∧ (cs ++ ds'.flatMap dcode).length ≤ 2 * at_ + 2 ∧ st'.2.1 12 192 = c32 ds'.length ∧ BF st st' ∧ st'.2.1 13 = st.2.1 13 := by
        intro X Y hX hY
        refine ⟨at1, ds ++ [(sg, w, pl)], σ1, sA st1 12 (192 + 0) (c32 (ds.length + 1)), w2, by omega, by omega, hm1, by rw [hl1]; exact hX, hA2, z4, z1, z2, hfr, by rw [hY, eL67], w7.set (by decide), w8.set (by decide), by omega, ?_, hF1.trans (BF.a (by omega)), (sA_ne _ (by decide)).trans h13⟩
        rw [hl1, sA_at, if_pos rfl, if_pos rfl]
      by_cases g6 : ds.length + 1 = 6
      · refine Or.inl (fin _ _ ?_ ?_)
        · rw [if_pos (by exact (c_le (a := 6) (b := ds.length + 1) (by omega) (by omega)).mpr (by omega))]
        · rw [if_pos (by rw [g6]; rfl)]
      · by_cases h44 : ch C at1 = 44
        · have hin := ch_in (C := C) (i := at1) (by omega)
          have hA3 : PA C (ps C σ1 (at1 + 1) 0 0) (at1 + 1) 0 0 := hA2.ps
          have hR3 : daR (ps C σ1 (at1 + 1) 0 0) q (ds ++ [(sg, w, pl)]) := by
            obtain ⟨f0, r1, r2⟩ := z4
            exact ⟨f0, by rw [mv_ne _ _ hne.1]; exact r1, r2⟩
          have i2 := ih (ds ++ [(sg, w, pl)]) (ps C σ1 (at1 + 1) 0 0) (sI st1 4 (c32 (at1 + 1))) (at1 + 1) f g none 0 0 0 (by omega) (by omega) (by omega) (by omega) hA3 w7.p w8 (by omega) (by omega) hR3 hm1
          rw [hl1] at i2
          rw [if_neg (fun z => by have := (c_le (a := 6) (b := ds.length + 1) (by omega) (by omega)).mp z; omega), ob (A_cls hA2), oc (A_takes_t (c := 44) ok hA2 (by omega) h44 (by omega)), if_neg n10, if_neg (by exact n_c (b := 6) (by omega) (by omega) g6), ob (b_take_t (c := 44) ok w7 (by omega) h44), if_neg n10]
          rcases i2 with ⟨at_, ds', σ', st', v1, v2, v3, v4, v5, v6, v7, v8, v9, v10, v11, v12, v13, v14, v15, v16, v17⟩ | ⟨at_, σ', st', v1, v2, v3, v4, v5, v6, v7, v8, v9⟩
          · exact Or.inl ⟨at_, ds', σ', st', v1, v2, v3, v4, v5, v6, v7, v8.trans z1, v9.trans z2, fun p h1 h2 => (v10 p h1 h2).trans ((mv_ne _ _ h2).trans (hfr p h1 h2)), v11, v12, v13, v14, v15, hF1.trans (BE.i4.f.trans v16), v17.trans h13⟩
          · exact Or.inr ⟨at_, σ', st', v1, v2, v3, v4.trans (by show σ1.1 + 1 = _; rw [z1]; rfl), v5.trans (by show σ1.2.1 + 6 = _; rw [z2]; rfl), fun p h1 h2 => (v6 p h1 h2).trans ((mv_ne _ _ h2).trans (hfr p h1 h2)), v7, v8, hF1.trans (BE.i4.f.trans v9)⟩
        · refine Or.inl (fin _ _ ?_ ?_)
          · rw [if_neg (fun z => by have := (c_le (a := 6) (b := ds.length + 1) (by omega) (by omega)).mp z; omega), ob (A_cls hA2), oc (A_takes_f (c := 44) ok hA2 (by omega) (by omega) h44), if_pos rfl]
          · rw [if_neg (by exact n_c (b := 6) (by omega) (by omega) g6), ob (b_take_f (c := 44) ok w7 (by omega) (by omega) h44), if_pos rfl]
    · rw [eA1, oxr w5]
      refine Or.inr ⟨at1, _, sA st1 12 (192 + 0) (c32 (ds.length + 1)), w2, rfl, PA.th (PA.ps hA1), rfl, rfl, fun p h1 h2 => (mv_ne _ _ h2).trans (mv_ne _ _ h2), ?_, (w7.set (by decide)).up (by omega), BE.i4.f.trans (w9.f.trans (BF.a (by omega)))⟩
      rw [eB1, bf_numbers_S11, if_neg (by decide), bf_numbers_B39, e0]
      have hh := w6
      cases hmk : bf_make n (sI st 4 (c32 a1)) (c32 sg) with
      | none => rw [hmk] at hh; cases hh
      | some qq =>
        rw [hmk] at hh
        have hh : bf_numeral n qq.1 = some (st1, ()) := hh
        show (bf_numeral n qq.1).bind _ = _
        rw [ob hh]
        dsimp only
        by_cases g6 : c32 (ds.length + 1) = (6 : Int32)
        · rw [if_pos g6, eL67]
        · rw [if_neg g6, ob (D_take (c := 44) ok w7 (by omega) (by omega) (by unfold dig; omega)), if_pos rfl, eL67]
/-- the row of just as many -/
theorem DA_copy {q q2 c : Nat} (hc : c ≤ 6) (hq : q ≠ q2) {F : Nat → UInt64} : ∀ (k i f : Nat) (σ : aS) (G : Nat → UInt64), i + k = c → k + 1 ≤ f → σ.2.2 q = some (.inl (2, 6, .inr (.inr (.inr (.inl F))))) → σ.2.2 q2 = some (.inl (2, c, .inr (.inr (.inr (.inl G))))) → (∀ j, j < i → G j = F j) →
    ∃ σ' G', af_X3_data_S60 n C.S f σ C.P (some q) (c32 c) (some q2) (c32 i) = (cb (af_X22_init n C.S (nw σ' (.inr (21, [.null])) 1) σ'.1 (some q2)) fun st_3 _ => some (st_3, .inl (some σ'.1)) : Option (aS × (Option Nat ⊕ Nat))) ∧ σ'.1 = σ.1 ∧ σ'.2.1 = σ.2.1 ∧ (∀ p, p ≠ q2 → σ'.2.2 p = σ.2.2 p) ∧ σ'.2.2 q2 = some (.inl (2, c, .inr (.inr (.inr (.inl G'))))) ∧ ∀ j, j < c → G' j = F j := by
  intro k
  induction k with
  | zero =>
    intro i f σ G hi hf h1 h2 h3
    obtain ⟨f, rfl⟩ : ∃ f', f = f' + 1 := ⟨f - 1, by omega⟩
    have : i = c := by omega
    subst this
    exact ⟨σ, G, by rw [af_X3_data_S60, af_X3_data_B60, if_pos (by exact (c_le (by omega) (by omega)).mpr (Nat.le_refl _)), ob (nO_eq _ _ _ _)], rfl, rfl, fun _ _ => rfl, h2, h3⟩
  | succ k ih =>
    intro i f σ G hi hf h1 h2 h3
    obtain ⟨f, rfl⟩ : ∃ f', f = f' + 1 := ⟨f - 1, by omega⟩
    obtain ⟨σ', G', e1, e2, e3, e4, e5, e6⟩ := ih (i + 1) f (mv σ q2 (.inl (2, c, .inr (.inr (.inr (.inl (vf_upd G i (F i)))))))) (vf_upd G i (F i)) (by omega) (by omega) (by rw [mv_ne _ _ hq]; exact h1) (mv_at _ _ _) (fun j hj => by
      show (if j = i then F i else G j) = _
      by_cases g : j = i
      · rw [if_pos g, g]
      · rw [if_neg g]; exact h3 j (by omega))
    refine ⟨σ', G', ?_, e2, e3, fun p hp => (e4 p hp).trans (mv_ne _ _ hp), e5, e6⟩
    rw [af_X3_data_S60, af_X3_data_B60, if_neg (fun z => by have := (c_le (a := c) (b := i) (by omega) (by omega)).mp z; omega)]
    show (lD σ q (c32 i)).bind _ = _
    rw [ob (lD_of h1 (by omega) (by omega))]
    show (wD σ q2 (c32 i) (F i)).bind _ = _
    rw [ob (wD_of h2 (by omega) (by omega))]
    show af_X3_data_S60 n C.S f _ C.P (some q) (c32 c) (some q2) (c32 i + c32 1) = _
    rw [c_add]
    exact e1
theorem K_10 (ok : pOk C) (hn : 1000 ≤ n) {σ : aS} {st : bS} {a : Nat} {cs : List Nat} (J : JS C σ st a 0 0 cs) : KO C σ (af_X3_statement_L379 n C.S σ C.P 10) st (bf_numbers n st) 10 := by
  have hN := ok.1
  obtain ⟨hA, hP, hM, hp, hb⟩ := J
  have hPlt := hA.2.2.2.1
  unfold af_X3_statement_L379
  rw [if_neg (by decide), if_neg (by decide), if_neg (by decide), if_neg (by decide), if_neg (by decide), if_neg (by decide), if_neg (by decide), if_neg (by decide), if_neg (by decide), if_neg (by decide), if_pos rfl, ob (A_cls hA), xb_id]
  unfold af_X3_data bf_numbers
  have eN : nA σ 2 (6 : Int32) (.inr (.inr (.inr (.inl (fun _ => 0))))) = some (nw σ (.inl (2, 6, .inr (.inr (.inr (.inl (fun _ => 0)))))) 6) := rfl
  rw [ob eN, ob (b_setExpr (k := 0) (by omega)), hM.1]
  have hA3 : PA C (nw σ (.inl (2, 6, .inr (.inr (.inr (.inl (fun _ => 0)))))) 6) a 0 0 := hA.nwc
  have hx3 : Ext C.P σ (nw σ (.inl (2, 6, .inr (.inr (.inr (.inl (fun _ => 0)))))) 6) := Ext.nwc
  have hne := hA.ne (q := σ.1) (by omega)
  have hR3 : daR (nw σ (.inl (2, 6, .inr (.inr (.inr (.inl (fun _ => 0)))))) 6) σ.1 [] := ⟨_, nw_at _ _ _, fun i m h => by cases h⟩
  have hsz3 : (nw σ (.inl (2, 6, .inr (.inr (.inr (.inl (fun _ => 0)))))) 6).1 = σ.1 + 1 := rfl
  have hsl3 : (nw σ (.inl (2, 6, .inr (.inr (.inr (.inl (fun _ => 0)))))) 6).2.1 = σ.2.1 + 6 := rfl
  generalize nw σ (.inl (2, 6, .inr (.inr (.inr (.inl (fun _ => 0)))))) 6 = σ3 at *
  have hP2 : BP C (sA st 13 (96 + 0) (c32 cs.length)) a 0 0 := hP.set (by decide)
  have hM2 : BM (sA st 13 (96 + 0) (c32 cs.length)) cs := hM.set (by decide)
  have hF2 : BF st (sA st 13 (96 + 0) (c32 cs.length)) := BF.e (by omega)
  have hw2 : (sA st 13 (96 + 0) (c32 cs.length)).2.1 13 (96 + 0) = c32 cs.length := by rw [sA_at, if_pos rfl, if_pos rfl]
  dsimp only
  generalize sA st 13 (96 + 0) (c32 cs.length) = s2 at *
  have hnil : cs ++ ([] : List (Nat × Nat × Nat)).flatMap dcode = cs := List.append_nil _
  rcases DA_loop (n := n) (q := σ.1) (cs := cs) ok hn hne 6 [] σ3 s2 a n n none 0 0 0 rfl (by omega) (by omega) (by omega) hA3 hP2 (by rw [hnil]; exact hM2) (by rw [hnil]; exact hb) hp hR3 (fun m h => by cases h) with ⟨at_, ds, σ4, st4, w1, w2, w3, w4, w5, w6, w7, w8, w9, w10, w11, w12, w13, w14, w15, w16, w17⟩ | ⟨at_, σ4, st4, w1, w2, w3, w4, w5, w6, w7, w8, w9⟩
  · have w5 : af_X3_data_S7 n C.S n 0 σ3 C.P (some σ.1) (0 : Int32) none 0 0 = af_X3_data_L53 n C.S σ4 C.P (some σ.1) (c32 ds.length) := w5
    have w11 : bf_numbers_S11 n n 0 s2 (0 : Int32) 0 = some (st4, ()) := w11
    rw [w5, w11]
    unfold af_X3_data_L53
    have eN2 : nA σ4 2 (c32 ds.length) (.inr (.inr (.inr (.inl (fun _ => 0))))) = some (nw σ4 (.inl (2, ds.length, .inr (.inr (.inr (.inl (fun _ => 0)))))) ds.length) := by
      unfold nA
      rw [if_neg (fun z => by
        rcases z with z | z
        · exact c_nn (by omega) z
        · rw [c_nat (by omega)] at z; omega), c_nat (by omega)]
      rfl
    rw [ob eN2]
    obtain ⟨F, hF, hF2'⟩ := w7
    obtain ⟨σ5, G, c1, c2, c3, c4, c5, c6⟩ := DA_copy (C := C) (n := n) (q := σ.1) (q2 := σ4.1) (c := ds.length) w3 (by omega) (F := F) ds.length 0 n (nw σ4 (.inl (2, ds.length, .inr (.inr (.inr (.inl (fun _ => 0)))))) ds.length) (fun _ => 0) (by omega) (by omega) (by rw [nw_ne _ _ _ (by omega)]; exact hF) (nw_at _ _ _) (fun j hj => by omega)
    have c1 : af_X3_data_S60 n C.S n (nw σ4 (.inl (2, ds.length, .inr (.inr (.inr (.inl (fun _ => 0)))))) ds.length) C.P (some σ.1) (c32 ds.length) (some σ4.1) (0 : Int32) = _ := c1
    rw [c1]
    have c2 : σ5.1 = σ4.1 + 1 := c2
    have c3 : σ5.2.1 = σ4.2.1 + ds.length := c3
    have hne4 := hA.ne (q := σ4.1) (by omega)
    have hne5 := hA.ne (q := σ5.1) (by omega)
    have hA5 : PA C σ5 at_ 0 0 := A_daw (σ := nw σ4 (.inl (2, ds.length, .inr (.inr (.inr (.inl (fun _ => 0)))))) ds.length) w6.nwc hne4 c2 c4
    rw [oc (i_X22 (nw_at _ _ _))]
    have hx15 : Ext C.P σ σ5 := by
      refine ⟨by omega, fun p p1 p2 => ?_⟩
      rw [c4 p (by omega), nw_ne _ _ _ (by omega), w10 p (by omega) p2, hx3.2 p p1 p2]
    have hxx : Ext C.P σ (mv (nw σ5 (.inr (21, [.null])) 1) σ5.1 (.inr (21, [va_rf (some σ4.1)]))) := (hx15.trans Ext.nwc).new (by omega)
    refine Or.inl ⟨at_, _, σ5.1, st4, _, w1, rfl, ⟨0, 0, PA.mvq hA5.nwc hne5.1 hne5.2.1 hne5.2.2⟩, hxx, by show σ5.1 + 1 ≤ _; omega, by show σ5.2.1 + 1 ≤ _; omega, rfl, ⟨0, w12⟩, w13, by omega, hF2.trans w16, ?_⟩
    refine ⟨σ4.1, G, ds, hi_at (mv_at _ _ _) (by omega) (by show σ5.1 < σ5.1 + 1; omega), hi_at (by rw [mv_ne _ _ (by omega), nw_ne _ _ _ (by omega)]; exact c5) (by omega) (by show σ4.1 < σ5.1 + 1; omega), w2, w3, w15, fun i d hi => ?_, ?_⟩
    · have hlt := (List.getElem?_eq_some_iff.mp hi).1
      exact ⟨by rw [c6 i hlt]; exact hF2' i d hi, w4 d (List.mem_of_getElem? hi)⟩
    · have h7 := R24_of (cs := cs) (l := ds.flatMap dcode) (x := []) (i := 0) (st := st4) (by rw [List.append_nil]; exact w13) (by rw [w17]; exact hw2)
      rw [List.append_nil] at h7
      exact h7
  · have w2 : af_X3_data_S7 n C.S n 0 σ3 C.P (some σ.1) (0 : Int32) none 0 0 = some (σ4, .inr 0) := w2
    have w7 : bf_numbers_S11 n n 0 s2 (0 : Int32) 0 = some (st4, ()) := w7
    rw [w2, w7]
    have hx4 : Ext C.P σ σ4 := ⟨by omega, fun p p1 p2 => (w6 p (by omega) p2).trans (hx3.2 p p1 p2)⟩
    exact Or.inr ⟨at_, σ4, st4, w1, rfl, ⟨_, _, w3⟩, hx4, by omega, by omega, rfl, DM.e (w8.up (by omega)), hF2.trans w9⟩
end KINDS6
