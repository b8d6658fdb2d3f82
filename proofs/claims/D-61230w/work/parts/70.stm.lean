/-! THE PURE LAW: statements in the store and in the model's rows -/
/-- the codes l stand where expression i of the line being taken begins; m codes are there -/
def R24 (st : bS) (m i : Nat) (l : List Nat) : Prop := ∃ off, st.2.1 13 (96 + i) = c32 off ∧ off + l.length ≤ m ∧ ∀ j v, l[j]? = some v → st.2.1 14 (3840 + off + j) = c32 v
theorem R24_of {st : bS} {cs l x : List Nat} {i : Nat} (hM : BM st (cs ++ (l ++ x))) (he : st.2.1 13 (96 + i) = c32 cs.length) : R24 st (cs ++ (l ++ x)).length i l := by
  refine ⟨cs.length, he, by rw [List.length_append, List.length_append]; omega, fun j v hj => ?_⟩
  have hl := (List.getElem?_eq_some_iff.mp hj).1
  rw [Nat.add_assoc]
  refine hM.2 (cs.length + j) v ?_
  rw [List.getElem?_append_right (by omega), Nat.add_sub_cancel_left, List.getElem?_append_left hl]
  exact hj
theorem R24.up {st st' : bS} {cs x l : List Nat} {i : Nat} (h : R24 st cs.length i l) (hM : BM st cs) (hM' : BM st' (cs ++ x)) (he : st'.2.1 13 (96 + i) = st.2.1 13 (96 + i)) : R24 st' (cs ++ x).length i l := by
  obtain ⟨off, h1, h2, h3⟩ := h
  refine ⟨off, he.trans h1, by rw [List.length_append]; omega, fun j v hj => ?_⟩
  have hl := (List.getElem?_eq_some_iff.mp hj).1
  have hlt : off + j < cs.length := by omega
  have e1 := hM.2 (off + j) (cs[off + j]) (List.getElem?_eq_getElem hlt)
  have e2 := hM'.2 (off + j) (cs[off + j]) (by rw [List.getElem?_append_left hlt]; exact List.getElem?_eq_getElem hlt)
  rw [Nat.add_assoc, e2, ← e1, ← Nat.add_assoc]
  exact h3 j v hj
/-- expression i -/
def EXP (h : Nat → Option aE) (e i : Nat) (rv : Nat → List Nat → Prop) : Prop := ∃ l, ex 60 h e l ∧ l.length ≤ 121 ∧ rv i (l ++ [14])
def PLC (h : Nat → Option aE) (p : Nat) (av : Nat → Int32) (rv : Nat → List Nat → Prop) : Prop :=
  (∃ v a, h p = some (.inr (4, [.ref v, .null])) ∧ h v = some (.inr (8, [.int (c32 a)])) ∧ a < 26 ∧ av 0 = c32 a) ∨
  (∃ q m i j, h p = some (.inr (4, [.null, .ref q])) ∧ h q = some (.inr (10, [.int (c32 m), .ref i, .ref j])) ∧ m < 3 ∧ av 0 = c32 (26 + m) ∧ EXP h i 0 rv ∧ EXP h j 1 rv)
def relA (r : Nat) : Nat := if r = 0 then 2 else if r = 1 then 1 else if r = 2 then 4 else if r = 3 then 3 else if r = 4 then 6 else 5
def matC (w : Nat) : Nat := if w = 0 then 90 else if w = 1 then 67 else if w = 2 then 73 else if w = 3 then 84 else if w = 4 then 83 else if w = 5 then 61 else if w = 6 then 43 else if w = 7 then 45 else 42
def dval (d : Nat × Nat × Nat) : UInt64 := if d.1 = 1 then FP.dneg (nuV d.2.1 d.2.2) else nuV d.2.1 d.2.2
def dok (d : Nat × Nat × Nat) : Prop := d.1 ≤ 1 ∧ d.2.1 < 1000000000 ∧ d.2.2 < 4
def dcode (d : Nat × Nat × Nat) : List Nat := [d.1, 0, d.2.1, d.2.2]
def STM (h : Nat → Option aE) (s so : Nat) (av : Nat → Int32) (rv : Nat → List Nat → Prop) : Prop := match so with
  | 0 => ∃ p e, h s = some (.inr (11, [.ref p, .ref e])) ∧ PLC h p av rv ∧ EXP h e 2 rv
  | 1 => ∃ e, h s = some (.inr (12, [.ref e])) ∧ EXP h e 0 rv
  | 2 => ∃ a b r m, h s = some (.inr (13, [.ref a, .int (c32 (relA r)), .ref b, .int (c32 m)])) ∧ r < 6 ∧ m < 1000 ∧ m ≠ 0 ∧ av 0 = c32 m ∧ av 1 = c32 r ∧ EXP h a 0 rv ∧ EXP h b 1 rv
  | 3 => ∃ m, h s = some (.inr (14, [.int (c32 m)])) ∧ m < 1000 ∧ m ≠ 0 ∧ av 0 = c32 m
  | 4 => ∃ e q f c, h s = some (.inr (15, [.ref e, .ref q])) ∧ h q = some (.inl (1, c, .inl f)) ∧ 1 ≤ c ∧ c ≤ 4 ∧ av 0 = c32 c ∧ (∀ i, i < c → ∃ m, m < 1000 ∧ m ≠ 0 ∧ f i = c32 m ∧ av (i + 1) = c32 m) ∧ EXP h e 0 rv
  | 5 => ∃ m, h s = some (.inr (16, [.int (c32 m)])) ∧ m < 1000 ∧ m ≠ 0 ∧ av 0 = c32 m
  | 6 => h s = some (.inr (17, []))
  | 7 => ∃ v a b r, h s = some (.inr (18, [.int (c32 v), .ref a, .ref b, r])) ∧ v < 26 ∧ av 0 = c32 v ∧ EXP h a 0 rv ∧ EXP h b 1 rv ∧ ((r = .null ∧ av 1 = 0) ∨ (∃ c, r = .ref c ∧ av 1 = 1 ∧ EXP h c 2 rv))
  | 8 => ∃ v, h s = some (.inr (19, [.int (c32 v)])) ∧ v < 26 ∧ av 0 = c32 v
  | 9 => ∃ p, h s = some (.inr (20, [.ref p])) ∧ PLC h p av rv
  | 10 => ∃ q f, ∃ ds : List (Nat × Nat × Nat), h s = some (.inr (21, [.ref q])) ∧ h q = some (.inl (2, ds.length, .inr (.inr (.inr (.inl f))))) ∧ 1 ≤ ds.length ∧ ds.length ≤ 6 ∧ av 0 = c32 ds.length ∧ (∀ i d, ds[i]? = some d → f i = dval d ∧ dok d) ∧ rv 0 (ds.flatMap dcode)
  | 11 => h s = some (.inr (22, []))
  | 12 => ∃ m r c, h s = some (.inr (23, [.int (c32 m), .int (c32 r), .int (c32 c)])) ∧ m < 3 ∧ 1 ≤ r ∧ r ≤ 6 ∧ 1 ≤ c ∧ c ≤ 6 ∧ av 0 = c32 m ∧ av 1 = c32 r ∧ av 2 = c32 c
  | 13 => ∃ f v b, h s = some (.inr (24, [.int (c32 f), .int (c32 v), .ref b])) ∧ f < 3 ∧ v < 26 ∧ av 0 = c32 f ∧ av 1 = c32 v ∧ EXP h b 0 rv
  | 14 => ∃ t w a b r, h s = some (.inr (25, [.int (c32 t), .int (c32 (matC w)), .int (c32 a), .int b, r])) ∧ t < 3 ∧ w < 9 ∧ a < 3 ∧ av 0 = c32 t ∧ av 1 = c32 w ∧ (w < 3 → a = t) ∧ (3 ≤ w → av 2 = c32 a) ∧ (w ≤ 5 → b = -1) ∧ (5 < w → ∃ m, m < 3 ∧ b = c32 m ∧ av 3 = c32 m) ∧ ((w ≠ 4 ∧ r = .null) ∨ (w = 4 ∧ ∃ e, r = .ref e ∧ EXP h e 0 rv))
  | 15 => h s = some (.inr (26, [.int 0]))
  | 16 => h s = some (.inr (26, [.int 1]))
  | _ => False
theorem EXP.map {h h' : Nat → Option aE} {e i : Nat} {rv rv' : Nat → List Nat → Prop} (g : EXP h e i rv) (hh : hle h h') (hr : ∀ l, rv i l → rv' i l) : EXP h' e i rv' := by
  obtain ⟨l, g1, g2, g3⟩ := g
  exact ⟨l, ex.map hh _ _ _ g1, g2, hr _ g3⟩
theorem PLC.map {h h' : Nat → Option aE} {p : Nat} {av av' : Nat → Int32} {rv rv' : Nat → List Nat → Prop} (g : PLC h p av rv) (hh : hle h h') (ha : av' 0 = av 0) (hr : ∀ i l, i < 2 → rv i l → rv' i l) : PLC h' p av' rv' := by
  rcases g with ⟨v, a, g1, g2, g3, g4⟩ | ⟨q, m, i, j, g1, g2, g3, g4, g5, g6⟩
  · exact Or.inl ⟨v, a, hh _ _ g1, hh _ _ g2, g3, ha.trans g4⟩
  · exact Or.inr ⟨q, m, i, j, hh _ _ g1, hh _ _ g2, g3, ha.trans g4, g5.map hh (fun l => hr 0 l (by omega)), g6.map hh (fun l => hr 1 l (by omega))⟩
theorem STM.map {h h' : Nat → Option aE} {s so : Nat} {av av' : Nat → Int32} {rv rv' : Nat → List Nat → Prop} (g : STM h s so av rv) (hh : hle h h') (ha : ∀ i, i < 8 → av' i = av i) (hr : ∀ i l, i < 4 → rv i l → rv' i l) : STM h' s so av' rv' := by
  have hE : ∀ {e i}, i < 4 → EXP h e i rv → EXP h' e i rv' := fun hi z => z.map hh (fun l => hr _ l hi)
  have hPL : ∀ {p}, PLC h p av rv → PLC h' p av' rv' := fun z => z.map hh (ha 0 (by omega)) (fun i l hi => hr i l (by omega))
  unfold STM at g ⊢
  split at g
  · obtain ⟨p, e, g1, g2, g3⟩ := g
    exact ⟨p, e, hh _ _ g1, hPL g2, hE (by omega) g3⟩
  · obtain ⟨e, g1, g2⟩ := g
    exact ⟨e, hh _ _ g1, hE (by omega) g2⟩
  · obtain ⟨a, b, r, m, g1, g2, g3, g4, g5, g6, g7, g8⟩ := g
    exact ⟨a, b, r, m, hh _ _ g1, g2, g3, g4, (ha 0 (by omega)).trans g5, (ha 1 (by omega)).trans g6, hE (by omega) g7, hE (by omega) g8⟩
  · obtain ⟨m, g1, g2, g3, g4⟩ := g
    exact ⟨m, hh _ _ g1, g2, g3, (ha 0 (by omega)).trans g4⟩
  · obtain ⟨e, q, f, c, g1, g2, g3, g4, g5, g6, g7⟩ := g
    exact ⟨e, q, f, c, hh _ _ g1, hh _ _ g2, g3, g4, (ha 0 (by omega)).trans g5, fun i hi => by
      obtain ⟨m, m1, m2, m3, m4⟩ := g6 i hi
      exact ⟨m, m1, m2, m3, (ha (i + 1) (by omega)).trans m4⟩, hE (by omega) g7⟩
  · obtain ⟨m, g1, g2, g3, g4⟩ := g
    exact ⟨m, hh _ _ g1, g2, g3, (ha 0 (by omega)).trans g4⟩
  · exact hh _ _ g
  · obtain ⟨v, a, b, r, g1, g2, g3, g4, g5, g6⟩ := g
    refine ⟨v, a, b, r, hh _ _ g1, g2, (ha 0 (by omega)).trans g3, hE (by omega) g4, hE (by omega) g5, ?_⟩
    rcases g6 with ⟨g6, g7⟩ | ⟨c, g6, g7, g8⟩
    · exact Or.inl ⟨g6, (ha 1 (by omega)).trans g7⟩
    · exact Or.inr ⟨c, g6, (ha 1 (by omega)).trans g7, hE (by omega) g8⟩
  · obtain ⟨v, g1, g2, g3⟩ := g
    exact ⟨v, hh _ _ g1, g2, (ha 0 (by omega)).trans g3⟩
  · obtain ⟨p, g1, g2⟩ := g
    exact ⟨p, hh _ _ g1, hPL g2⟩
  · obtain ⟨q, f, ds, g1, g2, g3, g4, g5, g6, g7⟩ := g
    exact ⟨q, f, ds, hh _ _ g1, hh _ _ g2, g3, g4, (ha 0 (by omega)).trans g5, g6, hr 0 _ (by omega) g7⟩
  · exact hh _ _ g
  · obtain ⟨m, r, c, g1, g2, g3, g4, g5, g6, g7, g8, g9⟩ := g
    exact ⟨m, r, c, hh _ _ g1, g2, g3, g4, g5, g6, (ha 0 (by omega)).trans g7, (ha 1 (by omega)).trans g8, (ha 2 (by omega)).trans g9⟩
  · obtain ⟨f, v, b, g1, g2, g3, g4, g5, g6⟩ := g
    exact ⟨f, v, b, hh _ _ g1, g2, g3, (ha 0 (by omega)).trans g4, (ha 1 (by omega)).trans g5, hE (by omega) g6⟩
  · obtain ⟨t, w, a, b, r, g1, g2, g3, g4, g5, g6, g7, g8, g9, g10, g11⟩ := g
    refine ⟨t, w, a, b, r, hh _ _ g1, g2, g3, g4, (ha 0 (by omega)).trans g5, (ha 1 (by omega)).trans g6, g7, fun z => (ha 2 (by omega)).trans (g8 z), g9, fun z => ?_, ?_⟩
    · obtain ⟨m, m1, m2, m3⟩ := g10 z
      exact ⟨m, m1, m2, (ha 3 (by omega)).trans m3⟩
    · rcases g11 with g11 | ⟨g11, e, g12, g13⟩
      · exact Or.inl g11
      · exact Or.inr ⟨g11, e, g12, hE (by omega) g13⟩
  · exact hh _ _ g
  · exact hh _ _ g
  · exact g
/-- the model is bad, or will be since the line is not at its end -/
def DE (C : pC) (st : bS) (at_ M : Nat) : Prop := ∃ op' m bad, BP C st at_ op' bad ∧ (bad = 1 ∨ bad = 0 ∧ at_ < C.N) ∧ st.1 6 = c32 m ∧ m ≤ M
theorem DM.e {C : pC} {st : bS} {at_ M : Nat} (h : DM C st at_ M) : DE C st at_ M := by
  obtain ⟨o, m, b, h1, h4, h2, h3⟩ := h
  exact ⟨o, m, b, h1, h4.imp id (fun z => ⟨z.1, ch_in (by have := z.2; unfold dig at this; omega)⟩), h2, h3⟩
/-! what a kind of statement ends in -/
def KY (C : pC) (σ : aS) (zA : Option (aS × (Option Nat ⊕ Nat))) (st : bS) (zB : Option (bS × Unit)) (so : Nat) : Prop :=
  ∃ at_ σ' s st' cs, at_ ≤ C.N ∧ zA = some (σ', .inl (some s)) ∧ (∃ op go, PA C σ' at_ op go) ∧ Ext C.P σ σ' ∧ σ'.1 ≤ σ.1 + 200 ∧ σ'.2.1 ≤ σ.2.1 + 1000 ∧ zB = some (st', ()) ∧ (∃ op, BP C st' at_ op 0) ∧ BM st' cs ∧ cs.length ≤ 150 ∧ BF st st' ∧ STM (hi σ.1 σ') s so (fun i => st'.2.1 12 (192 + i)) (R24 st' cs.length)
def KN {α : Type} (C : pC) (σ : aS) (zA : Option (aS × (α ⊕ Nat))) (st : bS) (zB : Option (bS × Unit)) : Prop :=
  ∃ at_ σ' st', at_ ≤ C.N ∧ zA = some (σ', .inr 0) ∧ (∃ op go, PA C σ' at_ op go) ∧ Ext C.P σ σ' ∧ σ'.1 ≤ σ.1 + 200 ∧ σ'.2.1 ≤ σ.2.1 + 1000 ∧ zB = some (st', ()) ∧ DE C st' at_ 150 ∧ BF st st'
def KO (C : pC) (σ : aS) (zA : Option (aS × (Option Nat ⊕ Nat))) (st : bS) (zB : Option (bS × Unit)) (so : Nat) : Prop := KY C σ zA st zB so ∨ KN C σ zA st zB
/-- both stand at the same place between parts of a statement -/
def JS (C : pC) (σ : aS) (st : bS) (a op go : Nat) (cs : List Nat) : Prop := PA C σ a op go ∧ BP C st a op 0 ∧ BM st cs ∧ a ≤ C.N ∧ cs.length ≤ 2 * a
theorem BM.set {st : bS} {cs : List Nat} {k i : Nat} {v : Int32} (h : BM st cs) (hk : k ≠ 14) : BM (sA st k i v) cs :=
  ⟨h.1, fun j w hj => by rw [sA_ne _ (fun z => hk z.symm)]; exact h.2 j w hj⟩
theorem BP.set {C : pC} {st : bS} {p op k i : Nat} {bad v : Int32} (h : BP C st p op bad) (hk : k ≠ 9) : BP C (sA st k i v) p op bad :=
  h.of rfl (sA_ne _ (fun z => hk z.symm)) rfl rfl rfl
theorem DM.up {C : pC} {st : bS} {at_ M M' : Nat} (h : DM C st at_ M) (hM : M ≤ M') : DM C st at_ M' := by
  obtain ⟨o, m, b, h1, h4, h2, h3⟩ := h
  exact ⟨o, m, b, h1, h4, h2, by omega⟩
