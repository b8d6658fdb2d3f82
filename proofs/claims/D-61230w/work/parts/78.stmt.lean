/-! THE PURE LAW: statements, lines -/
/-- what taking a line leaves of the model -/
def BG (st st' : bS) : Prop := (∀ k, k ≠ 4 → k ≠ 5 → k ≠ 6 → k ≠ 7 → st'.1 k = st.1 k) ∧ (∀ k, k ≠ 10 → k ≠ 11 → k ≠ 12 → k ≠ 13 → k ≠ 14 → k ≠ 15 → st'.2.1 k = st.2.1 k) ∧ (∀ i, i < 24 → st'.2.1 10 i = st.2.1 10 i) ∧ (∀ i, i < 24 → st'.2.1 11 i = st.2.1 11 i) ∧ (∀ i, i < 192 → st'.2.1 12 i = st.2.1 12 i) ∧ (∀ i, i < 96 → st'.2.1 13 i = st.2.1 13 i) ∧ (∀ i, i < 3840 → st'.2.1 14 i = st.2.1 14 i) ∧ st'.2.2 = st.2.2
theorem BG.rfl_ {st : bS} : BG st st := ⟨fun _ _ _ _ _ => rfl, fun _ _ _ _ _ _ _ => rfl, fun _ _ => rfl, fun _ _ => rfl, fun _ _ => rfl, fun _ _ => rfl, fun _ _ => rfl, rfl⟩
theorem BG.trans {a b c : bS} (h : BG a b) (g : BG b c) : BG a c := by
  obtain ⟨h1, h2, h3, h4, h5, h6, h7, h8⟩ := h
  obtain ⟨g1, g2, g3, g4, g5, g6, g7, g8⟩ := g
  exact ⟨fun k a b c d => (g1 k a b c d).trans (h1 k a b c d), fun k a b c d e f => (g2 k a b c d e f).trans (h2 k a b c d e f), fun i hi => (g3 i hi).trans (h3 i hi), fun i hi => (g4 i hi).trans (h4 i hi), fun i hi => (g5 i hi).trans (h5 i hi), fun i hi => (g6 i hi).trans (h6 i hi), fun i hi => (g7 i hi).trans (h7 i hi), g8.trans h8⟩
theorem BF.g {a b : bS} (h : BF a b) : BG a b := by
  obtain ⟨h1, h2, h5, h6, h7, h8⟩ := h
  refine ⟨h1, fun k _ _ h12 h13 h14 h15 => h2 k h12 h13 h14 h15, fun i _ => ?_, fun i _ => ?_, h5, h6, h7, h8⟩
  · rw [h2 10 (by decide) (by decide) (by decide) (by decide)]
  · rw [h2 11 (by decide) (by decide) (by decide) (by decide)]
theorem BG.ten {st : bS} {k : Nat} {v : Int32} (hk : k = 10 ∨ k = 11) : BG st (sA st k 24 v) := by
  refine ⟨fun _ _ _ _ _ => rfl, fun q h1 h2 _ _ _ _ => sA_ne st (by omega), fun j hj => ?_, fun j hj => ?_, fun j hj => ?_, fun j hj => ?_, fun j hj => ?_, rfl⟩
  · by_cases g : (10 : Nat) = k
    · rw [sA_at, if_pos g, if_neg (by omega), g]
    · rw [sA_at, if_neg g]
  · by_cases g : (11 : Nat) = k
    · rw [sA_at, if_pos g, if_neg (by omega), g]
    · rw [sA_at, if_neg g]
  · rw [sA_at, if_neg (by omega)]
  · rw [sA_at, if_neg (by omega)]
  · rw [sA_at, if_neg (by omega)]
section STMT
variable {C : pC} {σ : aS} {st : bS} {n a : Nat}
theorem bb_1 {α β γ : Type} {z : Option α} {f : α → Option β} {g : β → Option γ} : (z.bind f).bind g = z.bind fun q => (f q).bind g := by cases z <;> rfl
theorem c_S0 : bf_statement_L48 n st 0 = bf_statement_L189 n st := rfl
theorem c_S1 : bf_statement_L48 n st 1 = (kB1 n st).bind fun q => bf_statement_L189 n q.1 := by
  unfold kB1
  rw [bb_1]
  conv => rhs; arg 2; ext q; rw [bb_1]
  rfl
theorem c_S2 : bf_statement_L48 n st 2 = (bf_condition n st).bind fun q => bf_statement_L189 n q.1 := rfl
theorem c_S3 : bf_statement_L48 n st 3 = (kB3 n st).bind fun q => bf_statement_L189 n q.1 := by
  unfold kB3
  rw [bb_1]
  conv => rhs; arg 2; ext q; rw [bb_1]
  rfl
theorem c_S4 : bf_statement_L48 n st 4 = (bf_choice n st).bind fun q => bf_statement_L189 n q.1 := rfl
theorem c_S5 : bf_statement_L48 n st 5 = (kB3 n st).bind fun q => bf_statement_L189 n q.1 := by
  unfold kB3
  rw [bb_1]
  conv => rhs; arg 2; ext q; rw [bb_1]
  rfl
theorem c_S6 : bf_statement_L48 n st 6 = (some (st, ())).bind fun q => bf_statement_L189 n q.1 := rfl
theorem c_S7 : bf_statement_L48 n st 7 = (bf_loop n st).bind fun q => bf_statement_L189 n q.1 := rfl
theorem c_S8 : bf_statement_L48 n st 8 = (kB8 n st).bind fun q => bf_statement_L189 n q.1 := by
  unfold kB8
  rw [bb_1]
  conv => rhs; arg 2; ext q; rw [bb_1]
  rfl
theorem c_S9 : bf_statement_L48 n st 9 = (bf_target n st).bind fun q => bf_statement_L189 n q.1 := rfl
theorem c_S10 : bf_statement_L48 n st 10 = (bf_numbers n st).bind fun q => bf_statement_L189 n q.1 := rfl
theorem c_S11 : bf_statement_L48 n st 11 = (some (st, ())).bind fun q => bf_statement_L189 n q.1 := rfl
theorem c_S12 : bf_statement_L48 n st 12 = (bf_dim n st).bind fun q => bf_statement_L189 n q.1 := rfl
theorem c_S13 : bf_statement_L48 n st 13 = (bf_def n st).bind fun q => bf_statement_L189 n q.1 := rfl
theorem c_S14 : bf_statement_L48 n st 14 = (bf_mat n st).bind fun q => bf_statement_L189 n q.1 := rfl
theorem c_S15 : bf_statement_L48 n st 15 = (some (sI st 4 (st.1 2), ())).bind fun q => bf_statement_L189 n q.1 := rfl
theorem c_S16 : bf_statement_L48 n st 16 = (some (st, ())).bind fun q => bf_statement_L189 n q.1 := rfl
theorem sHash_of {S : Nat → Nat} {i : Nat} (hS : sInj S) (hi : i < 28) : sHash S (S i) = some (aSh i) := by
  unfold sHash
  rw [sIx_of hS hi]
  rfl
theorem sEq_of {S : Nat → Nat} {i : Nat} (hS : sInj S) (hi : i < 28) : sEq S (S i) (some (S i)) = some 1 := by
  unfold sEq
  rw [sIx_of hS hi]
  show (if some (S i) = some (S i) then some 1 else none) = _
  rw [if_pos rfl]
def kx (i : Nat) : Int32 := if i = 16 then -1 else c32 i
theorem A_disp (hS : sInj C.S) {go op a' : Nat} {i : Nat} (hi : i < 17) {σ' : aS} (hA : PA C σ a op go) (hw : af_X3_word n C.S σ C.P = some (σ', .inl (some (C.S i)))) : af_X3_statement n C.S σ C.P = af_X3_statement_L379 n C.S σ' C.P (kx i) := by
  unfold af_X3_statement
  rw [ob (A_cls hA), ox hw, ob (show some (C.S i) = some (C.S i) from rfl), ob (sHash_of hS (by omega))]
  have hc : i = 0 ∨ i = 1 ∨ i = 2 ∨ i = 3 ∨ i = 4 ∨ i = 5 ∨ i = 6 ∨ i = 7 ∨ i = 8 ∨ i = 9 ∨ i = 10 ∨ i = 11 ∨ i = 12 ∨ i = 13 ∨ i = 14 ∨ i = 15 ∨ i = 16 := by omega
  rcases hc with rfl | rfl | rfl | rfl | rfl | rfl | rfl | rfl | rfl | rfl | rfl | rfl | rfl | rfl | rfl | rfl | rfl
  · rw [if_neg (by decide), if_neg (by decide), if_neg (by decide), if_neg (by decide), if_neg (by decide), if_neg (by decide), if_pos (by decide), ob (sEq_of hS (by omega)), if_neg n10]
    rfl
  · rw [if_neg (by decide), if_neg (by decide), if_neg (by decide), if_neg (by decide), if_neg (by decide), if_neg (by decide), if_neg (by decide), if_neg (by decide), if_neg (by decide), if_neg (by decide), if_neg (by decide), if_neg (by decide), if_neg (by decide), if_neg (by decide), if_pos (by decide), ob (sEq_of hS (by omega)), if_neg n10]
    rfl
  · rw [if_neg (by decide), if_pos (by decide), ob (sEq_of hS (by omega)), if_neg n10]
    rfl
  · rw [if_neg (by decide), if_neg (by decide), if_neg (by decide), if_neg (by decide), if_neg (by decide), if_neg (by decide), if_neg (by decide), if_neg (by decide), if_neg (by decide), if_neg (by decide), if_pos (by decide), ob (sEq_of hS (by omega)), if_neg n10]
    rfl
  · rw [if_neg (by decide), if_neg (by decide), if_pos (by decide), ob (sEq_of hS (by omega)), if_neg n10]
    rfl
  · rw [if_neg (by decide), if_neg (by decide), if_neg (by decide), if_neg (by decide), if_neg (by decide), if_neg (by decide), if_neg (by decide), if_neg (by decide), if_neg (by decide), if_neg (by decide), if_neg (by decide), if_neg (by decide), if_neg (by decide), if_pos (by decide), ob (sEq_of hS (by omega)), if_neg n10]
    rfl
  · rw [if_pos (by decide), ob (sEq_of hS (by omega)), if_neg n10]
    rfl
  · rw [if_neg (by decide), if_neg (by decide), if_neg (by decide), if_neg (by decide), if_neg (by decide), if_pos (by decide), ob (sEq_of hS (by omega)), if_neg n10]
    rfl
  · rw [if_neg (by decide), if_neg (by decide), if_neg (by decide), if_neg (by decide), if_neg (by decide), if_neg (by decide), if_neg (by decide), if_neg (by decide), if_neg (by decide), if_neg (by decide), if_neg (by decide), if_pos (by decide), ob (sEq_of hS (by omega)), if_neg n10]
    rfl
  · rw [if_neg (by decide), if_neg (by decide), if_neg (by decide), if_neg (by decide), if_neg (by decide), if_neg (by decide), if_neg (by decide), if_neg (by decide), if_neg (by decide), if_neg (by decide), if_neg (by decide), if_neg (by decide), if_pos (by decide), ob (sEq_of hS (by omega)), if_neg n10]
    rfl
  · rw [if_neg (by decide), if_neg (by decide), if_neg (by decide), if_neg (by decide), if_neg (by decide), if_neg (by decide), if_neg (by decide), if_neg (by decide), if_neg (by decide), if_pos (by decide), ob (sEq_of hS (by omega)), if_neg n10]
    rfl
  · rw [if_neg (by decide), if_neg (by decide), if_neg (by decide), if_neg (by decide), if_neg (by decide), if_neg (by decide), if_neg (by decide), if_neg (by decide), if_neg (by decide), if_neg (by decide), if_neg (by decide), if_neg (by decide), if_neg (by decide), if_neg (by decide), if_neg (by decide), if_pos (by decide), ob (sEq_of hS (by omega)), if_neg n10]
    rfl
  · rw [if_neg (by decide), if_neg (by decide), if_neg (by decide), if_neg (by decide), if_pos (by decide), ob (sEq_of hS (by omega)), if_neg n10]
    rfl
  · rw [if_neg (by decide), if_neg (by decide), if_neg (by decide), if_pos (by decide), ob (sEq_of hS (by omega)), if_neg n10]
    rfl
  · rw [if_neg (by decide), if_neg (by decide), if_neg (by decide), if_neg (by decide), if_neg (by decide), if_neg (by decide), if_neg (by decide), if_pos (by decide), ob (sEq_of hS (by omega)), if_neg n10]
    rfl
  · rw [if_neg (by decide), if_neg (by decide), if_neg (by decide), if_neg (by decide), if_neg (by decide), if_neg (by decide), if_neg (by decide), if_neg (by decide), if_pos (by decide), ob (sEq_of hS (by omega)), if_neg n10]
    rfl
  · rw [if_neg (by decide), if_neg (by decide), if_neg (by decide), if_neg (by decide), if_neg (by decide), if_neg (by decide), if_neg (by decide), if_neg (by decide), if_neg (by decide), if_neg (by decide), if_neg (by decide), if_neg (by decide), if_neg (by decide), if_neg (by decide), if_neg (by decide), if_neg (by decide)]
    rfl
theorem S_189 {p op : Nat} {bad : Int32} (ok : pOk C) (h : BP C st p op bad) (hp : p ≤ C.N) : bf_statement_L189 n st = some (if C.N ≤ p then st else sI st 7 1, ()) := by
  have hN := ok.1
  unfold bf_statement_L189
  rw [h.1, h.2.2.1]
  by_cases g : C.N ≤ p
  · rw [if_pos ((c_le (by omega) (by omega)).mpr g), if_pos g]
  · rw [if_neg (fun z => g ((c_le (by omega) (by omega)).mp z)), if_neg g]
    rfl
/-- a statement has been taken -/
def LY (C : pC) (σ : aS) (zA : Option (aS × (Option Nat ⊕ Nat))) (st : bS) (zB : Option (bS × Unit)) : Prop :=
  ∃ so at_ σ' s st' cs, so < 17 ∧ at_ ≤ C.N ∧ zA = some (σ', .inl (some s)) ∧ (∃ op go, PA C σ' at_ op go) ∧ Ext C.P σ σ' ∧ σ'.1 ≤ σ.1 + 200 ∧ σ'.2.1 ≤ σ.2.1 + 1000 ∧ zB = some (st', ()) ∧ (∃ op, BP C st' at_ op (if C.N ≤ at_ then 0 else 1)) ∧ BM st' cs ∧ cs.length ≤ 150 ∧ BG st st' ∧ st'.2.1 10 = st.2.1 10 ∧ st'.2.1 11 24 = c32 so ∧ STM (hi σ.1 σ') s so (fun i => st'.2.1 12 (192 + i)) (R24 st' cs.length)
def LN (C : pC) (σ : aS) (zA : Option (aS × (Option Nat ⊕ Nat))) (st : bS) (zB : Option (bS × Unit)) : Prop :=
  ∃ at_ σ' st', at_ ≤ C.N ∧ zA = some (σ', .inr 0) ∧ (∃ op go, PA C σ' at_ op go) ∧ Ext C.P σ σ' ∧ σ'.1 ≤ σ.1 + 200 ∧ σ'.2.1 ≤ σ.2.1 + 1000 ∧ zB = some (st', ()) ∧ (∃ op, BP C st' at_ op 1) ∧ BG st st'
theorem KO.l (ok : pOk C) {so : Nat} {σ0 : aS} {zA : Option (aS × (Option Nat ⊕ Nat))} {zB : Option (bS × Unit)} {s0 : bS} (hso : so < 17) (hx : Ext C.P σ0 σ) (hP : C.P < σ0.1) (h1 : σ.1 = σ0.1) (h2 : σ.2.1 = σ0.2.1) (hG : BG s0 st) (h10 : st.2.1 10 = s0.2.1 10) (h11 : st.2.1 11 24 = c32 so) (h : KO C σ zA st zB so) : LY C σ0 zA s0 (zB.bind fun q => bf_statement_L189 n q.1) ∨ LN C σ0 zA s0 (zB.bind fun q => bf_statement_L189 n q.1) := by
  rcases h with ⟨at_, σ', s, st', cs, g1, g2, g3, g4, g5, g6, g7, ⟨op, g8⟩, g9, g10, g11, g12⟩ | ⟨at_, σ', st', g1, g2, g3, g4, g5, g6, g7, ⟨op, m, bad, g8, g9, g10, g11⟩, g12⟩
  · have e11 : st'.2.1 11 24 = c32 so := by rw [g11.2.1 11 (by decide) (by decide) (by decide) (by decide)]; exact h11
    have e10 : st'.2.1 10 = s0.2.1 10 := by rw [g11.2.1 10 (by decide) (by decide) (by decide) (by decide)]; exact h10
    rw [h1] at g12
    refine Or.inl ⟨so, at_, σ', s, _, cs, hso, g1, g2, g3, hx.trans g4, by omega, by omega, by rw [ob g7]; exact S_189 ok g8 g1, ?_⟩
    by_cases g : C.N ≤ at_
    · rw [if_pos g, if_pos g]
      exact ⟨⟨op, g8⟩, g9, g10, hG.trans g11.g, e10, e11, g12⟩
    · rw [if_neg g, if_neg g]
      exact ⟨⟨op, g8.b⟩, g9, g10, (hG.trans g11.g).trans BE.i7.f.g, e10, e11, g12⟩
  · refine Or.inr ⟨at_, σ', _, g1, g2, g3, hx.trans g4, by omega, by omega, by rw [ob g7]; exact S_189 ok g8 g1, ?_⟩
    by_cases g : C.N ≤ at_
    · rw [if_pos g]
      rcases g9 with rfl | ⟨_, g9⟩
      · exact ⟨⟨op, g8⟩, hG.trans g12.g⟩
      · omega
    · rw [if_neg g]
      exact ⟨⟨op, g8.b⟩, (hG.trans g12.g).trans BE.i7.f.g⟩
theorem S_stm (ok : pOk C) (hS : sInj C.S) (hn : 1000 ≤ n) {cs : List Nat} (J : JS C σ st a 0 0 cs) : LY C σ (af_X3_statement n C.S σ C.P) st (bf_statement n st) ∨ LN C σ (af_X3_statement n C.S σ C.P) st (bf_statement n st) := by
  have hN := ok.1
  obtain ⟨hA, hP, hM, hp, hb⟩ := J
  have hPlt := hA.2.2.2.1
  by_cases hf : ∃ i, i < 17 ∧ mt C (wb i) a = (wb i).length
  · obtain ⟨i, hi17, hfu⟩ := hf
    have hin := mt_in C (wb i) a (fun c hc => ((wb_ok ⟨i, by omega⟩).1 c hc).1) hp
    rw [A_disp (a' := a) hS hi17 hA (A_word_t ok hS hp hA hi17 hfu hn)]
    rw [hfu] at hin
    unfold bf_statement
    rw [ob (b_takeWord_t (lo := 0) (c := 17) (i := i) (x := 0) (y := 16) ok hP hp (by omega) (by omega) (by omega) hfu hn)]
    generalize (wb i).length = L at *
    have hA1 : PA C (ps C σ (a + L) 0 0) (a + L) 0 0 := hA.ps
    have hx1 : Ext C.P σ (ps C σ (a + L) 0 0) := Ext.mvP
    have est : stA (sI st 4 (c32 (a + L))) 11 (24 : Int32) (c32 i) = some (sA (sI st 4 (c32 (a + L))) 11 24 (c32 i)) := by
      show stA _ 11 (c32 24) _ = _
      rw [st_A (show 24 < 25 by omega)]
    dsimp only
    rw [ob est]
    have hP1 : BP C (sA (sI st 4 (c32 (a + L))) 11 24 (c32 i)) (a + L) 0 0 := BP.set hP.p (by decide)
    have hM1 : BM (sA (sI st 4 (c32 (a + L))) 11 24 (c32 i)) cs := BM.set (st := sI st 4 (c32 (a + L))) hM (by decide)
    have hG1 : BG st (sA (sI st 4 (c32 (a + L))) 11 24 (c32 i)) := BE.i4.f.g.trans (BG.ten (Or.inr rfl))
    have h11 : (sA (sI st 4 (c32 (a + L))) 11 24 (c32 i)).2.1 11 24 = c32 i := by rw [sA_at, if_pos rfl, if_pos rfl]
    have h10 : (sA (sI st 4 (c32 (a + L))) 11 24 (c32 i)).2.1 10 = st.2.1 10 := sA_ne _ (by decide)
    have hs1 : (ps C σ (a + L) 0 0).1 = σ.1 := rfl
    have hs2 : (ps C σ (a + L) 0 0).2.1 = σ.2.1 := rfl
    generalize sA (sI st 4 (c32 (a + L))) 11 24 (c32 i) = s1 at *
    generalize ps C σ (a + L) 0 0 = σ1 at *
    have J1 : JS C σ1 s1 (a + L) 0 0 cs := ⟨hA1, hP1, hM1, hin, by omega⟩
    rw [if_pos hP1.2.2.2.2]
    have hc : i = 0 ∨ i = 1 ∨ i = 2 ∨ i = 3 ∨ i = 4 ∨ i = 5 ∨ i = 6 ∨ i = 7 ∨ i = 8 ∨ i = 9 ∨ i = 10 ∨ i = 11 ∨ i = 12 ∨ i = 13 ∨ i = 14 ∨ i = 15 ∨ i = 16 := by omega
    rcases hc with rfl | rfl | rfl | rfl | rfl | rfl | rfl | rfl | rfl | rfl | rfl | rfl | rfl | rfl | rfl | rfl | rfl
    · rw [if_pos (show c32 0 = 0 from rfl)]
      have := KO.l (n := n) ok (by omega) hx1 hPlt hs1 hs2 hG1 h10 h11 (K_0 (n := n) ok hS hn J1)
      unfold kB0 at this
      rw [bb_1] at this
      simp only [bb_1] at this
      exact this
    · rw [if_neg (show ¬ c32 1 = 0 by decide)]
      have := KO.l (n := n) ok (by omega) hx1 hPlt hs1 hs2 hG1 h10 h11 (K_1 (n := n) ok hS hn J1)
      rw [← c_S1] at this
      exact this
    · rw [if_neg (show ¬ c32 2 = 0 by decide)]
      have := KO.l (n := n) ok (by omega) hx1 hPlt hs1 hs2 hG1 h10 h11 (K_2 (n := n) ok hS hn J1)
      rw [← c_S2] at this
      exact this
    · rw [if_neg (show ¬ c32 3 = 0 by decide)]
      have := KO.l (n := n) ok (by omega) hx1 hPlt hs1 hs2 hG1 h10 h11 (K_3 (n := n) ok hn J1)
      rw [← c_S3] at this
      exact this
    · rw [if_neg (show ¬ c32 4 = 0 by decide)]
      have := KO.l (n := n) ok (by omega) hx1 hPlt hs1 hs2 hG1 h10 h11 (K_4 (n := n) ok hS hn J1)
      rw [← c_S4] at this
      exact this
    · rw [if_neg (show ¬ c32 5 = 0 by decide)]
      have := KO.l (n := n) ok (by omega) hx1 hPlt hs1 hs2 hG1 h10 h11 (K_5 (n := n) ok hn J1)
      rw [← c_S5] at this
      exact this
    · rw [if_neg (show ¬ c32 6 = 0 by decide)]
      have := KO.l (n := n) ok (by omega) hx1 hPlt hs1 hs2 hG1 h10 h11 (K_6 (n := n) J1 ok)
      rw [← c_S6] at this
      exact this
    · rw [if_neg (show ¬ c32 7 = 0 by decide)]
      have := KO.l (n := n) ok (by omega) hx1 hPlt hs1 hs2 hG1 h10 h11 (K_7 (n := n) ok hS hn J1)
      rw [← c_S7] at this
      exact this
    · rw [if_neg (show ¬ c32 8 = 0 by decide)]
      have := KO.l (n := n) ok (by omega) hx1 hPlt hs1 hs2 hG1 h10 h11 (K_8 (n := n) ok J1)
      rw [← c_S8] at this
      exact this
    · rw [if_neg (show ¬ c32 9 = 0 by decide)]
      have := KO.l (n := n) ok (by omega) hx1 hPlt hs1 hs2 hG1 h10 h11 (K_9 (n := n) ok hS hn J1)
      rw [← c_S9] at this
      exact this
    · rw [if_neg (show ¬ c32 10 = 0 by decide)]
      have := KO.l (n := n) ok (by omega) hx1 hPlt hs1 hs2 hG1 h10 h11 (K_10 (n := n) ok hn J1)
      rw [← c_S10] at this
      exact this
    · rw [if_neg (show ¬ c32 11 = 0 by decide)]
      have := KO.l (n := n) ok (by omega) hx1 hPlt hs1 hs2 hG1 h10 h11 (K_11 (n := n) J1 ok)
      rw [← c_S11] at this
      exact this
    · rw [if_neg (show ¬ c32 12 = 0 by decide)]
      have := KO.l (n := n) ok (by omega) hx1 hPlt hs1 hs2 hG1 h10 h11 (K_12 (n := n) ok J1)
      rw [← c_S12] at this
      exact this
    · rw [if_neg (show ¬ c32 13 = 0 by decide)]
      have := KO.l (n := n) ok (by omega) hx1 hPlt hs1 hs2 hG1 h10 h11 (K_13 (n := n) ok hS hn J1)
      rw [← c_S13] at this
      exact this
    · rw [if_neg (show ¬ c32 14 = 0 by decide)]
      have := KO.l (n := n) ok (by omega) hx1 hPlt hs1 hs2 hG1 h10 h11 (K_14 (n := n) ok hS hn J1)
      rw [← c_S14] at this
      exact this
    · rw [if_neg (show ¬ c32 15 = 0 by decide)]
      have := KO.l (n := n) ok (by omega) hx1 hPlt hs1 hs2 hG1 h10 h11 (K_15 (n := n) J1 ok)
      rw [← c_S15] at this
      exact this
    · rw [if_neg (show ¬ c32 16 = 0 by decide)]
      have := KO.l (n := n) ok (by omega) hx1 hPlt hs1 hs2 hG1 h10 h11 (K_16 (n := n) J1 ok)
      rw [← c_S16] at this
      exact this
  · have hno : ∀ k, k < 17 → mt C (wb k) a ≠ (wb k).length := fun k hk z => hf ⟨k, hk, z⟩
    unfold af_X3_statement bf_statement
    rw [ob (A_cls hA), oxr (A_word_f ok hS hp hA hno hn), ob (b_takeWord_f (lo := 0) (c := 17) (x := 0) (y := 16) ok hP hp (by omega) (by omega) (fun k hk => by rw [Nat.zero_add]; exact hno k hk) hn)]
    have hmx := mx_le C a 0 hp 17 (by omega)
    have est : stA (sI (sI st 4 (c32 (a + mx C a 0 17))) 7 1) 11 (24 : Int32) (-1) = some (sA (sI (sI st 4 (c32 (a + mx C a 0 17))) 7 1) 11 24 (-1)) := by
      show stA _ 11 (c32 24) _ = _
      rw [st_A (show 24 < 25 by omega)]
    dsimp only
    rw [ob est, if_neg (by exact n10)]
    exact Or.inr ⟨a + mx C a 0 17, _, _, hmx.1, rfl, ⟨_, _, hA.ps.th⟩, Ext.mvP.th, by show σ.1 + 1 ≤ _; omega, by show σ.2.1 + 6 ≤ _; omega, rfl, ⟨0, BP.set hP.p.b (by decide)⟩, (BE.i4.trans BE.i7).f.g.trans (BG.ten (Or.inr rfl))⟩
end STMT
