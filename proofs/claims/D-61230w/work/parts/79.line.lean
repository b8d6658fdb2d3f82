/-! THE PURE LAW: a whole line -/
section LINE
variable {C : pC} {σ : aS} {st : bS} {n : Nat}
theorem i_X4 {S : Nat → Nat} {q : Nat} {x0 x1 x2 : Value} {p0 : Int32} {p1 : Option Nat} (h : σ.2.2 q = some (.inr (3, [x0, x1, x2]))) : af_X4_init n S σ q p0 p1 = some (mv σ q (.inr (3, [.int p0, va_rf p1, x2])), ()) := by
  unfold af_X4_init
  rw [ob (pF_of h (by show 0 < 3; omega)), ob (pF_of (mv_at _ _ _) (by show 1 < 3; omega)), mv_mv]
  rfl
def bTail (n : Nat) (st_7 : bS) : Option (bS × Int32) :=
    (bf_lineNumber n st_7 ).bind fun q_8 =>
    (stA q_8.1 10 (24 : Int32) q_8.2).bind fun st_9 =>
    if (st_9.1 7) = 0 then
      if (st_9.1 4) = (st_9.1 2) then
        bf_enter_L124 n st_9 (1 : Int32)
      else
        bf_enter_L123 n st_9
    else
      bf_enter_L123 n st_9
/-- a line that can't be -/
def LnB (C : pC) (n : Nat) (σ : aS) (st : bS) : Prop := ∃ at_ σ' st', at_ ≤ C.N ∧ af_X3_line n C.S σ C.P = some (σ', .inr 0) ∧ (∃ op go, PA C σ' at_ op go) ∧ Ext C.P σ σ' ∧ σ'.1 ≤ σ.1 + 210 ∧ σ'.2.1 ≤ σ.2.1 + 1010 ∧ bTail n st = bf_enter_L140 n st' 0 ∧ st'.1 7 = 1 ∧ st'.1 4 = c32 at_ ∧ BG st st'
/-- a number alone -/
def LnD (C : pC) (n : Nat) (σ : aS) (st : bS) : Prop := ∃ num σ' ln st', num < 1000 ∧ num ≠ 0 ∧ af_X3_line n C.S σ C.P = some (σ', .inl (some ln)) ∧ σ.1 ≤ ln ∧ ln < σ'.1 ∧ σ'.2.2 ln = some (.inr (3, [.int (c32 num), .null, .null])) ∧ Ext C.P σ σ' ∧ σ'.1 ≤ σ.1 + 210 ∧ σ'.2.1 ≤ σ.2.1 + 1010 ∧ bTail n st = bf_enter_L140 n st' 1 ∧ st'.1 7 = 0 ∧ st'.2.1 10 24 = c32 num ∧ BG st st'
/-- a line with a statement -/
def LnN (C : pC) (n : Nat) (σ : aS) (st : bS) : Prop := ∃ num so σ' ln s h st' cs, num < 1000 ∧ num ≠ 0 ∧ so < 17 ∧ af_X3_line n C.S σ C.P = some (σ', .inl (some ln)) ∧ σ.1 ≤ ln ∧ ln < σ'.1 ∧ h ln = none ∧ (∀ q e, h q = some e → σ.1 ≤ q ∧ q < σ'.1 ∧ σ'.2.2 q = some e) ∧ σ'.2.2 ln = some (.inr (3, [.int (c32 num), .ref s, .null])) ∧ Ext C.P σ σ' ∧ σ'.1 ≤ σ.1 + 210 ∧ σ'.2.1 ≤ σ.2.1 + 1010 ∧ bTail n st = bf_enter_L140 n st' 0 ∧ st'.1 7 = 0 ∧ st'.2.1 10 24 = c32 num ∧ st'.2.1 11 24 = c32 so ∧ BG st st' ∧ BM st' cs ∧ cs.length ≤ 150 ∧ STM h s so (fun i => st'.2.1 12 (192 + i)) (R24 st' cs.length)
theorem L_line (ok : pOk C) (hS : sInj C.S) (hn : 1000 ≤ n) (hA : PA C σ 0 0 0) (hP : BP C st 0 0 0) (hM : BM st []) : LnB C n σ st ∨ LnD C n σ st ∨ LnN C n σ st := by
  have hN := ok.1
  have hPlt := hA.2.2.2.1
  have hle := sNum_le C 0
  by_cases h0 : (sNum C 0).1 = 0
  · refine Or.inl ⟨(sNum C 0).2, aTh (ps C σ (sNum C 0).2 0 0), sA (sI (sI st 4 (c32 (sNum C 0).2)) 7 1) 10 24 0, hle.2.2.1 (by omega), ?_, ⟨_, _, hA.ps.th⟩, Ext.mvP.th, by show σ.1 + 1 ≤ _; omega, by show σ.2.1 + 6 ≤ _; omega, ?_, rfl, rfl, (BE.i4.trans BE.i7).f.g.trans (BG.ten (Or.inl rfl))⟩
    · unfold af_X3_line
      rw [ob (A_cls hA), oxr (A_number_f ok hA (by omega) (by omega) h0)]
    · unfold bTail
      rw [ob (B_number_f ok hP (by omega) (by omega) h0)]
      have est : stA (sI (sI st 4 (c32 (sNum C 0).2)) 7 1) 10 (24 : Int32) 0 = some (sA (sI (sI st 4 (c32 (sNum C 0).2)) 7 1) 10 24 0) := by
        show stA _ 10 (c32 24) _ = _
        rw [st_A (show 24 < 25 by omega)]
      dsimp only
      rw [ob est, if_neg (by exact n10)]
      unfold bf_enter_L123 bf_enter_L124
      rw [if_pos rfl, if_neg (by exact n10)]
  have eA := A_number_t (n := n) ok hA (by omega) (by omega) h0
  have eB := B_number_t (n := n) ok hP (by omega) (by omega) h0
  generalize hnum : (sNum C 0).1 = num at *
  generalize hat : (sNum C 0).2 = p at *
  have hpN := hle.2.2.1 (by omega)
  have hA1 : PA C (ps C σ p 0 0) p 0 0 := hA.ps
  have est : stA (sI st 4 (c32 p)) 10 (24 : Int32) (c32 num) = some (sA (sI st 4 (c32 p)) 10 24 (c32 num)) := by
    show stA _ 10 (c32 24) _ = _
    rw [st_A (show 24 < 25 by omega)]
  have hP1 : BP C (sA (sI st 4 (c32 p)) 10 24 (c32 num)) p 0 0 := BP.set hP.p (by decide)
  have hM1 : BM (sA (sI st 4 (c32 p)) 10 24 (c32 num)) [] := BM.set (st := sI st 4 (c32 p)) hM (by decide)
  have hG1 : BG st (sA (sI st 4 (c32 p)) 10 24 (c32 num)) := BE.i4.f.g.trans (BG.ten (Or.inl rfl))
  have h10 : (sA (sI st 4 (c32 p)) 10 24 (c32 num)).2.1 10 24 = c32 num := by rw [sA_at, if_pos rfl, if_pos rfl]
  have hx1 : Ext C.P σ (ps C σ p 0 0) := Ext.mvP
  have hs1 : (ps C σ p 0 0).1 = σ.1 := rfl
  have hs2 : (ps C σ p 0 0).2.1 = σ.2.1 := rfl
  have ebt : bTail n st = if ((sA (sI st 4 (c32 p)) 10 24 (c32 num)).1 7) = 0 then if ((sA (sI st 4 (c32 p)) 10 24 (c32 num)).1 4) = ((sA (sI st 4 (c32 p)) 10 24 (c32 num)).1 2) then bf_enter_L124 n (sA (sI st 4 (c32 p)) 10 24 (c32 num)) (1 : Int32) else bf_enter_L123 n (sA (sI st 4 (c32 p)) 10 24 (c32 num)) else bf_enter_L123 n (sA (sI st 4 (c32 p)) 10 24 (c32 num)) := by
    unfold bTail
    rw [ob eB]
    dsimp only
    rw [ob est]
  have eA1 : af_X3_line n C.S σ C.P = if c32 p < c32 C.N then
    (gC (ps C σ p 0 0) C.P 2).bind fun u_9 =>
    xb (af_X3_statement n C.S (ps C σ p 0 0) C.P) fun st_7 r_8 =>
    (gI st_7 C.P 2 2).bind fun v_10 =>
    (gI st_7 C.P 2 1).bind fun v_11 =>
    if v_10 < v_11 then
      af_X3_line_L48 n C.S st_7 C.P (c32 num) r_8 (0 : Int32)
    else
      af_X3_line_L48 n C.S st_7 C.P (c32 num) r_8 (1 : Int32)
  else
    (nO (ps C σ p 0 0) 3 [.int 0, .null, .null] 3).bind fun st_13 =>
    cb (af_X4_init n C.S st_13 (ps C σ p 0 0).1 (c32 num) (none : Option Nat)) fun st_14 u_15 =>
    some (st_14, .inl (some (ps C σ p 0 0).1)) := by
    unfold af_X3_line
    rw [ob (A_cls hA), ox eA, ob (A_at hA1), ob (A_len hA1)]
  generalize sA (sI st 4 (c32 p)) 10 24 (c32 num) = s1 at *
  generalize ps C σ p 0 0 = σ1 at *
  rw [if_pos hP1.2.2.2.2, hP1.2.2.1, hP1.1] at ebt
  by_cases hlt : p < C.N
  · rw [if_pos ((c_lt (by omega) (by omega)).mpr hlt), ob (A_cls hA1)] at eA1
    rw [if_neg (fun z => by have := (c_eq (a := p) (b := C.N) (by omega) (by omega)).mp z; omega)] at ebt
    have ebt2 : bTail n st = (bf_statement n s1).bind fun q_3 => bf_enter_L140 n q_3.1 0 := by
      rw [ebt]
      unfold bf_enter_L123 bf_enter_L124
      rw [if_pos rfl, if_pos hP1.2.2.2.2]
    rcases S_stm (n := n) ok hS hn ⟨hA1, hP1, hM1, hpN, by show 0 ≤ _; omega⟩ with ⟨so, at_, σ', s, st', cs, g0, g1, g2, ⟨op, go, g3⟩, g4, g5, g6, g7, ⟨ob_, g8⟩, g9, g10, g11, g14, g12, g13⟩ | ⟨at_, σ', st', g1, g2, ⟨op, go, g3⟩, g4, g5, g6, g7, ⟨ob_, g8⟩, g9⟩
    · rw [ob g7] at ebt2
      rw [ox g2, ob (A_at g3), ob (A_len g3)] at eA1
      by_cases hend : at_ < C.N
      · rw [if_neg (by omega)] at g8
        rw [if_pos ((c_lt (by omega) (by omega)).mpr hend)] at eA1
        unfold af_X3_line_L48 at eA1
        rw [ob (A_cls g3), oxr A_need_f] at eA1
        exact Or.inl ⟨at_, _, st', g1, eA1, ⟨_, _, g3.th⟩, (hx1.trans g4).th, by show σ'.1 + 1 ≤ _; omega, by show σ'.2.1 + 6 ≤ _; omega, ebt2, g8.2.2.2.2, g8.2.2.1, hG1.trans g11⟩
      · rw [if_pos (by omega)] at g8
        rw [if_neg (fun z => hend ((c_lt (by omega) (by omega)).mp z))] at eA1
        unfold af_X3_line_L48 at eA1
        rw [ob (A_cls g3), ox A_need_t, ob (nO_eq _ _ _ _), oc (i_X4 (nw_at _ _ _))] at eA1
        have hge : σ1.1 ≤ σ'.1 := g4.1
        refine Or.inr (Or.inr ⟨num, so, _, σ'.1, s, hi σ1.1 σ', st', cs, hle.2.2.2.1, h0, g0, eA1, by omega, by show σ'.1 < σ'.1 + 1; omega, ?_, ?_, mv_at _ _ _, ((hx1.trans g4).trans Ext.nwc).new (by omega), by show σ'.1 + 1 ≤ _; omega, by show σ'.2.1 + 3 ≤ _; omega, ebt2, g8.2.2.2.2, ?_, g12, hG1.trans g11, g9, g10, g13⟩)
        · unfold hi
          rw [if_neg (by omega)]
        · intro q e hq
          unfold hi at hq
          by_cases gg : σ1.1 ≤ q ∧ q < σ'.1
          · rw [if_pos gg] at hq
            refine ⟨by omega, by show q < σ'.1 + 1; omega, ?_⟩
            rw [mv_ne _ _ (by omega), nw_ne _ _ _ (by omega)]
            exact hq
          · rw [if_neg gg] at hq
            exact nomatch hq
        · rw [g14]
          exact h10
    · rw [ob g7] at ebt2
      rw [oxr g2] at eA1
      exact Or.inl ⟨at_, _, st', g1, eA1, ⟨_, _, g3⟩, hx1.trans g4, by omega, by omega, ebt2, g8.2.2.2.2, g8.2.2.1, hG1.trans g9⟩
  · rw [if_neg (fun z => hlt ((c_lt (by omega) (by omega)).mp z)), ob (nO_eq _ _ _ _), oc (i_X4 (nw_at _ _ _))] at eA1
    have hpe : p = C.N := by omega
    rw [if_pos (by rw [hpe])] at ebt
    refine Or.inr (Or.inl ⟨num, _, σ1.1, s1, hle.2.2.2.1, h0, eA1, by omega, by show σ1.1 < σ1.1 + 1; omega, mv_at _ _ _, (hx1.trans Ext.nwc).new (by omega), by show σ1.1 + 1 ≤ _; omega, by show σ1.2.1 + 3 ≤ _; omega, ?_, hP1.2.2.2.2, h10, hG1⟩)
    rw [ebt]
    unfold bf_enter_L124
    rw [if_neg n10]
end LINE
