/-! stores only grow (printed by gena.py) -/
/-! BasicMachine.checked(D)D -/
set_option maxHeartbeats 4000000 in
set_option maxRecDepth 100000 in
theorem oaf_X1_checked {n : Nat} {S : Nat → Nat} {st : aS} {p0 : UInt64} : Mo st (af_X1_checked n S st p0) := (mo_if mo_tw (mo_if mo_ret mo_tw))
/-! BasicMachine.whole(D)J -/
set_option maxHeartbeats 4000000 in
set_option maxRecDepth 100000 in
theorem oaf_X1_whole {n : Nat} {S : Nat → Nat} {st : aS} {p0 : UInt64} : Mo st (af_X1_whole n S st p0) := mo_ret
/-! BasicMachine.<init>()V -/
set_option maxHeartbeats 4000000 in
set_option maxRecDepth 100000 in
theorem oaf_X1_init {n : Nat} {S : Nat → Nat} {st : aS} {a0 : Nat} : Mo st (af_X1_init n S st a0) := (mo_s (fun _ => le_nA) fun _ => (mo_s (fun _ => le_pF) fun _ => (mo_s (fun _ => le_pF) fun _ => (mo_s (fun _ => le_nA) fun _ => (mo_s (fun _ => le_pF) fun _ => (mo_s (fun _ => le_nA) fun _ => (mo_s (fun _ => le_pF) fun _ => (mo_s (fun _ => le_nA) fun _ => (mo_s (fun _ => le_pF) fun _ => (mo_s (fun _ => le_nA) fun _ => (mo_s (fun _ => le_pF) fun _ => (mo_s (fun _ => le_nA) fun _ => (mo_s (fun _ => le_pF) fun _ => (mo_s (fun _ => le_nA) fun _ => (mo_s (fun _ => le_pF) fun _ => (mo_s (fun _ => le_nA) fun _ => (mo_s (fun _ => le_pF) fun _ => (mo_s (fun _ => le_nA) fun _ => (mo_s (fun _ => le_pF) fun _ => (mo_s (fun _ => le_pF) fun _ => mo_ret))))))))))))))))))))
/-! BasicMachine.type(I)I -/
set_option maxHeartbeats 4000000 in
set_option maxRecDepth 100000 in
theorem oaf_X1_type {n : Nat} {S : Nat → Nat} {st : aS} {a0 : Nat} {p1 : Int32} : Mo st (af_X1_type n S st a0 p1) := (mo_if mo_tw (mo_if (mo_v fun _ => (mo_if mo_tw (mo_v fun _ => (mo_v fun _ => (mo_v fun _ => (mo_s (fun _ => le_wI) fun _ => (mo_v fun _ => (mo_s (fun _ => le_pF) fun _ => (mo_v fun _ => mo_ret))))))))) mo_tw))
/-! BasicMachine$Parser.<init>([CI)V -/
set_option maxHeartbeats 4000000 in
set_option maxRecDepth 100000 in
theorem oaf_X3_init {n : Nat} {S : Nat → Nat} {st : aS} {a0 : Nat} {p1 : Option Nat} {p2 : Int32} : Mo st (af_X3_init n S st a0 p1 p2) := (mo_s (fun _ => le_nA) fun _ => (mo_s (fun _ => le_wR) fun _ => (mo_s (fun _ => le_wR) fun _ => (mo_s (fun _ => le_wR) fun _ => (mo_s (fun _ => le_wR) fun _ => (mo_s (fun _ => le_wR) fun _ => (mo_s (fun _ => le_wR) fun _ => (mo_s (fun _ => le_wR) fun _ => (mo_s (fun _ => le_wR) fun _ => (mo_s (fun _ => le_wR) fun _ => (mo_s (fun _ => le_wR) fun _ => (mo_s (fun _ => le_wR) fun _ => (mo_s (fun _ => le_wR) fun _ => (mo_s (fun _ => le_wR) fun _ => (mo_s (fun _ => le_wR) fun _ => (mo_s (fun _ => le_wR) fun _ => (mo_s (fun _ => le_wR) fun _ => (mo_s (fun _ => le_wR) fun _ => (mo_s (fun _ => le_pF) fun _ => (mo_s (fun _ => le_pF) fun _ => (mo_s (fun _ => le_pF) fun _ => mo_ret)))))))))))))))))))))
/-! BasicMachine$Parser.here()C -/
set_option maxHeartbeats 4000000 in
set_option maxRecDepth 100000 in
theorem oaf_X3_here {n : Nat} {S : Nat → Nat} {st : aS} {a0 : Nat} : Mo st (af_X3_here n S st a0) := (mo_v fun _ => (mo_v fun _ => (mo_if (mo_v fun _ => mo_ret) (mo_v fun _ => (mo_v fun _ => (mo_v fun _ => (mo_v fun _ => (mo_v fun _ => mo_ret))))))))
/-! BasicMachine$Parser.digit(C)Z -/
set_option maxHeartbeats 4000000 in
set_option maxRecDepth 100000 in
theorem oaf_X3_digit {n : Nat} {S : Nat → Nat} {st : aS} {p0 : Int32} : Mo st (af_X3_digit n S st p0) := (mo_if mo_ret (mo_if mo_ret mo_ret))
/-! BasicMachine$Parser.need(Z)V -/
set_option maxHeartbeats 4000000 in
set_option maxRecDepth 100000 in
theorem oaf_X3_need {n : Nat} {S : Nat → Nat} {st : aS} {a0 : Nat} {p1 : Int32} : Mo st (af_X3_need n S st a0 p1) := (mo_if mo_tw mo_ret)
/-! BasicMachine$Parser.number()I -/
set_option maxHeartbeats 4000000 in
set_option maxRecDepth 100000 in
theorem oaf_X3_number_L80 {n : Nat} {S : Nat → Nat} {st : aS} {a0 : Nat} {x1 : Int32} {z80_1 : Int32} : Mo st (af_X3_number_L80 n S st a0 x1 z80_1) := (mo_v fun _ => (mo_x oaf_X3_need fun _ _ => mo_ret))
set_option maxHeartbeats 4000000 in
set_option maxRecDepth 100000 in
theorem oaf_X3_number_L79 {n : Nat} {S : Nat → Nat} {st : aS} {a0 : Nat} {x1 : Int32} : Mo st (af_X3_number_L79 n S st a0 x1) := (oaf_X3_number_L80 )
set_option maxHeartbeats 4000000 in
set_option maxRecDepth 100000 in
theorem oaf_X3_number_L66 {n : Nat} {S : Nat → Nat} {st : aS} {a0 : Nat} {x1 : Int32} {x2 : Int32} : Mo st (af_X3_number_L66 n S st a0 x1 x2) := (mo_if (oaf_X3_number_L79 ) (mo_if (oaf_X3_number_L79 ) (oaf_X3_number_L80 )))
set_option maxHeartbeats 4000000 in
set_option maxRecDepth 100000 in
theorem oaf_X3_number_S4_ {n : Nat} {S : Nat → Nat} : ∀ k : Nat, (∀ {st : aS} {a0 : Nat} {x1 : Int32} {x2 : Int32} {z47_1 : Int32}, Mo st (af_X3_number_S4 n S k 0 st a0 x1 x2 z47_1)) ∧ (∀ {st : aS} {a0 : Nat} {x1 : Int32} {x2 : Int32} {z47_1 : Int32}, Mo st (af_X3_number_S4 n S k 1 st a0 x1 x2 z47_1)) ∧ (∀ {st : aS} {a0 : Nat} {x1 : Int32} {x2 : Int32} {z47_1 : Int32}, Mo st (af_X3_number_S4 n S k 2 st a0 x1 x2 z47_1)) := by
  intro k
  induction k with
  | zero => exact ⟨(fun q h => nomatch (show none = some q from h)), (fun q h => nomatch (show none = some q from h)), (fun q h => nomatch (show none = some q from h))⟩
  | succ k ih =>
    obtain ⟨mrec0, mrec1, mrec2⟩ := ih
    refine ⟨?_, ?_, ?_⟩
    · intro st a0 x1 x2 z47_1
      exact (show Mo st (af_X3_number_B4 n S (af_X3_number_S4 n S k) st a0 x1 x2 z47_1) from (mo_if (oaf_X3_number_L66 ) (mo_v fun _ => (mo_cb oaf_X3_here fun _ _ => (mo_cb oaf_X3_digit fun _ _ => (mo_if (oaf_X3_number_L66 ) (mo_v fun _ => (mo_cb oaf_X3_here fun _ _ => (mo_v fun _ => (mo_if (mrec1) (mo_if (mrec2) (mrec1))))))))))))
    · intro st a0 x1 x2 z47_1
      exact (show Mo st (af_X3_number_B42 n S (af_X3_number_S4 n S k) st a0 x1 x2 z47_1) from (mrec2))
    · intro st a0 x1 x2 z47_1
      exact (show Mo st (af_X3_number_B47 n S (af_X3_number_S4 n S k) st a0 x1 x2 z47_1) from (mo_v fun _ => (mo_x oaf_X3_need fun _ _ => (mo_v fun _ => (mo_s (fun _ => le_pF) fun _ => (mrec0))))))
set_option maxHeartbeats 4000000 in
set_option maxRecDepth 100000 in
theorem oaf_X3_number_S4 {n : Nat} {S : Nat → Nat} : (∀ {st : aS} {a0 : Nat} {x1 : Int32} {x2 : Int32} {z47_1 : Int32}, Mo st (af_X3_number_S4 n S n 0 st a0 x1 x2 z47_1)) ∧ (∀ {st : aS} {a0 : Nat} {x1 : Int32} {x2 : Int32} {z47_1 : Int32}, Mo st (af_X3_number_S4 n S n 1 st a0 x1 x2 z47_1)) ∧ (∀ {st : aS} {a0 : Nat} {x1 : Int32} {x2 : Int32} {z47_1 : Int32}, Mo st (af_X3_number_S4 n S n 2 st a0 x1 x2 z47_1)) := oaf_X3_number_S4_  n
set_option maxHeartbeats 4000000 in
set_option maxRecDepth 100000 in
theorem oaf_X3_number {n : Nat} {S : Nat → Nat} {st : aS} {a0 : Nat} : Mo st (af_X3_number n S st a0) := ((oaf_X3_number_S4 ).1)
/-! BasicMachine$Line.<init>(ILBasicMachine$Statement;)V -/
set_option maxHeartbeats 4000000 in
set_option maxRecDepth 100000 in
theorem oaf_X4_init {n : Nat} {S : Nat → Nat} {st : aS} {a0 : Nat} {p1 : Int32} {p2 : Option Nat} : Mo st (af_X4_init n S st a0 p1 p2) := (mo_s (fun _ => le_pF) fun _ => (mo_s (fun _ => le_pF) fun _ => mo_ret))
/-! BasicMachine$Parser.same(Ljava/lang/String;I)I -/
set_option maxHeartbeats 4000000 in
set_option maxRecDepth 100000 in
theorem oaf_X3_same_S2_ {n : Nat} {S : Nat → Nat} : ∀ k : Nat, (∀ {st : aS} {a0 : Nat} {x1 : Option Nat} {x2 : Int32} {x3 : Int32}, Mo st (af_X3_same_S2 n S k st a0 x1 x2 x3)) := by
  intro k
  induction k with
  | zero => exact fun q h => nomatch (show none = some q from h)
  | succ k ih =>
    have mrec := @ih
    intro st a0 x1 x2 x3
    exact (show Mo st (af_X3_same_B2 n S (af_X3_same_S2 n S k) st a0 x1 x2 x3) from (mo_v fun _ => (mo_v fun _ => (mo_if mo_ret (mo_v fun _ => (mo_if mo_ret (mo_v fun _ => (mo_v fun _ => (mo_v fun _ => (mo_v fun _ => (mo_if (mrec) mo_ret)))))))))))
set_option maxHeartbeats 4000000 in
set_option maxRecDepth 100000 in
theorem oaf_X3_same_S2 {n : Nat} {S : Nat → Nat} : (∀ {st : aS} {a0 : Nat} {x1 : Option Nat} {x2 : Int32} {x3 : Int32}, Mo st (af_X3_same_S2 n S n st a0 x1 x2 x3)) := oaf_X3_same_S2_  n
set_option maxHeartbeats 4000000 in
set_option maxRecDepth 100000 in
theorem oaf_X3_same {n : Nat} {S : Nat → Nat} {st : aS} {a0 : Nat} {p1 : Option Nat} {p2 : Int32} : Mo st (af_X3_same n S st a0 p1 p2) := ((oaf_X3_same_S2 ))
/-! BasicMachine$Parser.word()Ljava/lang/String; -/
set_option maxHeartbeats 4000000 in
set_option maxRecDepth 100000 in
theorem oaf_X3_word_S5_ {n : Nat} {S : Nat → Nat} : ∀ k : Nat, (∀ {st : aS} {a0 : Nat} {x1 : Int32} {x2 : Int32} {x3 : Int32}, Mo st (af_X3_word_S5 n S k 0 st a0 x1 x2 x3)) ∧ (∀ {st : aS} {a0 : Nat} {x1 : Int32} {x2 : Int32} {x3 : Int32}, Mo st (af_X3_word_S5 n S k 1 st a0 x1 x2 x3)) ∧ (∀ {st : aS} {a0 : Nat} {x1 : Int32} {x2 : Int32} {x3 : Int32}, Mo st (af_X3_word_S5 n S k 2 st a0 x1 x2 x3)) := by
  intro k
  induction k with
  | zero => exact ⟨(fun q h => nomatch (show none = some q from h)), (fun q h => nomatch (show none = some q from h)), (fun q h => nomatch (show none = some q from h))⟩
  | succ k ih =>
    obtain ⟨mrec0, mrec1, mrec2⟩ := ih
    refine ⟨?_, ?_, ?_⟩
    · intro st a0 x1 x2 x3
      exact (show Mo st (af_X3_word_B5 n S (af_X3_word_S5 n S k) st a0 x1 x2 x3) from (mrec1))
    · intro st a0 x1 x2 x3
      exact (show Mo st (af_X3_word_B9 n S (af_X3_word_S5 n S k) st a0 x1 x2 x3) from (mo_v fun _ => (mo_v fun _ => (mo_v fun _ => (mo_if (mo_v fun _ => (mo_x oaf_X3_need fun _ _ => (mo_v fun _ => (mo_s (fun _ => le_pF) fun _ => (mrec0))))) (mo_v fun _ => (mo_v fun _ => (mo_v fun _ => (mo_v fun _ => (mo_cb oaf_X3_same fun _ _ => (mo_v fun _ => (mo_v fun _ => (mo_v fun _ => (mo_v fun _ => (mo_v fun _ => (mo_if (mo_s (fun _ => le_pF) fun _ => (mo_v fun _ => (mo_v fun _ => (mo_v fun _ => mo_ret)))) (mo_v fun _ => (mo_if (mrec2) (mrec2)))))))))))))))))))
    · intro st a0 x1 x2 x3
      exact (show Mo st (af_X3_word_B73 n S (af_X3_word_S5 n S k) st a0 x1 x2 x3) from (mrec1))
set_option maxHeartbeats 4000000 in
set_option maxRecDepth 100000 in
theorem oaf_X3_word_S5 {n : Nat} {S : Nat → Nat} : (∀ {st : aS} {a0 : Nat} {x1 : Int32} {x2 : Int32} {x3 : Int32}, Mo st (af_X3_word_S5 n S n 0 st a0 x1 x2 x3)) ∧ (∀ {st : aS} {a0 : Nat} {x1 : Int32} {x2 : Int32} {x3 : Int32}, Mo st (af_X3_word_S5 n S n 1 st a0 x1 x2 x3)) ∧ (∀ {st : aS} {a0 : Nat} {x1 : Int32} {x2 : Int32} {x3 : Int32}, Mo st (af_X3_word_S5 n S n 2 st a0 x1 x2 x3)) := oaf_X3_word_S5_  n
set_option maxHeartbeats 4000000 in
set_option maxRecDepth 100000 in
theorem oaf_X3_word {n : Nat} {S : Nat → Nat} {st : aS} {a0 : Nat} : Mo st (af_X3_word n S st a0) := (mo_v fun _ => ((oaf_X3_word_S5 ).1))
/-! BasicMachine$Parser.isMatrix(C)Z -/
set_option maxHeartbeats 4000000 in
set_option maxRecDepth 100000 in
theorem oaf_X3_isMatrix {n : Nat} {S : Nat → Nat} {st : aS} {p0 : Int32} : Mo st (af_X3_isMatrix n S st p0) := (mo_if mo_ret (mo_if mo_ret mo_ret))
/-! BasicMachine$Parser.takes(C)Z -/
set_option maxHeartbeats 4000000 in
set_option maxRecDepth 100000 in
theorem oaf_X3_takes {n : Nat} {S : Nat → Nat} {st : aS} {a0 : Nat} {p1 : Int32} : Mo st (af_X3_takes n S st a0 p1) := (mo_v fun _ => (mo_cb oaf_X3_here fun _ _ => (mo_if (mo_v fun _ => (mo_v fun _ => (mo_if (mo_v fun _ => (mo_s (fun _ => le_pF) fun _ => mo_ret)) mo_ret))) mo_ret)))
/-! BasicMachine$Parser.numeral()D -/
set_option maxHeartbeats 4000000 in
set_option maxRecDepth 100000 in
theorem oaf_X3_numeral_L88 {n : Nat} {S : Nat → Nat} {st : aS} {a0 : Nat} {x1 : Int64} {z88_1 : Int32} : Mo st (af_X3_numeral_L88 n S st a0 x1 z88_1) := (mo_v fun _ => (mo_x oaf_X3_need fun _ _ => mo_ret))
set_option maxHeartbeats 4000000 in
set_option maxRecDepth 100000 in
theorem oaf_X3_numeral_L181 {n : Nat} {S : Nat → Nat} {st : aS} {a0 : Nat} {x1 : Int64} {x4 : UInt64} {z181_1 : Int32} : Mo st (af_X3_numeral_L181 n S st a0 x1 x4 z181_1) := (mo_v fun _ => (mo_x oaf_X3_need fun _ _ => (mo_v fun _ => mo_ret)))
set_option maxHeartbeats 4000000 in
set_option maxRecDepth 100000 in
theorem oaf_X3_numeral_L165 {n : Nat} {S : Nat → Nat} {st : aS} {a0 : Nat} {x1 : Int64} {x4 : UInt64} : Mo st (af_X3_numeral_L165 n S st a0 x1 x4) := (mo_v fun _ => (mo_cb oaf_X3_here fun _ _ => (mo_cb oaf_X3_digit fun _ _ => (mo_if (oaf_X3_numeral_L181 ) (oaf_X3_numeral_L181 )))))
set_option maxHeartbeats 4000000 in
set_option maxRecDepth 100000 in
theorem oaf_X3_numeral_S110_ {n : Nat} {S : Nat → Nat} : ∀ k : Nat, (∀ {st : aS} {a0 : Nat} {x1 : Int64} {x3 : Int32} {x4 : UInt64}, Mo st (af_X3_numeral_S110 n S k st a0 x1 x3 x4)) := by
  intro k
  induction k with
  | zero => exact fun q h => nomatch (show none = some q from h)
  | succ k ih =>
    have mrec := @ih
    intro st a0 x1 x3 x4
    exact (show Mo st (af_X3_numeral_B110 n S (af_X3_numeral_S110 n S k) st a0 x1 x3 x4) from (mo_if (oaf_X3_numeral_L165 ) (mo_v fun _ => (mo_cb oaf_X3_here fun _ _ => (mo_cb oaf_X3_digit fun _ _ => (mo_if (oaf_X3_numeral_L165 ) (mo_v fun _ => (mo_cb oaf_X3_here fun _ _ => (mo_v fun _ => (mo_v fun _ => (mo_v fun _ => (mo_s (fun _ => le_pF) fun _ => (mrec)))))))))))))
set_option maxHeartbeats 4000000 in
set_option maxRecDepth 100000 in
theorem oaf_X3_numeral_S110 {n : Nat} {S : Nat → Nat} : (∀ {st : aS} {a0 : Nat} {x1 : Int64} {x3 : Int32} {x4 : UInt64}, Mo st (af_X3_numeral_S110 n S n st a0 x1 x3 x4)) := oaf_X3_numeral_S110_  n
set_option maxHeartbeats 4000000 in
set_option maxRecDepth 100000 in
theorem oaf_X3_numeral_L63 {n : Nat} {S : Nat → Nat} {st : aS} {a0 : Nat} {x1 : Int64} : Mo st (af_X3_numeral_L63 n S st a0 x1) := (mo_v fun _ => (mo_cb oaf_X3_takes fun _ _ => (mo_if (mo_v fun _ => (mo_cb oaf_X3_here fun _ _ => (mo_cb oaf_X3_digit fun _ _ => (mo_if (oaf_X3_numeral_L88 ) (oaf_X3_numeral_L88 ))))) (mo_v fun _ => (mo_cb oaf_X3_here fun _ _ => (mo_cb oaf_X3_digit fun _ _ => (mo_v fun _ => (mo_x oaf_X3_need fun _ _ => ((oaf_X3_numeral_S110 ))))))))))
set_option maxHeartbeats 4000000 in
set_option maxRecDepth 100000 in
theorem oaf_X3_numeral_S15_ {n : Nat} {S : Nat → Nat} : ∀ k : Nat, (∀ {st : aS} {a0 : Nat} {x1 : Int64} {x3 : Int32}, Mo st (af_X3_numeral_S15 n S k st a0 x1 x3)) := by
  intro k
  induction k with
  | zero => exact fun q h => nomatch (show none = some q from h)
  | succ k ih =>
    have mrec := @ih
    intro st a0 x1 x3
    exact (show Mo st (af_X3_numeral_B15 n S (af_X3_numeral_S15 n S k) st a0 x1 x3) from (mo_if (oaf_X3_numeral_L63 ) (mo_v fun _ => (mo_cb oaf_X3_here fun _ _ => (mo_cb oaf_X3_digit fun _ _ => (mo_if (oaf_X3_numeral_L63 ) (mo_v fun _ => (mo_cb oaf_X3_here fun _ _ => (mo_v fun _ => (mo_v fun _ => (mo_s (fun _ => le_pF) fun _ => (mrec))))))))))))
set_option maxHeartbeats 4000000 in
set_option maxRecDepth 100000 in
theorem oaf_X3_numeral_S15 {n : Nat} {S : Nat → Nat} : (∀ {st : aS} {a0 : Nat} {x1 : Int64} {x3 : Int32}, Mo st (af_X3_numeral_S15 n S n st a0 x1 x3)) := oaf_X3_numeral_S15_  n
set_option maxHeartbeats 4000000 in
set_option maxRecDepth 100000 in
theorem oaf_X3_numeral {n : Nat} {S : Nat → Nat} {st : aS} {a0 : Nat} : Mo st (af_X3_numeral n S st a0) := (mo_v fun _ => (mo_cb oaf_X3_here fun _ _ => (mo_cb oaf_X3_digit fun _ _ => (mo_v fun _ => (mo_x oaf_X3_need fun _ _ => ((oaf_X3_numeral_S15 )))))))
/-! java/lang/Record.<init>()V -/
set_option maxHeartbeats 4000000 in
set_option maxRecDepth 100000 in
theorem oaf_J15_init {n : Nat} {S : Nat → Nat} {st : aS} {a0 : Nat} : Mo st (af_J15_init n S st a0) := mo_ret
/-! BasicMachine$Numeral.<init>(D)V -/
set_option maxHeartbeats 4000000 in
set_option maxRecDepth 100000 in
theorem oaf_X6_init {n : Nat} {S : Nat → Nat} {st : aS} {a0 : Nat} {p1 : UInt64} : Mo st (af_X6_init n S st a0 p1) := (mo_cb oaf_J15_init fun _ _ => (mo_s (fun _ => le_pF) fun _ => mo_ret))
/-! BasicMachine$Parser.matrix()I -/
set_option maxHeartbeats 4000000 in
set_option maxRecDepth 100000 in
theorem oaf_X3_matrix {n : Nat} {S : Nat → Nat} {st : aS} {a0 : Nat} : Mo st (af_X3_matrix n S st a0) := (mo_v fun _ => (mo_cb oaf_X3_here fun _ _ => (mo_cb oaf_X3_isMatrix fun _ _ => (mo_v fun _ => (mo_x oaf_X3_need fun _ _ => (mo_v fun _ => (mo_s (fun _ => le_pF) fun _ => (mo_v fun _ => (mo_v fun _ => (mo_v fun _ => (mo_v fun _ => mo_ret)))))))))))
/-! BasicMachine$Parser.take(C)V -/
set_option maxHeartbeats 4000000 in
set_option maxRecDepth 100000 in
theorem oaf_X3_take_L14 {n : Nat} {S : Nat → Nat} {st : aS} {a0 : Nat} {z14_1 : Int32} : Mo st (af_X3_take_L14 n S st a0 z14_1) := (mo_v fun _ => (mo_x oaf_X3_need fun _ _ => (mo_v fun _ => (mo_s (fun _ => le_pF) fun _ => mo_ret))))
set_option maxHeartbeats 4000000 in
set_option maxRecDepth 100000 in
theorem oaf_X3_take {n : Nat} {S : Nat → Nat} {st : aS} {a0 : Nat} {p1 : Int32} : Mo st (af_X3_take n S st a0 p1) := (mo_v fun _ => (mo_cb oaf_X3_here fun _ _ => (mo_if (oaf_X3_take_L14 ) (oaf_X3_take_L14 ))))
/-! BasicMachine$Parser.openBracket()V -/
set_option maxHeartbeats 4000000 in
set_option maxRecDepth 100000 in
theorem oaf_X3_openBracket {n : Nat} {S : Nat → Nat} {st : aS} {a0 : Nat} : Mo st (af_X3_openBracket n S st a0) := (mo_v fun _ => (mo_x oaf_X3_take fun _ _ => (mo_v fun _ => (mo_s (fun _ => le_pF) fun _ => mo_ret))))
/-! BasicMachine$Parser.closeBracket()V -/
set_option maxHeartbeats 4000000 in
set_option maxRecDepth 100000 in
theorem oaf_X3_closeBracket {n : Nat} {S : Nat → Nat} {st : aS} {a0 : Nat} : Mo st (af_X3_closeBracket n S st a0) := (mo_v fun _ => (mo_x oaf_X3_take fun _ _ => (mo_v fun _ => (mo_s (fun _ => le_pF) fun _ => mo_ret))))
/-! BasicMachine$Element.<init>(ILBasicMachine$Expression;LBasicMachine$Expression;)V -/
set_option maxHeartbeats 4000000 in
set_option maxRecDepth 100000 in
theorem oaf_X11_init {n : Nat} {S : Nat → Nat} {st : aS} {a0 : Nat} {p1 : Int32} {p2 : Option Nat} {p3 : Option Nat} : Mo st (af_X11_init n S st a0 p1 p2 p3) := (mo_cb oaf_J15_init fun _ _ => (mo_s (fun _ => le_pF) fun _ => (mo_s (fun _ => le_pF) fun _ => (mo_s (fun _ => le_pF) fun _ => mo_ret))))
/-! BasicMachine$Parser.element()LBasicMachine$Element; -/
set_option maxHeartbeats 4000000 in
set_option maxRecDepth 100000 in
theorem oaf_X3_element_L15 {rx : aS → Nat → Option (aS × (Option Nat ⊕ Nat))} (mrv : ∀ {σ : aS} {a : Nat}, Mo σ (rx σ a)) {n : Nat} {S : Nat → Nat} {st : aS} {a0 : Nat} {z15_1 : Int32} : Mo st (af_X3_element_L15 n S rx st a0 z15_1) := (mo_v fun _ => (mo_x oaf_X3_need fun _ _ => (mo_v fun _ => (mo_x oaf_X3_matrix fun _ _ => (mo_v fun _ => (mo_x oaf_X3_openBracket fun _ _ => (mo_v fun _ => (mo_x mrv fun _ _ => (mo_v fun _ => (mo_x oaf_X3_take fun _ _ => (mo_v fun _ => (mo_x mrv fun _ _ => (mo_v fun _ => (mo_x oaf_X3_closeBracket fun _ _ => (mo_s (fun _ => le_nO) fun _ => (mo_cb oaf_X11_init fun _ _ => mo_ret))))))))))))))))
set_option maxHeartbeats 4000000 in
set_option maxRecDepth 100000 in
theorem oaf_X3_element {rx : aS → Nat → Option (aS × (Option Nat ⊕ Nat))} (mrv : ∀ {σ : aS} {a : Nat}, Mo σ (rx σ a)) {n : Nat} {S : Nat → Nat} {st : aS} {a0 : Nat} : Mo st (af_X3_element n S rx st a0) := (mo_v fun _ => (mo_if (oaf_X3_element_L15 mrv) (oaf_X3_element_L15 mrv)))
/-! BasicMachine$Parser.inside()LBasicMachine$Expression; -/
set_option maxHeartbeats 4000000 in
set_option maxRecDepth 100000 in
theorem oaf_X3_inside {rx : aS → Nat → Option (aS × (Option Nat ⊕ Nat))} (mrv : ∀ {σ : aS} {a : Nat}, Mo σ (rx σ a)) {n : Nat} {S : Nat → Nat} {st : aS} {a0 : Nat} : Mo st (af_X3_inside n S rx st a0) := (mo_v fun _ => (mo_x oaf_X3_openBracket fun _ _ => (mo_v fun _ => (mo_x mrv fun _ _ => (mo_v fun _ => (mo_x oaf_X3_closeBracket fun _ _ => mo_ret))))))
/-! BasicMachine$Parser.behind()C -/
set_option maxHeartbeats 4000000 in
set_option maxRecDepth 100000 in
theorem oaf_X3_behind {n : Nat} {S : Nat → Nat} {st : aS} {a0 : Nat} : Mo st (af_X3_behind n S st a0) := (mo_v fun _ => (mo_v fun _ => (mo_if (mo_v fun _ => mo_ret) (mo_v fun _ => (mo_v fun _ => (mo_v fun _ => (mo_v fun _ => (mo_v fun _ => mo_ret))))))))
/-! BasicMachine$Parser.take(Ljava/lang/String;)V -/
set_option maxHeartbeats 4000000 in
set_option maxRecDepth 100000 in
theorem oaf_X3_take_2_S2_ {n : Nat} {S : Nat → Nat} : ∀ k : Nat, (∀ {st : aS} {a0 : Nat} {x1 : Option Nat} {x2 : Int32}, Mo st (af_X3_take_2_S2 n S k st a0 x1 x2)) := by
  intro k
  induction k with
  | zero => exact fun q h => nomatch (show none = some q from h)
  | succ k ih =>
    have mrec := @ih
    intro st a0 x1 x2
    exact (show Mo st (af_X3_take_2_B2 n S (af_X3_take_2_S2 n S k) st a0 x1 x2) from (mo_v fun _ => (mo_v fun _ => (mo_if mo_ret (mo_v fun _ => (mo_v fun _ => (mo_x oaf_X3_take fun _ _ => (mrec))))))))
set_option maxHeartbeats 4000000 in
set_option maxRecDepth 100000 in
theorem oaf_X3_take_2_S2 {n : Nat} {S : Nat → Nat} : (∀ {st : aS} {a0 : Nat} {x1 : Option Nat} {x2 : Int32}, Mo st (af_X3_take_2_S2 n S n st a0 x1 x2)) := oaf_X3_take_2_S2_  n
set_option maxHeartbeats 4000000 in
set_option maxRecDepth 100000 in
theorem oaf_X3_take_2 {n : Nat} {S : Nat → Nat} {st : aS} {a0 : Nat} {p1 : Option Nat} : Mo st (af_X3_take_2 n S st a0 p1) := ((oaf_X3_take_2_S2 ))
/-! BasicMachine$Single.<init>(CLBasicMachine$Expression;)V -/
set_option maxHeartbeats 4000000 in
set_option maxRecDepth 100000 in
theorem oaf_X7_init {n : Nat} {S : Nat → Nat} {st : aS} {a0 : Nat} {p1 : Int32} {p2 : Option Nat} : Mo st (af_X7_init n S st a0 p1 p2) := (mo_cb oaf_J15_init fun _ _ => (mo_v fun _ => (mo_s (fun _ => le_pF) fun _ => (mo_s (fun _ => le_pF) fun _ => mo_ret))))
/-! BasicMachine$Parser.functionName()I -/
set_option maxHeartbeats 4000000 in
set_option maxRecDepth 100000 in
theorem oaf_X3_functionName_L24 {n : Nat} {S : Nat → Nat} {st : aS} {a0 : Nat} {z24_1 : Int32} : Mo st (af_X3_functionName_L24 n S st a0 z24_1) := (mo_v fun _ => (mo_x oaf_X3_need fun _ _ => (mo_v fun _ => (mo_s (fun _ => le_pF) fun _ => (mo_v fun _ => (mo_v fun _ => (mo_v fun _ => (mo_v fun _ => mo_ret))))))))
set_option maxHeartbeats 4000000 in
set_option maxRecDepth 100000 in
theorem oaf_X3_functionName_L23 {n : Nat} {S : Nat → Nat} {st : aS} {a0 : Nat} : Mo st (af_X3_functionName_L23 n S st a0) := (oaf_X3_functionName_L24 )
set_option maxHeartbeats 4000000 in
set_option maxRecDepth 100000 in
theorem oaf_X3_functionName {n : Nat} {S : Nat → Nat} {st : aS} {a0 : Nat} : Mo st (af_X3_functionName n S st a0) := (mo_v fun _ => (mo_cb oaf_X3_here fun _ _ => (mo_if (oaf_X3_functionName_L23 ) (mo_v fun _ => (mo_cb oaf_X3_here fun _ _ => (mo_if (oaf_X3_functionName_L23 ) (oaf_X3_functionName_L24 )))))))
/-! BasicMachine$Call.<init>(ILBasicMachine$Expression;)V -/
set_option maxHeartbeats 4000000 in
set_option maxRecDepth 100000 in
theorem oaf_X8_init {n : Nat} {S : Nat → Nat} {st : aS} {a0 : Nat} {p1 : Int32} {p2 : Option Nat} : Mo st (af_X8_init n S st a0 p1 p2) := (mo_cb oaf_J15_init fun _ _ => (mo_s (fun _ => le_pF) fun _ => (mo_s (fun _ => le_pF) fun _ => mo_ret)))
/-! BasicMachine$Parser.function(CC)LBasicMachine$Expression; -/
set_option maxHeartbeats 4000000 in
set_option maxRecDepth 100000 in
theorem oaf_X3_function_L120 {rx : aS → Nat → Option (aS × (Option Nat ⊕ Nat))} (mrv : ∀ {σ : aS} {a : Nat}, Mo σ (rx σ a)) {n : Nat} {S : Nat → Nat} {st : aS} {a0 : Nat} {x1 : Int32} : Mo st (af_X3_function_L120 n S rx st a0 x1) := (mo_if (mo_v fun _ => (mo_x oaf_X3_take_2 fun _ _ => (mo_v fun _ => (mo_x oaf_X3_functionName fun _ _ => (mo_s (fun _ => le_nO) fun _ => (mo_v fun _ => (mo_x (oaf_X3_inside mrv) fun _ _ => (mo_cb oaf_X8_init fun _ _ => mo_ret)))))))) (mo_s (fun _ => le_nO) fun _ => (mo_v fun _ => (mo_x (oaf_X3_inside mrv) fun _ _ => (mo_cb oaf_X7_init fun _ _ => mo_ret)))))
set_option maxHeartbeats 4000000 in
set_option maxRecDepth 100000 in
theorem oaf_X3_function_L97 {rx : aS → Nat → Option (aS × (Option Nat ⊕ Nat))} (mrv : ∀ {σ : aS} {a : Nat}, Mo σ (rx σ a)) {n : Nat} {S : Nat → Nat} {st : aS} {a0 : Nat} {x1 : Int32} : Mo st (af_X3_function_L97 n S rx st a0 x1) := (mo_v fun _ => (mo_x oaf_X3_take_2 fun _ _ => (oaf_X3_function_L120 mrv)))
set_option maxHeartbeats 4000000 in
set_option maxRecDepth 100000 in
theorem oaf_X3_function_L106 {rx : aS → Nat → Option (aS × (Option Nat ⊕ Nat))} (mrv : ∀ {σ : aS} {a : Nat}, Mo σ (rx σ a)) {n : Nat} {S : Nat → Nat} {st : aS} {a0 : Nat} {x1 : Int32} {x2 : Int32} : Mo st (af_X3_function_L106 n S rx st a0 x1 x2) := (mo_if (mo_if (oaf_X3_function_L120 mrv) mo_ret) mo_ret)
set_option maxHeartbeats 4000000 in
set_option maxRecDepth 100000 in
theorem oaf_X3_function_L42 {rx : aS → Nat → Option (aS × (Option Nat ⊕ Nat))} (mrv : ∀ {σ : aS} {a : Nat}, Mo σ (rx σ a)) {n : Nat} {S : Nat → Nat} {st : aS} {a0 : Nat} {x1 : Int32} {x2 : Int32} : Mo st (af_X3_function_L42 n S rx st a0 x1 x2) := (mo_if (mo_if (mo_v fun _ => (mo_if (oaf_X3_function_L97 mrv) (mo_v fun _ => (mo_if (mo_v fun _ => (mo_v fun _ => (mo_if (oaf_X3_function_L97 mrv) (mo_v fun _ => (mo_v fun _ => (mo_v fun _ => (mo_v fun _ => (mo_if (oaf_X3_function_L106 mrv) (oaf_X3_function_L97 mrv))))))))) (oaf_X3_function_L97 mrv))))) (oaf_X3_function_L106 mrv)) (oaf_X3_function_L106 mrv))
set_option maxHeartbeats 4000000 in
set_option maxRecDepth 100000 in
theorem oaf_X3_function_L21 {rx : aS → Nat → Option (aS × (Option Nat ⊕ Nat))} (mrv : ∀ {σ : aS} {a : Nat}, Mo σ (rx σ a)) {n : Nat} {S : Nat → Nat} {st : aS} {a0 : Nat} {x1 : Int32} {x2 : Int32} : Mo st (af_X3_function_L21 n S rx st a0 x1 x2) := (mo_if (mo_if (mo_v fun _ => (mo_x oaf_X3_take_2 fun _ _ => (oaf_X3_function_L120 mrv))) (oaf_X3_function_L42 mrv)) (oaf_X3_function_L42 mrv))
set_option maxHeartbeats 4000000 in
set_option maxRecDepth 100000 in
theorem oaf_X3_function {rx : aS → Nat → Option (aS × (Option Nat ⊕ Nat))} (mrv : ∀ {σ : aS} {a : Nat}, Mo σ (rx σ a)) {n : Nat} {S : Nat → Nat} {st : aS} {a0 : Nat} {p1 : Int32} {p2 : Int32} : Mo st (af_X3_function n S rx st a0 p1 p2) := (mo_if (mo_if (mo_v fun _ => (mo_x oaf_X3_take_2 fun _ _ => (oaf_X3_function_L120 mrv))) (oaf_X3_function_L21 mrv)) (oaf_X3_function_L21 mrv))
/-! BasicMachine$Parser.isVariable(C)Z -/
set_option maxHeartbeats 4000000 in
set_option maxRecDepth 100000 in
theorem oaf_X3_isVariable {n : Nat} {S : Nat → Nat} {st : aS} {p0 : Int32} : Mo st (af_X3_isVariable n S st p0) := (mo_if mo_ret (mo_if mo_ret (mo_cb oaf_X3_isMatrix fun _ _ => (mo_if mo_ret mo_ret))))
/-! BasicMachine$Parser.variable()I -/
set_option maxHeartbeats 4000000 in
set_option maxRecDepth 100000 in
theorem oaf_X3_variable {n : Nat} {S : Nat → Nat} {st : aS} {a0 : Nat} : Mo st (af_X3_variable n S st a0) := (mo_v fun _ => (mo_cb oaf_X3_here fun _ _ => (mo_cb oaf_X3_isVariable fun _ _ => (mo_v fun _ => (mo_x oaf_X3_need fun _ _ => (mo_v fun _ => (mo_s (fun _ => le_pF) fun _ => (mo_v fun _ => (mo_v fun _ => (mo_v fun _ => (mo_v fun _ => mo_ret)))))))))))
/-! BasicMachine$Variable.<init>(I)V -/
set_option maxHeartbeats 4000000 in
set_option maxRecDepth 100000 in
theorem oaf_X9_init {n : Nat} {S : Nat → Nat} {st : aS} {a0 : Nat} {p1 : Int32} : Mo st (af_X9_init n S st a0 p1) := (mo_cb oaf_J15_init fun _ _ => (mo_s (fun _ => le_pF) fun _ => mo_ret))
/-! BasicMachine$Parser.part()LBasicMachine$Expression; -/
set_option maxHeartbeats 4000000 in
set_option maxRecDepth 100000 in
theorem oaf_X3_part_L72 {rx : aS → Nat → Option (aS × (Option Nat ⊕ Nat))} (mrv : ∀ {σ : aS} {a : Nat}, Mo σ (rx σ a)) {n : Nat} {S : Nat → Nat} {st : aS} {a0 : Nat} : Mo st (af_X3_part_L72 n S rx st a0) := (mo_s (fun _ => le_nO) fun _ => (mo_v fun _ => (mo_x oaf_X3_variable fun _ _ => (mo_cb oaf_X9_init fun _ _ => mo_ret))))
set_option maxHeartbeats 4000000 in
set_option maxRecDepth 100000 in
theorem oaf_X3_part {rx : aS → Nat → Option (aS × (Option Nat ⊕ Nat))} (mrv : ∀ {σ : aS} {a : Nat}, Mo σ (rx σ a)) {n : Nat} {S : Nat → Nat} {st : aS} {a0 : Nat} : Mo st (af_X3_part n S rx st a0) := (mo_v fun _ => (mo_cb oaf_X3_here fun _ _ => (mo_cb oaf_X3_digit fun _ _ => (mo_if (mo_cb oaf_X3_isMatrix fun _ _ => (mo_if (mo_v fun _ => (mo_if (oaf_X3_part_L72 mrv) (mo_if (mo_v fun _ => (mo_x (oaf_X3_inside mrv) fun _ _ => mo_ret)) (mo_v fun _ => (mo_cb oaf_X3_behind fun _ _ => (mo_v fun _ => (mo_x (oaf_X3_function mrv) fun _ _ => (mo_if (oaf_X3_part_L72 mrv) mo_ret)))))))) (mo_v fun _ => (mo_x (oaf_X3_element mrv) fun _ _ => mo_ret)))) (mo_s (fun _ => le_nO) fun _ => (mo_v fun _ => (mo_x oaf_X3_numeral fun _ _ => (mo_cb oaf_X6_init fun _ _ => mo_ret))))))))
/-! BasicMachine$Pair.<init>(CLBasicMachine$Expression;LBasicMachine$Expression;)V -/
set_option maxHeartbeats 4000000 in
set_option maxRecDepth 100000 in
theorem oaf_X10_init {n : Nat} {S : Nat → Nat} {st : aS} {a0 : Nat} {p1 : Int32} {p2 : Option Nat} {p3 : Option Nat} : Mo st (af_X10_init n S st a0 p1 p2 p3) := (mo_cb oaf_J15_init fun _ _ => (mo_v fun _ => (mo_s (fun _ => le_pF) fun _ => (mo_s (fun _ => le_pF) fun _ => (mo_s (fun _ => le_pF) fun _ => mo_ret)))))
/-! BasicMachine$Parser.power()LBasicMachine$Expression; -/
set_option maxHeartbeats 4000000 in
set_option maxRecDepth 100000 in
theorem oaf_X3_power_S5_ {rx : aS → Nat → Option (aS × (Option Nat ⊕ Nat))} (mrv : ∀ {σ : aS} {a : Nat}, Mo σ (rx σ a)) {n : Nat} {S : Nat → Nat} : ∀ k : Nat, (∀ {st : aS} {a0 : Nat} {x1 : Option Nat}, Mo st (af_X3_power_S5 n S rx k st a0 x1)) := by
  intro k
  induction k with
  | zero => exact fun q h => nomatch (show none = some q from h)
  | succ k ih =>
    have mrec := @ih
    intro st a0 x1
    exact (show Mo st (af_X3_power_B5 n S rx (af_X3_power_S5 n S rx k) st a0 x1) from (mo_v fun _ => (mo_cb oaf_X3_takes fun _ _ => (mo_if mo_ret (mo_s (fun _ => le_nO) fun _ => (mo_v fun _ => (mo_x (oaf_X3_part mrv) fun _ _ => (mo_cb oaf_X10_init fun _ _ => (mrec)))))))))
set_option maxHeartbeats 4000000 in
set_option maxRecDepth 100000 in
theorem oaf_X3_power_S5 {rx : aS → Nat → Option (aS × (Option Nat ⊕ Nat))} (mrv : ∀ {σ : aS} {a : Nat}, Mo σ (rx σ a)) {n : Nat} {S : Nat → Nat} : (∀ {st : aS} {a0 : Nat} {x1 : Option Nat}, Mo st (af_X3_power_S5 n S rx n st a0 x1)) := oaf_X3_power_S5_ mrv n
set_option maxHeartbeats 4000000 in
set_option maxRecDepth 100000 in
theorem oaf_X3_power {rx : aS → Nat → Option (aS × (Option Nat ⊕ Nat))} (mrv : ∀ {σ : aS} {a : Nat}, Mo σ (rx σ a)) {n : Nat} {S : Nat → Nat} {st : aS} {a0 : Nat} : Mo st (af_X3_power n S rx st a0) := (mo_v fun _ => (mo_x (oaf_X3_part mrv) fun _ _ => ((oaf_X3_power_S5 mrv))))
/-! BasicMachine$Parser.term()LBasicMachine$Expression; -/
set_option maxHeartbeats 4000000 in
set_option maxRecDepth 100000 in
theorem oaf_X3_term_S5_ {rx : aS → Nat → Option (aS × (Option Nat ⊕ Nat))} (mrv : ∀ {σ : aS} {a : Nat}, Mo σ (rx σ a)) {n : Nat} {S : Nat → Nat} : ∀ k : Nat, (∀ {st : aS} {a0 : Nat} {x1 : Option Nat}, Mo st (af_X3_term_S5 n S rx k 0 st a0 x1)) ∧ (∀ {st : aS} {a0 : Nat} {x1 : Option Nat}, Mo st (af_X3_term_S5 n S rx k 1 st a0 x1)) := by
  intro k
  induction k with
  | zero => exact ⟨(fun q h => nomatch (show none = some q from h)), (fun q h => nomatch (show none = some q from h))⟩
  | succ k ih =>
    obtain ⟨mrec0, mrec1⟩ := ih
    refine ⟨?_, ?_⟩
    · intro st a0 x1
      exact (show Mo st (af_X3_term_B5 n S rx (af_X3_term_S5 n S rx k) st a0 x1) from (mo_v fun _ => (mo_cb oaf_X3_here fun _ _ => (mo_if (mrec1) (mo_v fun _ => (mo_cb oaf_X3_here fun _ _ => (mo_if (mrec1) mo_ret)))))))
    · intro st a0 x1
      exact (show Mo st (af_X3_term_B23 n S rx (af_X3_term_S5 n S rx k) st a0 x1) from (mo_v fun _ => (mo_cb oaf_X3_here fun _ _ => (mo_v fun _ => (mo_s (fun _ => le_pF) fun _ => (mo_s (fun _ => le_nO) fun _ => (mo_v fun _ => (mo_x (oaf_X3_power mrv) fun _ _ => (mo_cb oaf_X10_init fun _ _ => (mrec0))))))))))
set_option maxHeartbeats 4000000 in
set_option maxRecDepth 100000 in
theorem oaf_X3_term_S5 {rx : aS → Nat → Option (aS × (Option Nat ⊕ Nat))} (mrv : ∀ {σ : aS} {a : Nat}, Mo σ (rx σ a)) {n : Nat} {S : Nat → Nat} : (∀ {st : aS} {a0 : Nat} {x1 : Option Nat}, Mo st (af_X3_term_S5 n S rx n 0 st a0 x1)) ∧ (∀ {st : aS} {a0 : Nat} {x1 : Option Nat}, Mo st (af_X3_term_S5 n S rx n 1 st a0 x1)) := oaf_X3_term_S5_ mrv n
set_option maxHeartbeats 4000000 in
set_option maxRecDepth 100000 in
theorem oaf_X3_term {rx : aS → Nat → Option (aS × (Option Nat ⊕ Nat))} (mrv : ∀ {σ : aS} {a : Nat}, Mo σ (rx σ a)) {n : Nat} {S : Nat → Nat} {st : aS} {a0 : Nat} : Mo st (af_X3_term n S rx st a0) := (mo_v fun _ => (mo_x (oaf_X3_power mrv) fun _ _ => ((oaf_X3_term_S5 mrv).1)))
/-! BasicMachine$Parser.expression()LBasicMachine$Expression; -/
set_option maxHeartbeats 4000000 in
set_option maxRecDepth 100000 in
theorem oaf_X3_expression_S27_ {rx : aS → Nat → Option (aS × (Option Nat ⊕ Nat))} (mrv : ∀ {σ : aS} {a : Nat}, Mo σ (rx σ a)) {n : Nat} {S : Nat → Nat} : ∀ k : Nat, (∀ {st : aS} {a0 : Nat} {x2 : Option Nat}, Mo st (af_X3_expression_S27 n S rx k 0 st a0 x2)) ∧ (∀ {st : aS} {a0 : Nat} {x2 : Option Nat}, Mo st (af_X3_expression_S27 n S rx k 1 st a0 x2)) := by
  intro k
  induction k with
  | zero => exact ⟨(fun q h => nomatch (show none = some q from h)), (fun q h => nomatch (show none = some q from h))⟩
  | succ k ih =>
    obtain ⟨mrec0, mrec1⟩ := ih
    refine ⟨?_, ?_⟩
    · intro st a0 x2
      exact (show Mo st (af_X3_expression_B27 n S rx (af_X3_expression_S27 n S rx k) st a0 x2) from (mo_v fun _ => (mo_cb oaf_X3_here fun _ _ => (mo_if (mrec1) (mo_v fun _ => (mo_cb oaf_X3_here fun _ _ => (mo_if (mrec1) mo_ret)))))))
    · intro st a0 x2
      exact (show Mo st (af_X3_expression_B45 n S rx (af_X3_expression_S27 n S rx k) st a0 x2) from (mo_v fun _ => (mo_cb oaf_X3_here fun _ _ => (mo_v fun _ => (mo_s (fun _ => le_pF) fun _ => (mo_s (fun _ => le_nO) fun _ => (mo_v fun _ => (mo_x (oaf_X3_term mrv) fun _ _ => (mo_cb oaf_X10_init fun _ _ => (mrec0))))))))))
set_option maxHeartbeats 4000000 in
set_option maxRecDepth 100000 in
theorem oaf_X3_expression_S27 {rx : aS → Nat → Option (aS × (Option Nat ⊕ Nat))} (mrv : ∀ {σ : aS} {a : Nat}, Mo σ (rx σ a)) {n : Nat} {S : Nat → Nat} : (∀ {st : aS} {a0 : Nat} {x2 : Option Nat}, Mo st (af_X3_expression_S27 n S rx n 0 st a0 x2)) ∧ (∀ {st : aS} {a0 : Nat} {x2 : Option Nat}, Mo st (af_X3_expression_S27 n S rx n 1 st a0 x2)) := oaf_X3_expression_S27_ mrv n
set_option maxHeartbeats 4000000 in
set_option maxRecDepth 100000 in
theorem oaf_X3_expression {rx : aS → Nat → Option (aS × (Option Nat ⊕ Nat))} (mrv : ∀ {σ : aS} {a : Nat}, Mo σ (rx σ a)) {n : Nat} {S : Nat → Nat} {st : aS} {a0 : Nat} : Mo st (af_X3_expression n S rx st a0) := (mo_v fun _ => (mo_cb oaf_X3_takes fun _ _ => (mo_v fun _ => (mo_x (oaf_X3_term mrv) fun _ _ => (mo_if ((oaf_X3_expression_S27 mrv).1) (mo_s (fun _ => le_nO) fun _ => (mo_cb oaf_X7_init fun _ _ => ((oaf_X3_expression_S27 mrv).1))))))))
/-! dispatch.expression -/
set_option maxHeartbeats 4000000 in
set_option maxRecDepth 100000 in
theorem of_expr (n : Nat) (S : Nat → Nat) : ∀ (d : Nat) {st : aS} {a : Nat}, Mo st (af_expr n S d st a) := by
  intro d
  induction d with
  | zero => exact fun q h => nomatch (show none = some q from h)
  | succ d ih =>
    intro st a
    exact (show Mo st (af_X3_expression n S (af_expr n S d) st a) from oaf_X3_expression ih)
/-! BasicMachine$Place.<init>(LBasicMachine$Variable;LBasicMachine$Element;)V -/
set_option maxHeartbeats 4000000 in
set_option maxRecDepth 100000 in
theorem oaf_X5_init {n : Nat} {S : Nat → Nat} {st : aS} {a0 : Nat} {p1 : Option Nat} {p2 : Option Nat} : Mo st (af_X5_init n S st a0 p1 p2) := (mo_cb oaf_J15_init fun _ _ => (mo_s (fun _ => le_pF) fun _ => (mo_s (fun _ => le_pF) fun _ => mo_ret)))
/-! BasicMachine$Parser.place()LBasicMachine$Place; -/
set_option maxHeartbeats 4000000 in
set_option maxRecDepth 100000 in
theorem oaf_X3_place {n : Nat} {S : Nat → Nat} {st : aS} {a0 : Nat} : Mo st (af_X3_place n S st a0) := (mo_v fun _ => (mo_cb oaf_X3_here fun _ _ => (mo_cb oaf_X3_isMatrix fun _ _ => (mo_if (mo_s (fun _ => le_nO) fun _ => (mo_s (fun _ => le_nO) fun _ => (mo_v fun _ => (mo_x oaf_X3_variable fun _ _ => (mo_cb oaf_X9_init fun _ _ => (mo_cb oaf_X5_init fun _ _ => mo_ret)))))) (mo_s (fun _ => le_nO) fun _ => (mo_v fun _ => (mo_x (oaf_X3_element (of_expr _ _ _)) fun _ _ => (mo_cb oaf_X5_init fun _ _ => mo_ret))))))))
/-! BasicMachine$Let.<init>(LBasicMachine$Place;LBasicMachine$Expression;)V -/
set_option maxHeartbeats 4000000 in
set_option maxRecDepth 100000 in
theorem oaf_X12_init {n : Nat} {S : Nat → Nat} {st : aS} {a0 : Nat} {p1 : Option Nat} {p2 : Option Nat} : Mo st (af_X12_init n S st a0 p1 p2) := (mo_cb oaf_J15_init fun _ _ => (mo_s (fun _ => le_pF) fun _ => (mo_s (fun _ => le_pF) fun _ => mo_ret)))
/-! BasicMachine$Print.<init>(LBasicMachine$Expression;)V -/
set_option maxHeartbeats 4000000 in
set_option maxRecDepth 100000 in
theorem oaf_X13_init {n : Nat} {S : Nat → Nat} {st : aS} {a0 : Nat} {p1 : Option Nat} : Mo st (af_X13_init n S st a0 p1) := (mo_cb oaf_J15_init fun _ _ => (mo_s (fun _ => le_pF) fun _ => mo_ret))
/-! BasicMachine$If.<init>(LBasicMachine$Expression;ILBasicMachine$Expression;I)V -/
set_option maxHeartbeats 4000000 in
set_option maxRecDepth 100000 in
theorem oaf_X14_init {n : Nat} {S : Nat → Nat} {st : aS} {a0 : Nat} {p1 : Option Nat} {p2 : Int32} {p3 : Option Nat} {p4 : Int32} : Mo st (af_X14_init n S st a0 p1 p2 p3 p4) := (mo_cb oaf_J15_init fun _ _ => (mo_s (fun _ => le_pF) fun _ => (mo_s (fun _ => le_pF) fun _ => (mo_s (fun _ => le_pF) fun _ => (mo_s (fun _ => le_pF) fun _ => mo_ret)))))
/-! BasicMachine$Parser.ifThen()LBasicMachine$Statement; -/
set_option maxHeartbeats 4000000 in
set_option maxRecDepth 100000 in
theorem oaf_X3_ifThen_L96 {n : Nat} {S : Nat → Nat} {st : aS} {a0 : Nat} {x1 : Option Nat} {x2 : Int32} {z96_1 : Int32} : Mo st (af_X3_ifThen_L96 n S st a0 x1 x2 z96_1) := (mo_v fun _ => (mo_x oaf_X3_need fun _ _ => (mo_v fun _ => (mo_x (of_expr _ _ _) fun _ _ => (mo_v fun _ => (mo_x oaf_X3_take_2 fun _ _ => (mo_s (fun _ => le_nO) fun _ => (mo_v fun _ => (mo_x oaf_X3_number fun _ _ => (mo_cb oaf_X14_init fun _ _ => mo_ret))))))))))
set_option maxHeartbeats 4000000 in
set_option maxRecDepth 100000 in
theorem oaf_X3_ifThen_L85 {n : Nat} {S : Nat → Nat} {st : aS} {a0 : Nat} {x1 : Option Nat} {z85_0 : Int32} : Mo st (af_X3_ifThen_L85 n S st a0 x1 z85_0) := (mo_if (oaf_X3_ifThen_L96 ) (oaf_X3_ifThen_L96 ))
set_option maxHeartbeats 4000000 in
set_option maxRecDepth 100000 in
theorem oaf_X3_ifThen {n : Nat} {S : Nat → Nat} {st : aS} {a0 : Nat} : Mo st (af_X3_ifThen n S st a0) := (mo_v fun _ => (mo_x (of_expr _ _ _) fun _ _ => (mo_v fun _ => (mo_cb oaf_X3_takes fun _ _ => (mo_if (mo_v fun _ => (mo_cb oaf_X3_takes fun _ _ => (mo_if (mo_v fun _ => (mo_cb oaf_X3_takes fun _ _ => (mo_if (oaf_X3_ifThen_L85 ) (mo_v fun _ => (mo_cb oaf_X3_takes fun _ _ => (mo_if (oaf_X3_ifThen_L85 ) (oaf_X3_ifThen_L85 ))))))) (mo_v fun _ => (mo_cb oaf_X3_takes fun _ _ => (mo_if (mo_v fun _ => (mo_cb oaf_X3_takes fun _ _ => (mo_if (oaf_X3_ifThen_L85 ) (oaf_X3_ifThen_L85 )))) (oaf_X3_ifThen_L85 ))))))) (oaf_X3_ifThen_L85 ))))))
/-! BasicMachine$Goto.<init>(I)V -/
set_option maxHeartbeats 4000000 in
set_option maxRecDepth 100000 in
theorem oaf_X15_init {n : Nat} {S : Nat → Nat} {st : aS} {a0 : Nat} {p1 : Int32} : Mo st (af_X15_init n S st a0 p1) := (mo_cb oaf_J15_init fun _ _ => (mo_s (fun _ => le_pF) fun _ => mo_ret))
/-! BasicMachine$On.<init>(LBasicMachine$Expression;[I)V -/
set_option maxHeartbeats 4000000 in
set_option maxRecDepth 100000 in
theorem oaf_X16_init {n : Nat} {S : Nat → Nat} {st : aS} {a0 : Nat} {p1 : Option Nat} {p2 : Option Nat} : Mo st (af_X16_init n S st a0 p1 p2) := (mo_cb oaf_J15_init fun _ _ => (mo_s (fun _ => le_pF) fun _ => (mo_s (fun _ => le_pF) fun _ => mo_ret)))
/-! BasicMachine$Parser.on()LBasicMachine$Statement; -/
set_option maxHeartbeats 4000000 in
set_option maxRecDepth 100000 in
theorem oaf_X3_on_S54_ {n : Nat} {S : Nat → Nat} : ∀ k : Nat, (∀ {st : aS} {a0 : Nat} {x1 : Option Nat} {x2 : Option Nat} {x3 : Int32} {x4 : Option Nat} {x5 : Int32}, Mo st (af_X3_on_S54 n S k st a0 x1 x2 x3 x4 x5)) := by
  intro k
  induction k with
  | zero => exact fun q h => nomatch (show none = some q from h)
  | succ k ih =>
    have mrec := @ih
    intro st a0 x1 x2 x3 x4 x5
    exact (show Mo st (af_X3_on_B54 n S (af_X3_on_S54 n S k) st a0 x1 x2 x3 x4 x5) from (mo_if (mo_s (fun _ => le_nO) fun _ => (mo_cb oaf_X16_init fun _ _ => mo_ret)) (mo_v fun _ => (mo_v fun _ => (mo_v fun _ => (mo_s (fun _ => le_wI) fun _ => (mrec)))))))
set_option maxHeartbeats 4000000 in
set_option maxRecDepth 100000 in
theorem oaf_X3_on_S54 {n : Nat} {S : Nat → Nat} : (∀ {st : aS} {a0 : Nat} {x1 : Option Nat} {x2 : Option Nat} {x3 : Int32} {x4 : Option Nat} {x5 : Int32}, Mo st (af_X3_on_S54 n S n st a0 x1 x2 x3 x4 x5)) := oaf_X3_on_S54_  n
set_option maxHeartbeats 4000000 in
set_option maxRecDepth 100000 in
theorem oaf_X3_on_L46 {n : Nat} {S : Nat → Nat} {st : aS} {a0 : Nat} {x1 : Option Nat} {x2 : Option Nat} {x3 : Int32} : Mo st (af_X3_on_L46 n S st a0 x1 x2 x3) := (mo_s (fun _ => le_nA) fun _ => ((oaf_X3_on_S54 )))
set_option maxHeartbeats 4000000 in
set_option maxRecDepth 100000 in
theorem oaf_X3_on_S22_ {n : Nat} {S : Nat → Nat} : ∀ k : Nat, (∀ {st : aS} {a0 : Nat} {x1 : Option Nat} {x2 : Option Nat} {x3 : Int32}, Mo st (af_X3_on_S22 n S k st a0 x1 x2 x3)) := by
  intro k
  induction k with
  | zero => exact fun q h => nomatch (show none = some q from h)
  | succ k ih =>
    have mrec := @ih
    intro st a0 x1 x2 x3
    exact (show Mo st (af_X3_on_B22 n S (af_X3_on_S22 n S k) st a0 x1 x2 x3) from (mo_v fun _ => (mo_x oaf_X3_number fun _ _ => (mo_v fun _ => (mo_s (fun _ => le_wI) fun _ => (mo_if (oaf_X3_on_L46 ) (mo_v fun _ => (mo_cb oaf_X3_takes fun _ _ => (mo_if (oaf_X3_on_L46 ) (mrec))))))))))
set_option maxHeartbeats 4000000 in
set_option maxRecDepth 100000 in
theorem oaf_X3_on_S22 {n : Nat} {S : Nat → Nat} : (∀ {st : aS} {a0 : Nat} {x1 : Option Nat} {x2 : Option Nat} {x3 : Int32}, Mo st (af_X3_on_S22 n S n st a0 x1 x2 x3)) := oaf_X3_on_S22_  n
set_option maxHeartbeats 4000000 in
set_option maxRecDepth 100000 in
theorem oaf_X3_on {n : Nat} {S : Nat → Nat} {st : aS} {a0 : Nat} : Mo st (af_X3_on n S st a0) := (mo_s (fun _ => le_pF) fun _ => (mo_v fun _ => (mo_x (of_expr _ _ _) fun _ _ => (mo_v fun _ => (mo_x oaf_X3_take_2 fun _ _ => (mo_s (fun _ => le_nA) fun _ => ((oaf_X3_on_S22 ))))))))
/-! BasicMachine$Gosub.<init>(I)V -/
set_option maxHeartbeats 4000000 in
set_option maxRecDepth 100000 in
theorem oaf_X17_init {n : Nat} {S : Nat → Nat} {st : aS} {a0 : Nat} {p1 : Int32} : Mo st (af_X17_init n S st a0 p1) := (mo_cb oaf_J15_init fun _ _ => (mo_s (fun _ => le_pF) fun _ => mo_ret))
/-! BasicMachine$Return.<init>()V -/
set_option maxHeartbeats 4000000 in
set_option maxRecDepth 100000 in
theorem oaf_X18_init {n : Nat} {S : Nat → Nat} {st : aS} {a0 : Nat} : Mo st (af_X18_init n S st a0) := (mo_cb oaf_J15_init fun _ _ => mo_ret)
/-! BasicMachine$For.<init>(ILBasicMachine$Expression;LBasicMachine$Expression;LBasicMachine$Expression;)V -/
set_option maxHeartbeats 4000000 in
set_option maxRecDepth 100000 in
theorem oaf_X19_init {n : Nat} {S : Nat → Nat} {st : aS} {a0 : Nat} {p1 : Int32} {p2 : Option Nat} {p3 : Option Nat} {p4 : Option Nat} : Mo st (af_X19_init n S st a0 p1 p2 p3 p4) := (mo_cb oaf_J15_init fun _ _ => (mo_s (fun _ => le_pF) fun _ => (mo_s (fun _ => le_pF) fun _ => (mo_s (fun _ => le_pF) fun _ => (mo_s (fun _ => le_pF) fun _ => mo_ret)))))
/-! BasicMachine$Parser.loop()LBasicMachine$Statement; -/
set_option maxHeartbeats 4000000 in
set_option maxRecDepth 100000 in
theorem oaf_X3_loop {n : Nat} {S : Nat → Nat} {st : aS} {a0 : Nat} : Mo st (af_X3_loop n S st a0) := (mo_v fun _ => (mo_x oaf_X3_variable fun _ _ => (mo_v fun _ => (mo_x oaf_X3_take fun _ _ => (mo_v fun _ => (mo_x (of_expr _ _ _) fun _ _ => (mo_v fun _ => (mo_x oaf_X3_take_2 fun _ _ => (mo_v fun _ => (mo_x (of_expr _ _ _) fun _ _ => (mo_v fun _ => (mo_v fun _ => (mo_if (mo_v fun _ => (mo_x oaf_X3_take_2 fun _ _ => (mo_s (fun _ => le_nO) fun _ => (mo_v fun _ => (mo_x (of_expr _ _ _) fun _ _ => (mo_cb oaf_X19_init fun _ _ => mo_ret)))))) (mo_s (fun _ => le_nO) fun _ => (mo_cb oaf_X19_init fun _ _ => mo_ret)))))))))))))))
/-! BasicMachine$Next.<init>(I)V -/
set_option maxHeartbeats 4000000 in
set_option maxRecDepth 100000 in
theorem oaf_X20_init {n : Nat} {S : Nat → Nat} {st : aS} {a0 : Nat} {p1 : Int32} : Mo st (af_X20_init n S st a0 p1) := (mo_cb oaf_J15_init fun _ _ => (mo_s (fun _ => le_pF) fun _ => mo_ret))
/-! BasicMachine$Read.<init>(LBasicMachine$Place;)V -/
set_option maxHeartbeats 4000000 in
set_option maxRecDepth 100000 in
theorem oaf_X21_init {n : Nat} {S : Nat → Nat} {st : aS} {a0 : Nat} {p1 : Option Nat} : Mo st (af_X21_init n S st a0 p1) := (mo_cb oaf_J15_init fun _ _ => (mo_s (fun _ => le_pF) fun _ => mo_ret))
/-! BasicMachine$Data.<init>([D)V -/
set_option maxHeartbeats 4000000 in
set_option maxRecDepth 100000 in
theorem oaf_X22_init {n : Nat} {S : Nat → Nat} {st : aS} {a0 : Nat} {p1 : Option Nat} : Mo st (af_X22_init n S st a0 p1) := (mo_cb oaf_J15_init fun _ _ => (mo_s (fun _ => le_pF) fun _ => mo_ret))
/-! BasicMachine$Parser.data()LBasicMachine$Statement; -/
set_option maxHeartbeats 4000000 in
set_option maxRecDepth 100000 in
theorem oaf_X3_data_S60_ {n : Nat} {S : Nat → Nat} : ∀ k : Nat, (∀ {st : aS} {a0 : Nat} {x1 : Option Nat} {x2 : Int32} {x3 : Option Nat} {x4 : Int32}, Mo st (af_X3_data_S60 n S k st a0 x1 x2 x3 x4)) := by
  intro k
  induction k with
  | zero => exact fun q h => nomatch (show none = some q from h)
  | succ k ih =>
    have mrec := @ih
    intro st a0 x1 x2 x3 x4
    exact (show Mo st (af_X3_data_B60 n S (af_X3_data_S60 n S k) st a0 x1 x2 x3 x4) from (mo_if (mo_s (fun _ => le_nO) fun _ => (mo_cb oaf_X22_init fun _ _ => mo_ret)) (mo_v fun _ => (mo_v fun _ => (mo_v fun _ => (mo_s (fun _ => le_wD) fun _ => (mrec)))))))
set_option maxHeartbeats 4000000 in
set_option maxRecDepth 100000 in
theorem oaf_X3_data_S60 {n : Nat} {S : Nat → Nat} : (∀ {st : aS} {a0 : Nat} {x1 : Option Nat} {x2 : Int32} {x3 : Option Nat} {x4 : Int32}, Mo st (af_X3_data_S60 n S n st a0 x1 x2 x3 x4)) := oaf_X3_data_S60_  n
set_option maxHeartbeats 4000000 in
set_option maxRecDepth 100000 in
theorem oaf_X3_data_L53 {n : Nat} {S : Nat → Nat} {st : aS} {a0 : Nat} {x1 : Option Nat} {x2 : Int32} : Mo st (af_X3_data_L53 n S st a0 x1 x2) := (mo_s (fun _ => le_nA) fun _ => ((oaf_X3_data_S60 )))
set_option maxHeartbeats 4000000 in
set_option maxRecDepth 100000 in
theorem oaf_X3_data_S7_ {n : Nat} {S : Nat → Nat} : ∀ k : Nat, (∀ {st : aS} {a0 : Nat} {x1 : Option Nat} {x2 : Int32} {z34_0 : Option Nat} {z34_1 : Int32} {z34_2 : UInt64}, Mo st (af_X3_data_S7 n S k 0 st a0 x1 x2 z34_0 z34_1 z34_2)) ∧ (∀ {st : aS} {a0 : Nat} {x1 : Option Nat} {x2 : Int32} {z34_0 : Option Nat} {z34_1 : Int32} {z34_2 : UInt64}, Mo st (af_X3_data_S7 n S k 1 st a0 x1 x2 z34_0 z34_1 z34_2)) := by
  intro k
  induction k with
  | zero => exact ⟨(fun q h => nomatch (show none = some q from h)), (fun q h => nomatch (show none = some q from h))⟩
  | succ k ih =>
    obtain ⟨mrec0, mrec1⟩ := ih
    refine ⟨?_, ?_⟩
    · intro st a0 x1 x2 z34_0 z34_1 z34_2
      exact (show Mo st (af_X3_data_B7 n S (af_X3_data_S7 n S k) st a0 x1 x2 z34_0 z34_1 z34_2) from (mo_v fun _ => (mo_cb oaf_X3_takes fun _ _ => (mo_v fun _ => (mo_x oaf_X3_numeral fun _ _ => (mo_if (mrec1) (mrec1)))))))
    · intro st a0 x1 x2 z34_0 z34_1 z34_2
      exact (show Mo st (af_X3_data_B34 n S (af_X3_data_S7 n S k) st a0 x1 x2 z34_0 z34_1 z34_2) from (mo_v fun _ => (mo_s (fun _ => le_wD) fun _ => (mo_if (oaf_X3_data_L53 ) (mo_v fun _ => (mo_cb oaf_X3_takes fun _ _ => (mo_if (oaf_X3_data_L53 ) (mrec0))))))))
set_option maxHeartbeats 4000000 in
set_option maxRecDepth 100000 in
theorem oaf_X3_data_S7 {n : Nat} {S : Nat → Nat} : (∀ {st : aS} {a0 : Nat} {x1 : Option Nat} {x2 : Int32} {z34_0 : Option Nat} {z34_1 : Int32} {z34_2 : UInt64}, Mo st (af_X3_data_S7 n S n 0 st a0 x1 x2 z34_0 z34_1 z34_2)) ∧ (∀ {st : aS} {a0 : Nat} {x1 : Option Nat} {x2 : Int32} {z34_0 : Option Nat} {z34_1 : Int32} {z34_2 : UInt64}, Mo st (af_X3_data_S7 n S n 1 st a0 x1 x2 z34_0 z34_1 z34_2)) := oaf_X3_data_S7_  n
set_option maxHeartbeats 4000000 in
set_option maxRecDepth 100000 in
theorem oaf_X3_data {n : Nat} {S : Nat → Nat} {st : aS} {a0 : Nat} : Mo st (af_X3_data n S st a0) := (mo_s (fun _ => le_nA) fun _ => ((oaf_X3_data_S7 ).1))
/-! BasicMachine$Restore.<init>()V -/
set_option maxHeartbeats 4000000 in
set_option maxRecDepth 100000 in
theorem oaf_X23_init {n : Nat} {S : Nat → Nat} {st : aS} {a0 : Nat} : Mo st (af_X23_init n S st a0) := (mo_cb oaf_J15_init fun _ _ => mo_ret)
/-! BasicMachine$Parser.size()I -/
set_option maxHeartbeats 4000000 in
set_option maxRecDepth 100000 in
theorem oaf_X3_size_L24 {n : Nat} {S : Nat → Nat} {st : aS} {a0 : Nat} {z24_1 : Int32} : Mo st (af_X3_size_L24 n S st a0 z24_1) := (mo_v fun _ => (mo_x oaf_X3_need fun _ _ => (mo_v fun _ => (mo_s (fun _ => le_pF) fun _ => (mo_v fun _ => (mo_v fun _ => (mo_v fun _ => (mo_v fun _ => mo_ret))))))))
set_option maxHeartbeats 4000000 in
set_option maxRecDepth 100000 in
theorem oaf_X3_size_L23 {n : Nat} {S : Nat → Nat} {st : aS} {a0 : Nat} : Mo st (af_X3_size_L23 n S st a0) := (oaf_X3_size_L24 )
set_option maxHeartbeats 4000000 in
set_option maxRecDepth 100000 in
theorem oaf_X3_size {n : Nat} {S : Nat → Nat} {st : aS} {a0 : Nat} : Mo st (af_X3_size n S st a0) := (mo_v fun _ => (mo_cb oaf_X3_here fun _ _ => (mo_if (oaf_X3_size_L23 ) (mo_v fun _ => (mo_cb oaf_X3_here fun _ _ => (mo_if (oaf_X3_size_L23 ) (oaf_X3_size_L24 )))))))
/-! BasicMachine$Dim.<init>(III)V -/
set_option maxHeartbeats 4000000 in
set_option maxRecDepth 100000 in
theorem oaf_X24_init {n : Nat} {S : Nat → Nat} {st : aS} {a0 : Nat} {p1 : Int32} {p2 : Int32} {p3 : Int32} : Mo st (af_X24_init n S st a0 p1 p2 p3) := (mo_cb oaf_J15_init fun _ _ => (mo_s (fun _ => le_pF) fun _ => (mo_s (fun _ => le_pF) fun _ => (mo_s (fun _ => le_pF) fun _ => mo_ret))))
/-! BasicMachine$Parser.dim()LBasicMachine$Statement; -/
set_option maxHeartbeats 4000000 in
set_option maxRecDepth 100000 in
theorem oaf_X3_dim {n : Nat} {S : Nat → Nat} {st : aS} {a0 : Nat} : Mo st (af_X3_dim n S st a0) := (mo_v fun _ => (mo_x oaf_X3_matrix fun _ _ => (mo_v fun _ => (mo_x oaf_X3_take fun _ _ => (mo_v fun _ => (mo_x oaf_X3_size fun _ _ => (mo_v fun _ => (mo_x oaf_X3_take fun _ _ => (mo_v fun _ => (mo_x oaf_X3_size fun _ _ => (mo_v fun _ => (mo_x oaf_X3_take fun _ _ => (mo_s (fun _ => le_nO) fun _ => (mo_cb oaf_X24_init fun _ _ => mo_ret))))))))))))))
/-! BasicMachine$Define.<init>(IILBasicMachine$Expression;)V -/
set_option maxHeartbeats 4000000 in
set_option maxRecDepth 100000 in
theorem oaf_X25_init {n : Nat} {S : Nat → Nat} {st : aS} {a0 : Nat} {p1 : Int32} {p2 : Int32} {p3 : Option Nat} : Mo st (af_X25_init n S st a0 p1 p2 p3) := (mo_cb oaf_J15_init fun _ _ => (mo_s (fun _ => le_pF) fun _ => (mo_s (fun _ => le_pF) fun _ => (mo_s (fun _ => le_pF) fun _ => mo_ret))))
/-! BasicMachine$Parser.define()LBasicMachine$Statement; -/
set_option maxHeartbeats 4000000 in
set_option maxRecDepth 100000 in
theorem oaf_X3_define {n : Nat} {S : Nat → Nat} {st : aS} {a0 : Nat} : Mo st (af_X3_define n S st a0) := (mo_v fun _ => (mo_x oaf_X3_take_2 fun _ _ => (mo_v fun _ => (mo_x oaf_X3_functionName fun _ _ => (mo_v fun _ => (mo_x oaf_X3_take fun _ _ => (mo_v fun _ => (mo_x oaf_X3_variable fun _ _ => (mo_v fun _ => (mo_x oaf_X3_take fun _ _ => (mo_v fun _ => (mo_x oaf_X3_take fun _ _ => (mo_s (fun _ => le_nO) fun _ => (mo_v fun _ => (mo_x (of_expr _ _ _) fun _ _ => (mo_cb oaf_X25_init fun _ _ => mo_ret))))))))))))))))
/-! BasicMachine$Mat.<init>(ICIILBasicMachine$Expression;)V -/
set_option maxHeartbeats 4000000 in
set_option maxRecDepth 100000 in
theorem oaf_X26_init {n : Nat} {S : Nat → Nat} {st : aS} {a0 : Nat} {p1 : Int32} {p2 : Int32} {p3 : Int32} {p4 : Int32} {p5 : Option Nat} : Mo st (af_X26_init n S st a0 p1 p2 p3 p4 p5) := (mo_cb oaf_J15_init fun _ _ => (mo_s (fun _ => le_pF) fun _ => (mo_v fun _ => (mo_s (fun _ => le_pF) fun _ => (mo_s (fun _ => le_pF) fun _ => (mo_s (fun _ => le_pF) fun _ => (mo_s (fun _ => le_pF) fun _ => mo_ret)))))))
/-! BasicMachine$Parser.mat()LBasicMachine$Statement; -/
set_option maxHeartbeats 4000000 in
set_option maxRecDepth 100000 in
theorem oaf_X3_mat_L62 {n : Nat} {S : Nat → Nat} {st : aS} {a0 : Nat} {x1 : Int32} {x2 : Int32} {z62_1 : Option Nat} : Mo st (af_X3_mat_L62 n S st a0 x1 x2 z62_1) := (mo_v fun _ => (mo_x oaf_X3_take_2 fun _ _ => (mo_s (fun _ => le_nO) fun _ => (mo_cb oaf_X26_init fun _ _ => mo_ret))))
set_option maxHeartbeats 4000000 in
set_option maxRecDepth 100000 in
theorem oaf_X3_mat_L34 {n : Nat} {S : Nat → Nat} {st : aS} {a0 : Nat} {x1 : Int32} {x2 : Int32} : Mo st (af_X3_mat_L34 n S st a0 x1 x2) := (mo_if (oaf_X3_mat_L62 ) (mo_if (oaf_X3_mat_L62 ) (oaf_X3_mat_L62 )))
set_option maxHeartbeats 4000000 in
set_option maxRecDepth 100000 in
theorem oaf_X3_mat_L196 {n : Nat} {S : Nat → Nat} {st : aS} {a0 : Nat} {x1 : Int32} {x3 : Int32} {x4 : Int32} : Mo st (af_X3_mat_L196 n S st a0 x1 x3 x4) := (mo_v fun _ => (mo_s (fun _ => le_pF) fun _ => (mo_s (fun _ => le_nO) fun _ => (mo_v fun _ => (mo_x oaf_X3_matrix fun _ _ => (mo_cb oaf_X26_init fun _ _ => mo_ret))))))
set_option maxHeartbeats 4000000 in
set_option maxRecDepth 100000 in
theorem oaf_X3_mat {n : Nat} {S : Nat → Nat} {st : aS} {a0 : Nat} : Mo st (af_X3_mat n S st a0) := (mo_v fun _ => (mo_x oaf_X3_matrix fun _ _ => (mo_v fun _ => (mo_x oaf_X3_take fun _ _ => (mo_v fun _ => (mo_cb oaf_X3_here fun _ _ => (mo_if (oaf_X3_mat_L34 ) (mo_if (oaf_X3_mat_L34 ) (mo_if (oaf_X3_mat_L34 ) (mo_if (mo_v fun _ => (mo_x oaf_X3_take_2 fun _ _ => (mo_v fun _ => (mo_x oaf_X3_matrix fun _ _ => (mo_v fun _ => (mo_x oaf_X3_take fun _ _ => (mo_s (fun _ => le_nO) fun _ => (mo_cb oaf_X26_init fun _ _ => mo_ret)))))))) (mo_if (mo_v fun _ => (mo_x (oaf_X3_inside (of_expr _ _ _)) fun _ _ => (mo_v fun _ => (mo_x oaf_X3_take fun _ _ => (mo_s (fun _ => le_nO) fun _ => (mo_v fun _ => (mo_x oaf_X3_matrix fun _ _ => (mo_cb oaf_X26_init fun _ _ => mo_ret)))))))) (mo_v fun _ => (mo_x oaf_X3_matrix fun _ _ => (mo_v fun _ => (mo_cb oaf_X3_here fun _ _ => (mo_if (oaf_X3_mat_L196 ) (mo_if (oaf_X3_mat_L196 ) (mo_if (oaf_X3_mat_L196 ) (mo_s (fun _ => le_nO) fun _ => (mo_cb oaf_X26_init fun _ _ => mo_ret))))))))))))))))))))
/-! BasicMachine$Nothing.<init>(Z)V -/
set_option maxHeartbeats 4000000 in
set_option maxRecDepth 100000 in
theorem oaf_X27_init {n : Nat} {S : Nat → Nat} {st : aS} {a0 : Nat} {p1 : Int32} : Mo st (af_X27_init n S st a0 p1) := (mo_cb oaf_J15_init fun _ _ => (mo_v fun _ => (mo_s (fun _ => le_pF) fun _ => mo_ret)))
/-! BasicMachine$Parser.statement()LBasicMachine$Statement; -/
set_option maxHeartbeats 4000000 in
set_option maxRecDepth 100000 in
theorem oaf_X3_statement_L379 {n : Nat} {S : Nat → Nat} {st : aS} {a0 : Nat} {x2 : Int32} : Mo st (af_X3_statement_L379 n S st a0 x2) := (mo_if (mo_v fun _ => (mo_x oaf_X3_place fun _ _ => (mo_v fun _ => (mo_x oaf_X3_take fun _ _ => (mo_s (fun _ => le_nO) fun _ => (mo_v fun _ => (mo_x (of_expr _ _ _) fun _ _ => (mo_cb oaf_X12_init fun _ _ => mo_ret)))))))) (mo_if (mo_s (fun _ => le_nO) fun _ => (mo_v fun _ => (mo_x (of_expr _ _ _) fun _ _ => (mo_cb oaf_X13_init fun _ _ => mo_ret)))) (mo_if (mo_v fun _ => (mo_x oaf_X3_ifThen fun _ _ => mo_ret)) (mo_if (mo_s (fun _ => le_nO) fun _ => (mo_v fun _ => (mo_x oaf_X3_number fun _ _ => (mo_cb oaf_X15_init fun _ _ => mo_ret)))) (mo_if (mo_v fun _ => (mo_x oaf_X3_on fun _ _ => mo_ret)) (mo_if (mo_s (fun _ => le_nO) fun _ => (mo_v fun _ => (mo_x oaf_X3_number fun _ _ => (mo_cb oaf_X17_init fun _ _ => mo_ret)))) (mo_if (mo_s (fun _ => le_nO) fun _ => (mo_cb oaf_X18_init fun _ _ => mo_ret)) (mo_if (mo_v fun _ => (mo_x oaf_X3_loop fun _ _ => mo_ret)) (mo_if (mo_s (fun _ => le_nO) fun _ => (mo_v fun _ => (mo_x oaf_X3_variable fun _ _ => (mo_cb oaf_X20_init fun _ _ => mo_ret)))) (mo_if (mo_s (fun _ => le_nO) fun _ => (mo_v fun _ => (mo_x oaf_X3_place fun _ _ => (mo_cb oaf_X21_init fun _ _ => mo_ret)))) (mo_if (mo_v fun _ => (mo_x oaf_X3_data fun _ _ => mo_ret)) (mo_if (mo_s (fun _ => le_nO) fun _ => (mo_cb oaf_X23_init fun _ _ => mo_ret)) (mo_if (mo_v fun _ => (mo_x oaf_X3_dim fun _ _ => mo_ret)) (mo_if (mo_v fun _ => (mo_x oaf_X3_define fun _ _ => mo_ret)) (mo_if (mo_v fun _ => (mo_x oaf_X3_mat fun _ _ => mo_ret)) (mo_if (mo_v fun _ => (mo_s (fun _ => le_pF) fun _ => (mo_s (fun _ => le_nO) fun _ => (mo_cb oaf_X27_init fun _ _ => mo_ret)))) (mo_s (fun _ => le_nO) fun _ => (mo_cb oaf_X27_init fun _ _ => mo_ret))))))))))))))))))
set_option maxHeartbeats 4000000 in
set_option maxRecDepth 100000 in
theorem oaf_X3_statement {n : Nat} {S : Nat → Nat} {st : aS} {a0 : Nat} : Mo st (af_X3_statement n S st a0) := (mo_v fun _ => (mo_x oaf_X3_word fun _ _ => (mo_v fun _ => (mo_v fun _ => (mo_if (mo_v fun _ => (mo_if (oaf_X3_statement_L379 ) (oaf_X3_statement_L379 ))) (mo_if (mo_v fun _ => (mo_if (oaf_X3_statement_L379 ) (oaf_X3_statement_L379 ))) (mo_if (mo_v fun _ => (mo_if (oaf_X3_statement_L379 ) (oaf_X3_statement_L379 ))) (mo_if (mo_v fun _ => (mo_if (oaf_X3_statement_L379 ) (oaf_X3_statement_L379 ))) (mo_if (mo_v fun _ => (mo_if (oaf_X3_statement_L379 ) (oaf_X3_statement_L379 ))) (mo_if (mo_v fun _ => (mo_if (oaf_X3_statement_L379 ) (oaf_X3_statement_L379 ))) (mo_if (mo_v fun _ => (mo_if (oaf_X3_statement_L379 ) (oaf_X3_statement_L379 ))) (mo_if (mo_v fun _ => (mo_if (oaf_X3_statement_L379 ) (oaf_X3_statement_L379 ))) (mo_if (mo_v fun _ => (mo_if (oaf_X3_statement_L379 ) (oaf_X3_statement_L379 ))) (mo_if (mo_v fun _ => (mo_if (oaf_X3_statement_L379 ) (oaf_X3_statement_L379 ))) (mo_if (mo_v fun _ => (mo_if (oaf_X3_statement_L379 ) (oaf_X3_statement_L379 ))) (mo_if (mo_v fun _ => (mo_if (oaf_X3_statement_L379 ) (oaf_X3_statement_L379 ))) (mo_if (mo_v fun _ => (mo_if (oaf_X3_statement_L379 ) (oaf_X3_statement_L379 ))) (mo_if (mo_v fun _ => (mo_if (oaf_X3_statement_L379 ) (oaf_X3_statement_L379 ))) (mo_if (mo_v fun _ => (mo_if (oaf_X3_statement_L379 ) (oaf_X3_statement_L379 ))) (mo_if (mo_v fun _ => (mo_if (oaf_X3_statement_L379 ) (oaf_X3_statement_L379 ))) (oaf_X3_statement_L379 )))))))))))))))))))))
/-! BasicMachine$Parser.line()LBasicMachine$Line; -/
set_option maxHeartbeats 4000000 in
set_option maxRecDepth 100000 in
theorem oaf_X3_line_L48 {n : Nat} {S : Nat → Nat} {st : aS} {a0 : Nat} {x1 : Int32} {x2 : Option Nat} {z48_1 : Int32} : Mo st (af_X3_line_L48 n S st a0 x1 x2 z48_1) := (mo_v fun _ => (mo_x oaf_X3_need fun _ _ => (mo_s (fun _ => le_nO) fun _ => (mo_cb oaf_X4_init fun _ _ => mo_ret))))
set_option maxHeartbeats 4000000 in
set_option maxRecDepth 100000 in
theorem oaf_X3_line {n : Nat} {S : Nat → Nat} {st : aS} {a0 : Nat} : Mo st (af_X3_line n S st a0) := (mo_v fun _ => (mo_x oaf_X3_number fun _ _ => (mo_v fun _ => (mo_v fun _ => (mo_if (mo_v fun _ => (mo_x oaf_X3_statement fun _ _ => (mo_v fun _ => (mo_v fun _ => (mo_if (oaf_X3_line_L48 ) (oaf_X3_line_L48 )))))) (mo_s (fun _ => le_nO) fun _ => (mo_cb oaf_X4_init fun _ _ => mo_ret)))))))
/-! BasicMachine.parse()LBasicMachine$Line; -/
set_option maxHeartbeats 4000000 in
set_option maxRecDepth 100000 in
theorem oaf_X1_parse_S9_ {n : Nat} {S : Nat → Nat} : ∀ k : Nat, (∀ {st : aS} {a0 : Nat} {x1 : Option Nat} {x2 : Int32} {x3 : Int32}, Mo st (af_X1_parse_S9 n S k 0 st a0 x1 x2 x3)) ∧ (∀ {st : aS} {a0 : Nat} {x1 : Option Nat} {x2 : Int32} {x3 : Int32}, Mo st (af_X1_parse_S9 n S k 1 st a0 x1 x2 x3)) := by
  intro k
  induction k with
  | zero => exact ⟨(fun q h => nomatch (show none = some q from h)), (fun q h => nomatch (show none = some q from h))⟩
  | succ k ih =>
    obtain ⟨mrec0, mrec1⟩ := ih
    refine ⟨?_, ?_⟩
    · intro st a0 x1 x2 x3
      exact (show Mo st (af_X1_parse_B9 n S (af_X1_parse_S9 n S k) st a0 x1 x2 x3) from (mo_v fun _ => (mo_if (mo_s (fun _ => le_pF) fun _ => (mo_s (fun _ => le_pF) fun _ => (mo_s (fun _ => le_nO) fun _ => (mo_cb oaf_X3_init fun _ _ => (mo_v fun _ => (mo_xc oaf_X3_line (fun _ _ => mo_ret) fun _ _ => (mo_if (mo_v fun _ => (mo_s (fun _ => le_pF) fun _ => mo_tw)) mo_none))))))) (mo_v fun _ => (mo_v fun _ => (mo_v fun _ => (mo_if (mrec1) (mo_v fun _ => (mo_v fun _ => (mo_v fun _ => (mo_v fun _ => (mo_s (fun _ => le_wI) fun _ => (mrec1)))))))))))))
    · intro st a0 x1 x2 x3
      exact (show Mo st (af_X1_parse_B43 n S (af_X1_parse_S9 n S k) st a0 x1 x2 x3) from (mrec0))
set_option maxHeartbeats 4000000 in
set_option maxRecDepth 100000 in
theorem oaf_X1_parse_S9 {n : Nat} {S : Nat → Nat} : (∀ {st : aS} {a0 : Nat} {x1 : Option Nat} {x2 : Int32} {x3 : Int32}, Mo st (af_X1_parse_S9 n S n 0 st a0 x1 x2 x3)) ∧ (∀ {st : aS} {a0 : Nat} {x1 : Option Nat} {x2 : Int32} {x3 : Int32}, Mo st (af_X1_parse_S9 n S n 1 st a0 x1 x2 x3)) := oaf_X1_parse_S9_  n
set_option maxHeartbeats 4000000 in
set_option maxRecDepth 100000 in
theorem oaf_X1_parse {n : Nat} {S : Nat → Nat} {st : aS} {a0 : Nat} : Mo st (af_X1_parse n S st a0) := (mo_s (fun _ => le_nA) fun _ => ((oaf_X1_parse_S9 ).1))
/-! BasicMachine.lineOrNull(I)LBasicMachine$Line; -/
set_option maxHeartbeats 4000000 in
set_option maxRecDepth 100000 in
theorem oaf_X1_lineOrNull_S5_ {n : Nat} {S : Nat → Nat} : ∀ k : Nat, (∀ {st : aS} {a0 : Nat} {x1 : Int32} {x2 : Option Nat}, Mo st (af_X1_lineOrNull_S5 n S k st a0 x1 x2)) := by
  intro k
  induction k with
  | zero => exact fun q h => nomatch (show none = some q from h)
  | succ k ih =>
    have mrec := @ih
    intro st a0 x1 x2
    exact (show Mo st (af_X1_lineOrNull_B5 n S (af_X1_lineOrNull_S5 n S k) st a0 x1 x2) from (mo_if mo_ret (mo_v fun _ => (mo_v fun _ => (mo_if mo_ret (mo_v fun _ => (mrec)))))))
set_option maxHeartbeats 4000000 in
set_option maxRecDepth 100000 in
theorem oaf_X1_lineOrNull_S5 {n : Nat} {S : Nat → Nat} : (∀ {st : aS} {a0 : Nat} {x1 : Int32} {x2 : Option Nat}, Mo st (af_X1_lineOrNull_S5 n S n st a0 x1 x2)) := oaf_X1_lineOrNull_S5_  n
set_option maxHeartbeats 4000000 in
set_option maxRecDepth 100000 in
theorem oaf_X1_lineOrNull {n : Nat} {S : Nat → Nat} {st : aS} {a0 : Nat} {p1 : Int32} : Mo st (af_X1_lineOrNull n S st a0 p1) := (mo_v fun _ => ((oaf_X1_lineOrNull_S5 )))
/-! BasicMachine.unlink(LBasicMachine$Line;)V -/
set_option maxHeartbeats 4000000 in
set_option maxRecDepth 100000 in
theorem oaf_X1_unlink_S21_ {n : Nat} {S : Nat → Nat} : ∀ k : Nat, (∀ {st : aS} {a0 : Nat} {x1 : Option Nat} {x2 : Option Nat}, Mo st (af_X1_unlink_S21 n S k 0 st a0 x1 x2)) ∧ (∀ {st : aS} {a0 : Nat} {x1 : Option Nat} {x2 : Option Nat}, Mo st (af_X1_unlink_S21 n S k 1 st a0 x1 x2)) := by
  intro k
  induction k with
  | zero => exact ⟨(fun q h => nomatch (show none = some q from h)), (fun q h => nomatch (show none = some q from h))⟩
  | succ k ih =>
    obtain ⟨mrec0, mrec1⟩ := ih
    refine ⟨?_, ?_⟩
    · intro st a0 x1 x2
      exact (show Mo st (af_X1_unlink_B21 n S (af_X1_unlink_S21 n S k) st a0 x1 x2) from (mo_if (mo_v fun _ => (mo_s (fun _ => le_pF) fun _ => mo_ret)) (mo_v fun _ => (mo_v fun _ => (mo_if (mo_v fun _ => (mo_v fun _ => (mo_s (fun _ => le_pF) fun _ => (mrec1)))) (mrec1))))))
    · intro st a0 x1 x2
      exact (show Mo st (af_X1_unlink_B41 n S (af_X1_unlink_S21 n S k) st a0 x1 x2) from (mo_v fun _ => (mo_v fun _ => (mrec0))))
set_option maxHeartbeats 4000000 in
set_option maxRecDepth 100000 in
theorem oaf_X1_unlink_S21 {n : Nat} {S : Nat → Nat} : (∀ {st : aS} {a0 : Nat} {x1 : Option Nat} {x2 : Option Nat}, Mo st (af_X1_unlink_S21 n S n 0 st a0 x1 x2)) ∧ (∀ {st : aS} {a0 : Nat} {x1 : Option Nat} {x2 : Option Nat}, Mo st (af_X1_unlink_S21 n S n 1 st a0 x1 x2)) := oaf_X1_unlink_S21_  n
set_option maxHeartbeats 4000000 in
set_option maxRecDepth 100000 in
theorem oaf_X1_unlink_L16 {n : Nat} {S : Nat → Nat} {st : aS} {a0 : Nat} {x1 : Option Nat} : Mo st (af_X1_unlink_L16 n S st a0 x1) := (mo_v fun _ => ((oaf_X1_unlink_S21 ).1))
set_option maxHeartbeats 4000000 in
set_option maxRecDepth 100000 in
theorem oaf_X1_unlink {n : Nat} {S : Nat → Nat} {st : aS} {a0 : Nat} {p1 : Option Nat} : Mo st (af_X1_unlink n S st a0 p1) := (mo_v fun _ => (mo_if (mo_v fun _ => (mo_v fun _ => (mo_s (fun _ => le_pF) fun _ => (oaf_X1_unlink_L16 )))) (oaf_X1_unlink_L16 )))
/-! BasicMachine.link(LBasicMachine$Line;)V -/
set_option maxHeartbeats 4000000 in
set_option maxRecDepth 100000 in
theorem oaf_X1_link_L79 {n : Nat} {S : Nat → Nat} {st : aS} {a0 : Nat} {x1 : Option Nat} {x2 : Option Nat} : Mo st (af_X1_link_L79 n S st a0 x1 x2) := (mo_v fun _ => (mo_v fun _ => (mo_v fun _ => (mo_s (fun _ => le_pF) fun _ => (mo_s (fun _ => le_pF) fun _ => mo_ret)))))
set_option maxHeartbeats 4000000 in
set_option maxRecDepth 100000 in
theorem oaf_X1_link_S50_ {n : Nat} {S : Nat → Nat} : ∀ k : Nat, (∀ {st : aS} {a0 : Nat} {x1 : Option Nat} {x2 : Option Nat}, Mo st (af_X1_link_S50 n S k st a0 x1 x2)) := by
  intro k
  induction k with
  | zero => exact fun q h => nomatch (show none = some q from h)
  | succ k ih =>
    have mrec := @ih
    intro st a0 x1 x2
    exact (show Mo st (af_X1_link_B50 n S (af_X1_link_S50 n S k) st a0 x1 x2) from (mo_v fun _ => (mo_v fun _ => (mo_if (oaf_X1_link_L79 ) (mo_v fun _ => (mo_v fun _ => (mo_v fun _ => (mo_v fun _ => (mo_v fun _ => (mo_if (oaf_X1_link_L79 ) (mo_v fun _ => (mrec))))))))))))
set_option maxHeartbeats 4000000 in
set_option maxRecDepth 100000 in
theorem oaf_X1_link_S50 {n : Nat} {S : Nat → Nat} : (∀ {st : aS} {a0 : Nat} {x1 : Option Nat} {x2 : Option Nat}, Mo st (af_X1_link_S50 n S n st a0 x1 x2)) := oaf_X1_link_S50_  n
set_option maxHeartbeats 4000000 in
set_option maxRecDepth 100000 in
theorem oaf_X1_link_L31 {n : Nat} {S : Nat → Nat} {st : aS} {a0 : Nat} {x1 : Option Nat} : Mo st (af_X1_link_L31 n S st a0 x1) := (mo_v fun _ => (mo_v fun _ => (mo_s (fun _ => le_pF) fun _ => (mo_s (fun _ => le_pF) fun _ => mo_ret))))
set_option maxHeartbeats 4000000 in
set_option maxRecDepth 100000 in
theorem oaf_X1_link {n : Nat} {S : Nat → Nat} {st : aS} {a0 : Nat} {p1 : Option Nat} : Mo st (af_X1_link n S st a0 p1) := (mo_v fun _ => (mo_s (fun _ => le_pF) fun _ => (mo_v fun _ => (mo_if (oaf_X1_link_L31 ) (mo_v fun _ => (mo_v fun _ => (mo_v fun _ => (mo_v fun _ => (mo_v fun _ => (mo_if (mo_v fun _ => ((oaf_X1_link_S50 ))) (oaf_X1_link_L31 )))))))))))
/-! BasicMachine.enter()I -/
set_option maxHeartbeats 4000000 in
set_option maxRecDepth 100000 in
theorem oaf_X1_enter_L63 {n : Nat} {S : Nat → Nat} {st : aS} {a0 : Nat} {x1 : Option Nat} : Mo st (af_X1_enter_L63 n S st a0 x1) := (mo_v fun _ => (mo_v fun _ => (mo_if (mo_v fun _ => mo_ret) (mo_v fun _ => (mo_cb oaf_X1_link fun _ _ => (mo_v fun _ => mo_ret))))))
set_option maxHeartbeats 4000000 in
set_option maxRecDepth 100000 in
theorem oaf_X1_enter_L54 {n : Nat} {S : Nat → Nat} {st : aS} {a0 : Nat} {x1 : Option Nat} {x2 : Option Nat} : Mo st (af_X1_enter_L54 n S st a0 x1 x2) := (mo_if (oaf_X1_enter_L63 ) (mo_v fun _ => (mo_cb oaf_X1_unlink fun _ _ => (oaf_X1_enter_L63 ))))
set_option maxHeartbeats 4000000 in
set_option maxRecDepth 100000 in
theorem oaf_X1_enter_L33 {n : Nat} {S : Nat → Nat} {st : aS} {a0 : Nat} {x1 : Option Nat} {x2 : Option Nat} : Mo st (af_X1_enter_L33 n S st a0 x1 x2) := (mo_if (mo_v fun _ => (mo_if mo_tw (oaf_X1_enter_L54 ))) (oaf_X1_enter_L54 ))
set_option maxHeartbeats 4000000 in
set_option maxRecDepth 100000 in
theorem oaf_X1_enter {n : Nat} {S : Nat → Nat} {st : aS} {a0 : Nat} : Mo st (af_X1_enter n S st a0) := (mo_v fun _ => (mo_x oaf_X1_parse fun _ _ => (mo_v fun _ => (mo_v fun _ => (mo_v fun _ => (mo_cb oaf_X1_lineOrNull fun _ _ => (mo_v fun _ => (mo_if (mo_if mo_tw (oaf_X1_enter_L33 )) (oaf_X1_enter_L33 )))))))))
/-! BasicMachine.errorAt()I -/
set_option maxHeartbeats 4000000 in
set_option maxRecDepth 100000 in
theorem oaf_X1_errorAt {n : Nat} {S : Nat → Nat} {st : aS} {a0 : Nat} : Mo st (af_X1_errorAt n S st a0) := (mo_v fun _ => mo_ret)
/-! BasicMachine.wipe()I -/
set_option maxHeartbeats 4000000 in
set_option maxRecDepth 100000 in
theorem oaf_X1_wipe {n : Nat} {S : Nat → Nat} {st : aS} {a0 : Nat} : Mo st (af_X1_wipe n S st a0) := (mo_v fun _ => (mo_s (fun _ => le_pF) fun _ => (mo_s (fun _ => le_pF) fun _ => mo_ret)))
/-! BasicMachine.matrix(I)LBasicMachine$Matrix; -/
set_option maxHeartbeats 4000000 in
set_option maxRecDepth 100000 in
theorem oaf_X1_matrix {n : Nat} {S : Nat → Nat} {st : aS} {a0 : Nat} {p1 : Int32} : Mo st (af_X1_matrix n S st a0 p1) := (mo_v fun _ => (mo_v fun _ => (mo_v fun _ => (mo_if mo_tw (mo_v fun _ => (mo_v fun _ => (mo_v fun _ => mo_ret)))))))
/-! BasicMachine.known(I)LBasicMachine$Matrix; -/
set_option maxHeartbeats 4000000 in
set_option maxRecDepth 100000 in
theorem oaf_X1_known {n : Nat} {S : Nat → Nat} {st : aS} {a0 : Nat} {p1 : Int32} : Mo st (af_X1_known n S st a0 p1) := (mo_v fun _ => (mo_v fun _ => (mo_v fun _ => (mo_if mo_tw (mo_v fun _ => (mo_v fun _ => (mo_v fun _ => mo_ret)))))))
/-! BasicMachine.line(I)LBasicMachine$Line; -/
set_option maxHeartbeats 4000000 in
set_option maxRecDepth 100000 in
theorem oaf_X1_line {n : Nat} {S : Nat → Nat} {st : aS} {a0 : Nat} {p1 : Int32} : Mo st (af_X1_line n S st a0 p1) := (mo_v fun _ => (mo_cb oaf_X1_lineOrNull fun _ _ => (mo_if mo_tw mo_ret)))
/-! BasicMachine.after(LBasicMachine$Line;)LBasicMachine$Line; -/
set_option maxHeartbeats 4000000 in
set_option maxRecDepth 100000 in
theorem oaf_X1_after {n : Nat} {S : Nat → Nat} {st : aS} {a0 : Nat} {p1 : Option Nat} : Mo st (af_X1_after n S st a0 p1) := (mo_v fun _ => (mo_v fun _ => (mo_if (mo_s (fun _ => le_pF) fun _ => (mo_v fun _ => mo_ret)) (mo_v fun _ => mo_ret))))
/-! BasicMachine$Data.values()[D -/
set_option maxHeartbeats 4000000 in
set_option maxRecDepth 100000 in
theorem oaf_X22_values {n : Nat} {S : Nat → Nat} {st : aS} {a0 : Nat} : Mo st (af_X22_values n S st a0) := (mo_v fun _ => mo_ret)
/-! BasicMachine.read()D -/
set_option maxHeartbeats 4000000 in
set_option maxRecDepth 100000 in
theorem oaf_X1_read_S10_ {n : Nat} {S : Nat → Nat} : ∀ k : Nat, (∀ {st : aS} {a0 : Nat} {x1 : Int32} {x2 : Option Nat}, Mo st (af_X1_read_S10 n S k 0 st a0 x1 x2)) ∧ (∀ {st : aS} {a0 : Nat} {x1 : Int32} {x2 : Option Nat}, Mo st (af_X1_read_S10 n S k 1 st a0 x1 x2)) := by
  intro k
  induction k with
  | zero => exact ⟨(fun q h => nomatch (show none = some q from h)), (fun q h => nomatch (show none = some q from h))⟩
  | succ k ih =>
    obtain ⟨mrec0, mrec1⟩ := ih
    refine ⟨?_, ?_⟩
    · intro st a0 x1 x2
      exact (show Mo st (af_X1_read_B10 n S (af_X1_read_S10 n S k) st a0 x1 x2) from (mo_if mo_tw (mo_v fun _ => (mo_v fun _ => (mo_v fun _ => (mo_if (mrec1) (mo_v fun _ => (mo_v fun _ => (mo_v fun _ => (mo_v fun _ => (mo_cb oaf_X22_values fun _ _ => (mo_v fun _ => (mo_v fun _ => (mo_if (mo_v fun _ => (mo_v fun _ => (mrec1))) (mo_v fun _ => (mo_s (fun _ => le_pF) fun _ => (mo_v fun _ => mo_ret)))))))))))))))))
    · intro st a0 x1 x2
      exact (show Mo st (af_X1_read_B63 n S (af_X1_read_S10 n S k) st a0 x1 x2) from (mo_v fun _ => (mo_v fun _ => (mrec0))))
set_option maxHeartbeats 4000000 in
set_option maxRecDepth 100000 in
theorem oaf_X1_read_S10 {n : Nat} {S : Nat → Nat} : (∀ {st : aS} {a0 : Nat} {x1 : Int32} {x2 : Option Nat}, Mo st (af_X1_read_S10 n S n 0 st a0 x1 x2)) ∧ (∀ {st : aS} {a0 : Nat} {x1 : Int32} {x2 : Option Nat}, Mo st (af_X1_read_S10 n S n 1 st a0 x1 x2)) := oaf_X1_read_S10_  n
set_option maxHeartbeats 4000000 in
set_option maxRecDepth 100000 in
theorem oaf_X1_read {n : Nat} {S : Nat → Nat} {st : aS} {a0 : Nat} : Mo st (af_X1_read n S st a0) := (mo_v fun _ => (mo_v fun _ => ((oaf_X1_read_S10 ).1)))
/-! BasicMachine$Loop.s()I -/
set_option maxHeartbeats 4000000 in
set_option maxRecDepth 100000 in
theorem oaf_X29_s {n : Nat} {S : Nat → Nat} {st : aS} {a0 : Nat} : Mo st (af_X29_s n S st a0) := (mo_v fun _ => mo_ret)
/-! BasicMachine.loop(I)I -/
set_option maxHeartbeats 4000000 in
set_option maxRecDepth 100000 in
theorem oaf_X1_loop_S7_ {n : Nat} {S : Nat → Nat} : ∀ k : Nat, (∀ {st : aS} {a0 : Nat} {x1 : Int32} {x2 : Int32}, Mo st (af_X1_loop_S7 n S k st a0 x1 x2)) := by
  intro k
  induction k with
  | zero => exact fun q h => nomatch (show none = some q from h)
  | succ k ih =>
    have mrec := @ih
    intro st a0 x1 x2
    exact (show Mo st (af_X1_loop_B7 n S (af_X1_loop_S7 n S k) st a0 x1 x2) from (mo_if mo_ret (mo_v fun _ => (mo_v fun _ => (mo_v fun _ => (mo_v fun _ => (mo_v fun _ => (mo_cb oaf_X29_s fun _ _ => (mo_if mo_ret (mrec))))))))))
set_option maxHeartbeats 4000000 in
set_option maxRecDepth 100000 in
theorem oaf_X1_loop_S7 {n : Nat} {S : Nat → Nat} : (∀ {st : aS} {a0 : Nat} {x1 : Int32} {x2 : Int32}, Mo st (af_X1_loop_S7 n S n st a0 x1 x2)) := oaf_X1_loop_S7_  n
set_option maxHeartbeats 4000000 in
set_option maxRecDepth 100000 in
theorem oaf_X1_loop {n : Nat} {S : Nat → Nat} {st : aS} {a0 : Nat} {p1 : Int32} : Mo st (af_X1_loop n S st a0 p1) := (mo_v fun _ => (mo_v fun _ => ((oaf_X1_loop_S7 ))))
/-! BasicMachine$Next.s()I -/
set_option maxHeartbeats 4000000 in
set_option maxRecDepth 100000 in
theorem oaf_X20_s {n : Nat} {S : Nat → Nat} {st : aS} {a0 : Nat} : Mo st (af_X20_s n S st a0) := (mo_v fun _ => mo_ret)
/-! BasicMachine.nextOf(ILBasicMachine$Line;)LBasicMachine$Line; -/
set_option maxHeartbeats 4000000 in
set_option maxRecDepth 100000 in
theorem oaf_X1_nextOf_S5_ {n : Nat} {S : Nat → Nat} : ∀ k : Nat, (∀ {st : aS} {a0 : Nat} {x1 : Int32} {x3 : Option Nat}, Mo st (af_X1_nextOf_S5 n S k 0 st a0 x1 x3)) ∧ (∀ {st : aS} {a0 : Nat} {x1 : Int32} {x3 : Option Nat}, Mo st (af_X1_nextOf_S5 n S k 1 st a0 x1 x3)) := by
  intro k
  induction k with
  | zero => exact ⟨(fun q h => nomatch (show none = some q from h)), (fun q h => nomatch (show none = some q from h))⟩
  | succ k ih =>
    obtain ⟨mrec0, mrec1⟩ := ih
    refine ⟨?_, ?_⟩
    · intro st a0 x1 x3
      exact (show Mo st (af_X1_nextOf_B5 n S (af_X1_nextOf_S5 n S k) st a0 x1 x3) from (mo_if mo_tw (mo_v fun _ => (mo_v fun _ => (mo_v fun _ => (mo_if (mrec1) (mo_v fun _ => (mo_v fun _ => (mo_v fun _ => (mo_v fun _ => (mo_cb oaf_X20_s fun _ _ => (mo_if mo_ret (mrec1)))))))))))))
    · intro st a0 x1 x3
      exact (show Mo st (af_X1_nextOf_B35 n S (af_X1_nextOf_S5 n S k) st a0 x1 x3) from (mo_v fun _ => (mo_v fun _ => (mrec0))))
set_option maxHeartbeats 4000000 in
set_option maxRecDepth 100000 in
theorem oaf_X1_nextOf_S5 {n : Nat} {S : Nat → Nat} : (∀ {st : aS} {a0 : Nat} {x1 : Int32} {x3 : Option Nat}, Mo st (af_X1_nextOf_S5 n S n 0 st a0 x1 x3)) ∧ (∀ {st : aS} {a0 : Nat} {x1 : Int32} {x3 : Option Nat}, Mo st (af_X1_nextOf_S5 n S n 1 st a0 x1 x3)) := oaf_X1_nextOf_S5_  n
set_option maxHeartbeats 4000000 in
set_option maxRecDepth 100000 in
theorem oaf_X1_nextOf {n : Nat} {S : Nat → Nat} {st : aS} {a0 : Nat} {p1 : Int32} {p2 : Option Nat} : Mo st (af_X1_nextOf n S st a0 p1 p2) := (mo_v fun _ => (mo_v fun _ => ((oaf_X1_nextOf_S5 ).1)))
/-! BasicMachine.begin()V -/
set_option maxHeartbeats 4000000 in
set_option maxRecDepth 100000 in
theorem oaf_X1_begin_L96 {n : Nat} {S : Nat → Nat} {st : aS} {a0 : Nat} {z96_1 : Int32} : Mo st (af_X1_begin_L96 n S st a0 z96_1) := (mo_v fun _ => (mo_s (fun _ => le_pF) fun _ => mo_ret))
set_option maxHeartbeats 4000000 in
set_option maxRecDepth 100000 in
theorem oaf_X1_begin_S23_ {n : Nat} {S : Nat → Nat} : ∀ k : Nat, (∀ {st : aS} {a0 : Nat} {x1 : Int32}, Mo st (af_X1_begin_S23 n S k st a0 x1)) := by
  intro k
  induction k with
  | zero => exact fun q h => nomatch (show none = some q from h)
  | succ k ih =>
    have mrec := @ih
    intro st a0 x1
    exact (show Mo st (af_X1_begin_B23 n S (af_X1_begin_S23 n S k) st a0 x1) from (mo_if (mo_s (fun _ => le_pF) fun _ => (mo_s (fun _ => le_pF) fun _ => (mo_s (fun _ => le_pF) fun _ => (mo_s (fun _ => le_pF) fun _ => (mo_s (fun _ => le_pF) fun _ => (mo_s (fun _ => le_pF) fun _ => (mo_s (fun _ => le_pF) fun _ => (mo_v fun _ => (mo_if (oaf_X1_begin_L96 ) (oaf_X1_begin_L96 )))))))))) (mo_v fun _ => (mo_v fun _ => (mo_s (fun _ => le_wR) fun _ => (mo_v fun _ => (mo_v fun _ => (mo_s (fun _ => le_wR) fun _ => (mrec)))))))))
set_option maxHeartbeats 4000000 in
set_option maxRecDepth 100000 in
theorem oaf_X1_begin_S23 {n : Nat} {S : Nat → Nat} : (∀ {st : aS} {a0 : Nat} {x1 : Int32}, Mo st (af_X1_begin_S23 n S n st a0 x1)) := oaf_X1_begin_S23_  n
set_option maxHeartbeats 4000000 in
set_option maxRecDepth 100000 in
theorem oaf_X1_begin_S2_ {n : Nat} {S : Nat → Nat} : ∀ k : Nat, (∀ {st : aS} {a0 : Nat} {x1 : Int32}, Mo st (af_X1_begin_S2 n S k st a0 x1)) := by
  intro k
  induction k with
  | zero => exact fun q h => nomatch (show none = some q from h)
  | succ k ih =>
    have mrec := @ih
    intro st a0 x1
    exact (show Mo st (af_X1_begin_B2 n S (af_X1_begin_S2 n S k) st a0 x1) from (mo_if ((oaf_X1_begin_S23 )) (mo_v fun _ => (mo_v fun _ => (mo_s (fun _ => le_wD) fun _ => (mrec))))))
set_option maxHeartbeats 4000000 in
set_option maxRecDepth 100000 in
theorem oaf_X1_begin_S2 {n : Nat} {S : Nat → Nat} : (∀ {st : aS} {a0 : Nat} {x1 : Int32}, Mo st (af_X1_begin_S2 n S n st a0 x1)) := oaf_X1_begin_S2_  n
set_option maxHeartbeats 4000000 in
set_option maxRecDepth 100000 in
theorem oaf_X1_begin {n : Nat} {S : Nat → Nat} {st : aS} {a0 : Nat} : Mo st (af_X1_begin n S st a0) := ((oaf_X1_begin_S2 ))
/-! BasicMachine$Data.run(LBasicMachine;LBasicMachine$Line;)LBasicMachine$Line; -/
set_option maxHeartbeats 4000000 in
set_option maxRecDepth 100000 in
theorem oaf_X22_run {n : Nat} {S : Nat → Nat} {st : aS} {a0 : Nat} {p1 : Option Nat} {p2 : Option Nat} : Mo st (af_X22_run n S st a0 p1 p2) := mo_ret
/-! BasicMachine$Define.run(LBasicMachine;LBasicMachine$Line;)LBasicMachine$Line; -/
set_option maxHeartbeats 4000000 in
set_option maxRecDepth 100000 in
theorem oaf_X25_run {n : Nat} {S : Nat → Nat} {st : aS} {a0 : Nat} {p1 : Option Nat} {p2 : Option Nat} : Mo st (af_X25_run n S st a0 p1 p2) := (mo_v fun _ => (mo_v fun _ => (mo_v fun _ => (mo_v fun _ => (mo_v fun _ => (mo_s (fun _ => le_wR) fun _ => mo_ret))))))
/-! BasicMachine$Matrix.<init>()V -/
set_option maxHeartbeats 4000000 in
set_option maxRecDepth 100000 in
theorem oaf_X28_init {n : Nat} {S : Nat → Nat} {st : aS} {a0 : Nat} : Mo st (af_X28_init n S st a0) := (mo_s (fun _ => le_nM) fun _ => (mo_s (fun _ => le_pF) fun _ => mo_ret))
/-! BasicMachine$Matrix.be(II)LBasicMachine$Matrix; -/
set_option maxHeartbeats 4000000 in
set_option maxRecDepth 100000 in
theorem oaf_X28_be_S12_ {n : Nat} {S : Nat → Nat} : ∀ k : Nat, (∀ {st : aS} {a0 : Nat} {x1 : Int32} {x2 : Int32} {x3 : Int32} {x4 : Int32}, Mo st (af_X28_be_S12 n S k 0 st a0 x1 x2 x3 x4)) ∧ (∀ {st : aS} {a0 : Nat} {x1 : Int32} {x2 : Int32} {x3 : Int32} {x4 : Int32}, Mo st (af_X28_be_S12 n S k 1 st a0 x1 x2 x3 x4)) := by
  intro k
  induction k with
  | zero => exact ⟨(fun q h => nomatch (show none = some q from h)), (fun q h => nomatch (show none = some q from h))⟩
  | succ k ih =>
    obtain ⟨mrec0, mrec1⟩ := ih
    refine ⟨?_, ?_⟩
    · intro st a0 x1 x2 x3 x4
      exact (show Mo st (af_X28_be_B12 n S (af_X28_be_S12 n S k) st a0 x1 x2 x3 x4) from (mo_if mo_ret (mrec1)))
    · intro st a0 x1 x2 x3 x4
      exact (show Mo st (af_X28_be_B20 n S (af_X28_be_S12 n S k) st a0 x1 x2 x3 x4) from (mo_if (mrec0) (mo_v fun _ => (mo_v fun _ => (mo_v fun _ => (mo_v fun _ => (mo_s (fun _ => le_wD) fun _ => (mrec1))))))))
set_option maxHeartbeats 4000000 in
set_option maxRecDepth 100000 in
theorem oaf_X28_be_S12 {n : Nat} {S : Nat → Nat} : (∀ {st : aS} {a0 : Nat} {x1 : Int32} {x2 : Int32} {x3 : Int32} {x4 : Int32}, Mo st (af_X28_be_S12 n S n 0 st a0 x1 x2 x3 x4)) ∧ (∀ {st : aS} {a0 : Nat} {x1 : Int32} {x2 : Int32} {x3 : Int32} {x4 : Int32}, Mo st (af_X28_be_S12 n S n 1 st a0 x1 x2 x3 x4)) := oaf_X28_be_S12_  n
set_option maxHeartbeats 4000000 in
set_option maxRecDepth 100000 in
theorem oaf_X28_be {n : Nat} {S : Nat → Nat} {st : aS} {a0 : Nat} {p1 : Int32} {p2 : Int32} : Mo st (af_X28_be n S st a0 p1 p2) := (mo_s (fun _ => le_pF) fun _ => (mo_s (fun _ => le_pF) fun _ => ((oaf_X28_be_S12 ).1)))
/-! BasicMachine$Dim.run(LBasicMachine;LBasicMachine$Line;)LBasicMachine$Line; -/
set_option maxHeartbeats 4000000 in
set_option maxRecDepth 100000 in
theorem oaf_X24_run_L28 {n : Nat} {S : Nat → Nat} {st : aS} {a0 : Nat} {x1 : Option Nat} : Mo st (af_X24_run_L28 n S st a0 x1) := (mo_v fun _ => (mo_v fun _ => (mo_v fun _ => (mo_v fun _ => (mo_v fun _ => (mo_v fun _ => (mo_v fun _ => (mo_v fun _ => (mo_v fun _ => (mo_cb oaf_X28_be fun _ _ => mo_ret))))))))))
set_option maxHeartbeats 4000000 in
set_option maxRecDepth 100000 in
theorem oaf_X24_run {n : Nat} {S : Nat → Nat} {st : aS} {a0 : Nat} {p1 : Option Nat} {p2 : Option Nat} : Mo st (af_X24_run n S st a0 p1 p2) := (mo_v fun _ => (mo_v fun _ => (mo_v fun _ => (mo_v fun _ => (mo_v fun _ => (mo_if (mo_v fun _ => (mo_v fun _ => (mo_s (fun _ => le_nO) fun _ => (mo_cb oaf_X28_init fun _ _ => (mo_v fun _ => (mo_v fun _ => (mo_s (fun _ => le_wR) fun _ => (oaf_X24_run_L28 )))))))) (oaf_X24_run_L28 )))))))
/-! BasicMachine$Define.s()I -/
set_option maxHeartbeats 4000000 in
set_option maxRecDepth 100000 in
theorem oaf_X25_s {n : Nat} {S : Nat → Nat} {st : aS} {a0 : Nat} : Mo st (af_X25_s n S st a0) := (mo_v fun _ => mo_ret)
/-! BasicMachine$Define.body()LBasicMachine$Expression; -/
set_option maxHeartbeats 4000000 in
set_option maxRecDepth 100000 in
theorem oaf_X25_body {n : Nat} {S : Nat → Nat} {st : aS} {a0 : Nat} : Mo st (af_X25_body n S st a0) := (mo_v fun _ => mo_ret)
/-! BasicMachine.leave()V -/
set_option maxHeartbeats 4000000 in
set_option maxRecDepth 100000 in
theorem oaf_X1_leave {n : Nat} {S : Nat → Nat} {st : aS} {a0 : Nat} : Mo st (af_X1_leave n S st a0) := (mo_v fun _ => (mo_s (fun _ => le_pF) fun _ => (mo_v fun _ => (mo_v fun _ => (mo_v fun _ => (mo_v fun _ => (mo_v fun _ => (mo_v fun _ => (mo_v fun _ => (mo_v fun _ => (mo_v fun _ => (mo_v fun _ => (mo_s (fun _ => le_wD) fun _ => mo_ret)))))))))))))
/-! BasicMachine$Call.value(LBasicMachine;)D -/
set_option maxHeartbeats 4000000 in
set_option maxRecDepth 100000 in
theorem oaf_X8_value {rv : aS → Nat → Option Nat → Option (aS × (UInt64 ⊕ Nat))} (mrv : ∀ {σ : aS} {a : Nat} {r : Option Nat}, Mo σ (rv σ a r)) {n : Nat} {S : Nat → Nat} {st : aS} {a0 : Nat} {p1 : Option Nat} : Mo st (af_X8_value n S rv st a0 p1) := (mo_v fun _ => (mo_v fun _ => (mo_v fun _ => (mo_v fun _ => (mo_v fun _ => (mo_if mo_tw (mo_v fun _ => (mo_v fun _ => (mo_x mrv fun _ _ => (mo_v fun _ => (mo_if mo_tw (mo_v fun _ => (mo_v fun _ => (mo_v fun _ => (mo_v fun _ => (mo_cb oaf_X25_s fun _ _ => (mo_v fun _ => (mo_s (fun _ => le_wI) fun _ => (mo_v fun _ => (mo_v fun _ => (mo_v fun _ => (mo_v fun _ => (mo_cb oaf_X25_s fun _ _ => (mo_v fun _ => (mo_v fun _ => (mo_v fun _ => (mo_s (fun _ => le_wD) fun _ => (mo_v fun _ => (mo_v fun _ => (mo_cb oaf_X25_s fun _ _ => (mo_v fun _ => (mo_s (fun _ => le_wD) fun _ => (mo_v fun _ => (mo_s (fun _ => le_pF) fun _ => (mo_v fun _ => (mo_cb oaf_X25_body fun _ _ => (mo_v fun _ => (mo_x mrv fun _ _ => (mo_v fun _ => (mo_cb oaf_X1_leave fun _ _ => mo_ret))))))))))))))))))))))))))))))))))))))))
/-! BasicMachine$Matrix.check(JJ)V -/
set_option maxHeartbeats 4000000 in
set_option maxRecDepth 100000 in
theorem oaf_X28_check {n : Nat} {S : Nat → Nat} {st : aS} {a0 : Nat} {p1 : Int64} {p3 : Int64} : Mo st (af_X28_check n S st a0 p1 p3) := (mo_if mo_tw (mo_v fun _ => (mo_if mo_tw (mo_if mo_tw (mo_v fun _ => (mo_if mo_ret mo_tw))))))
/-! BasicMachine$Matrix.at(JJ)D -/
set_option maxHeartbeats 4000000 in
set_option maxRecDepth 100000 in
theorem oaf_X28_at {n : Nat} {S : Nat → Nat} {st : aS} {a0 : Nat} {p1 : Int64} {p3 : Int64} : Mo st (af_X28_at n S st a0 p1 p3) := (mo_v fun _ => (mo_x oaf_X28_check fun _ _ => (mo_v fun _ => (mo_v fun _ => (mo_v fun _ => (mo_v fun _ => (mo_v fun _ => mo_ret)))))))
/-! BasicMachine$Element.value(LBasicMachine;)D -/
set_option maxHeartbeats 4000000 in
set_option maxRecDepth 100000 in
theorem oaf_X11_value {rv : aS → Nat → Option Nat → Option (aS × (UInt64 ⊕ Nat))} (mrv : ∀ {σ : aS} {a : Nat} {r : Option Nat}, Mo σ (rv σ a r)) {n : Nat} {S : Nat → Nat} {st : aS} {a0 : Nat} {p1 : Option Nat} : Mo st (af_X11_value n S rv st a0 p1) := (mo_v fun _ => (mo_v fun _ => (mo_x mrv fun _ _ => (mo_cb oaf_X1_whole fun _ _ => (mo_v fun _ => (mo_v fun _ => (mo_x mrv fun _ _ => (mo_cb oaf_X1_whole fun _ _ => (mo_v fun _ => (mo_v fun _ => (mo_v fun _ => (mo_x oaf_X1_matrix fun _ _ => (mo_v fun _ => (mo_v fun _ => (mo_x oaf_X28_at fun _ _ => mo_ret)))))))))))))))
/-! BasicMachine$Numeral.value(LBasicMachine;)D -/
set_option maxHeartbeats 4000000 in
set_option maxRecDepth 100000 in
theorem oaf_X6_value {rv : aS → Nat → Option Nat → Option (aS × (UInt64 ⊕ Nat))} (mrv : ∀ {σ : aS} {a : Nat} {r : Option Nat}, Mo σ (rv σ a r)) {n : Nat} {S : Nat → Nat} {st : aS} {a0 : Nat} {p1 : Option Nat} : Mo st (af_X6_value n S rv st a0 p1) := (mo_v fun _ => mo_ret)
/-! BasicMachine$Pair.divided(DD)D -/
set_option maxHeartbeats 4000000 in
set_option maxRecDepth 100000 in
theorem oaf_X10_divided {n : Nat} {S : Nat → Nat} {st : aS} {p0 : UInt64} {p2 : UInt64} : Mo st (af_X10_divided n S st p0 p2) := (mo_if mo_tw (mo_v fun _ => (mo_x oaf_X1_checked fun _ _ => mo_ret)))
/-! BasicMachine$Pair.power(DD)D -/
set_option maxHeartbeats 4000000 in
set_option maxRecDepth 100000 in
theorem oaf_X10_power_S54_ {n : Nat} {S : Nat → Nat} : ∀ k : Nat, (∀ {st : aS} {x0 : UInt64} {x2 : UInt64} {x4 : UInt64} {x6 : UInt64} {x8 : Int32}, Mo st (af_X10_power_S54 n S k st x0 x2 x4 x6 x8)) := by
  intro k
  induction k with
  | zero => exact fun q h => nomatch (show none = some q from h)
  | succ k ih =>
    have mrec := @ih
    intro st x0 x2 x4 x6 x8
    exact (show Mo st (af_X10_power_B54 n S (af_X10_power_S54 n S k) st x0 x2 x4 x6 x8) from (mo_if (mo_if mo_ret (mo_x oaf_X10_divided fun _ _ => mo_ret)) (mo_v fun _ => (mo_x oaf_X1_checked fun _ _ => (mrec)))))
set_option maxHeartbeats 4000000 in
set_option maxRecDepth 100000 in
theorem oaf_X10_power_S54 {n : Nat} {S : Nat → Nat} : (∀ {st : aS} {x0 : UInt64} {x2 : UInt64} {x4 : UInt64} {x6 : UInt64} {x8 : Int32}, Mo st (af_X10_power_S54 n S n st x0 x2 x4 x6 x8)) := oaf_X10_power_S54_  n
set_option maxHeartbeats 4000000 in
set_option maxRecDepth 100000 in
theorem oaf_X10_power_L49 {n : Nat} {S : Nat → Nat} {st : aS} {x0 : UInt64} {x2 : UInt64} {x4 : UInt64} {z49_0 : UInt64} : Mo st (af_X10_power_L49 n S st x0 x2 x4 z49_0) := ((oaf_X10_power_S54 ))
set_option maxHeartbeats 4000000 in
set_option maxRecDepth 100000 in
theorem oaf_X10_power {n : Nat} {S : Nat → Nat} {st : aS} {p0 : UInt64} {p2 : UInt64} : Mo st (af_X10_power n S st p0 p2) := (mo_if mo_tw (mo_if mo_tw (mo_cb oaf_X1_whole fun _ _ => (mo_if (mo_if (oaf_X10_power_L49 ) (oaf_X10_power_L49 )) mo_tw))))
/-! BasicMachine$Pair.value(LBasicMachine;)D -/
set_option maxHeartbeats 4000000 in
set_option maxRecDepth 100000 in
theorem oaf_X10_value_L95 {rv : aS → Nat → Option Nat → Option (aS × (UInt64 ⊕ Nat))} (mrv : ∀ {σ : aS} {a : Nat} {r : Option Nat}, Mo σ (rv σ a r)) {n : Nat} {S : Nat → Nat} {st : aS} {a0 : Nat} {x2 : UInt64} {x4 : UInt64} : Mo st (af_X10_value_L95 n S rv st a0 x2 x4) := (mo_x oaf_X10_power fun _ _ => mo_ret)
set_option maxHeartbeats 4000000 in
set_option maxRecDepth 100000 in
theorem oaf_X10_value {rv : aS → Nat → Option Nat → Option (aS × (UInt64 ⊕ Nat))} (mrv : ∀ {σ : aS} {a : Nat} {r : Option Nat}, Mo σ (rv σ a r)) {n : Nat} {S : Nat → Nat} {st : aS} {a0 : Nat} {p1 : Option Nat} : Mo st (af_X10_value n S rv st a0 p1) := (mo_v fun _ => (mo_v fun _ => (mo_x mrv fun _ _ => (mo_v fun _ => (mo_v fun _ => (mo_x mrv fun _ _ => (mo_v fun _ => (mo_if (mo_v fun _ => (mo_x oaf_X1_checked fun _ _ => mo_ret)) (mo_if (mo_v fun _ => (mo_x oaf_X1_checked fun _ _ => mo_ret)) (mo_if (oaf_X10_value_L95 mrv) (mo_if (mo_v fun _ => (mo_x oaf_X1_checked fun _ _ => mo_ret)) (mo_if (oaf_X10_value_L95 mrv) (mo_if (mo_x oaf_X10_divided fun _ _ => mo_ret) (oaf_X10_value_L95 mrv))))))))))))))
/-! BasicMachine$Single.floor(D)D -/
set_option maxHeartbeats 4000000 in
set_option maxRecDepth 100000 in
theorem oaf_X7_floor {n : Nat} {S : Nat → Nat} {st : aS} {p0 : UInt64} : Mo st (af_X7_floor n S st p0) := (mo_cb oaf_X1_whole fun _ _ => (mo_v fun _ => (mo_if mo_ret (mo_v fun _ => mo_ret))))
/-! BasicMachine$Single.value(LBasicMachine;)D -/
set_option maxHeartbeats 4000000 in
set_option maxRecDepth 100000 in
theorem oaf_X7_value {rv : aS → Nat → Option Nat → Option (aS × (UInt64 ⊕ Nat))} (mrv : ∀ {σ : aS} {a : Nat} {r : Option Nat}, Mo σ (rv σ a r)) {n : Nat} {S : Nat → Nat} {st : aS} {a0 : Nat} {p1 : Option Nat} : Mo st (af_X7_value n S rv st a0 p1) := (mo_v fun _ => (mo_v fun _ => (mo_x mrv fun _ _ => (mo_v fun _ => (mo_if mo_ret (mo_if (mo_if mo_ret mo_ret) (mo_if (mo_cb oaf_X7_floor fun _ _ => mo_ret) (mo_if (mo_if mo_ret mo_ret) mo_ret))))))))
/-! BasicMachine$Variable.value(LBasicMachine;)D -/
set_option maxHeartbeats 4000000 in
set_option maxRecDepth 100000 in
theorem oaf_X9_value {rv : aS → Nat → Option Nat → Option (aS × (UInt64 ⊕ Nat))} (mrv : ∀ {σ : aS} {a : Nat} {r : Option Nat}, Mo σ (rv σ a r)) {n : Nat} {S : Nat → Nat} {st : aS} {a0 : Nat} {p1 : Option Nat} : Mo st (af_X9_value n S rv st a0 p1) := (mo_v fun _ => (mo_v fun _ => (mo_v fun _ => (mo_v fun _ => (mo_v fun _ => mo_ret)))))
/-! dispatch.value -/
set_option maxHeartbeats 4000000 in
set_option maxRecDepth 100000 in
theorem of_value (n : Nat) (S : Nat → Nat) : ∀ (d : Nat) {st : aS} {a : Nat} {r : Option Nat}, Mo st (af_value n S d st a r) := by
  intro d
  induction d with
  | zero => exact fun q h => nomatch (show none = some q from h)
  | succ d ih =>
    intro st a r
    exact (show Mo st ((aCi st a).bind fun c => if c = 7 then af_X8_value n S (af_value n S d) st a r else if c = 10 then af_X11_value n S (af_value n S d) st a r else if c = 5 then af_X6_value n S (af_value n S d) st a r else if c = 9 then af_X10_value n S (af_value n S d) st a r else if c = 6 then af_X7_value n S (af_value n S d) st a r else if c = 8 then af_X9_value n S (af_value n S d) st a r else none) from mo_v fun c => (mo_if (oaf_X8_value ih) (mo_if (oaf_X11_value ih) (mo_if (oaf_X6_value ih) (mo_if (oaf_X10_value ih) (mo_if (oaf_X7_value ih) (mo_if (oaf_X9_value ih) mo_none)))))))
/-! BasicMachine$Loop.over(DDD)Z -/
set_option maxHeartbeats 4000000 in
set_option maxRecDepth 100000 in
theorem oaf_X29_over {n : Nat} {S : Nat → Nat} {st : aS} {p0 : UInt64} {p2 : UInt64} {p4 : UInt64} : Mo st (af_X29_over n S st p0 p2 p4) := (mo_if (mo_if mo_ret mo_ret) (mo_if mo_ret mo_ret))
/-! BasicMachine$Loop.<init>(IDDLBasicMachine$Line;)V -/
set_option maxHeartbeats 4000000 in
set_option maxRecDepth 100000 in
theorem oaf_X29_init {n : Nat} {S : Nat → Nat} {st : aS} {a0 : Nat} {p1 : Int32} {p2 : UInt64} {p4 : UInt64} {p6 : Option Nat} : Mo st (af_X29_init n S st a0 p1 p2 p4 p6) := (mo_cb oaf_J15_init fun _ _ => (mo_s (fun _ => le_pF) fun _ => (mo_s (fun _ => le_pF) fun _ => (mo_s (fun _ => le_pF) fun _ => (mo_s (fun _ => le_pF) fun _ => mo_ret)))))
/-! BasicMachine$For.run(LBasicMachine;LBasicMachine$Line;)LBasicMachine$Line; -/
set_option maxHeartbeats 4000000 in
set_option maxRecDepth 100000 in
theorem oaf_X19_run_L67 {n : Nat} {S : Nat → Nat} {st : aS} {a0 : Nat} {x1 : Option Nat} {x2 : Option Nat} {x3 : UInt64} {x5 : UInt64} {x7 : UInt64} : Mo st (af_X19_run_L67 n S st a0 x1 x2 x3 x5 x7) := (mo_v fun _ => (mo_v fun _ => (mo_v fun _ => (mo_v fun _ => (mo_s (fun _ => le_wD) fun _ => (mo_cb oaf_X29_over fun _ _ => (mo_if (mo_v fun _ => (mo_if mo_tw (mo_v fun _ => (mo_v fun _ => (mo_s (fun _ => le_nO) fun _ => (mo_v fun _ => (mo_cb oaf_X29_init fun _ _ => (mo_v fun _ => (mo_v fun _ => (mo_s (fun _ => le_wR) fun _ => (mo_v fun _ => (mo_s (fun _ => le_pF) fun _ => mo_ret)))))))))))) (mo_v fun _ => (mo_v fun _ => (mo_x oaf_X1_nextOf fun _ _ => (mo_v fun _ => (mo_cb oaf_X1_after fun _ _ => mo_ret))))))))))))
set_option maxHeartbeats 4000000 in
set_option maxRecDepth 100000 in
theorem oaf_X19_run_L44 {n : Nat} {S : Nat → Nat} {st : aS} {a0 : Nat} {x1 : Option Nat} {x2 : Option Nat} {x3 : UInt64} {x5 : UInt64} {z44_0 : UInt64} : Mo st (af_X19_run_L44 n S st a0 x1 x2 x3 x5 z44_0) := (mo_v fun _ => (mo_v fun _ => (mo_v fun _ => (mo_cb oaf_X1_loop fun _ _ => (mo_if (oaf_X19_run_L67 ) (mo_s (fun _ => le_pF) fun _ => (oaf_X19_run_L67 )))))))
set_option maxHeartbeats 4000000 in
set_option maxRecDepth 100000 in
theorem oaf_X19_run {n : Nat} {S : Nat → Nat} {st : aS} {a0 : Nat} {p1 : Option Nat} {p2 : Option Nat} : Mo st (af_X19_run n S st a0 p1 p2) := (mo_v fun _ => (mo_v fun _ => (mo_x (of_value _ _ _) fun _ _ => (mo_v fun _ => (mo_v fun _ => (mo_x (of_value _ _ _) fun _ _ => (mo_v fun _ => (mo_if (oaf_X19_run_L44 ) (mo_v fun _ => (mo_v fun _ => (mo_x (of_value _ _ _) fun _ _ => (oaf_X19_run_L44 ))))))))))))
/-! BasicMachine$Gosub.run(LBasicMachine;LBasicMachine$Line;)LBasicMachine$Line; -/
set_option maxHeartbeats 4000000 in
set_option maxRecDepth 100000 in
theorem oaf_X17_run {n : Nat} {S : Nat → Nat} {st : aS} {a0 : Nat} {p1 : Option Nat} {p2 : Option Nat} : Mo st (af_X17_run n S st a0 p1 p2) := (mo_v fun _ => (mo_v fun _ => (mo_if mo_tw (mo_v fun _ => (mo_v fun _ => (mo_x oaf_X1_line fun _ _ => (mo_v fun _ => (mo_v fun _ => (mo_v fun _ => (mo_v fun _ => (mo_v fun _ => (mo_s (fun _ => le_wR) fun _ => (mo_v fun _ => (mo_s (fun _ => le_pF) fun _ => mo_ret))))))))))))))
/-! BasicMachine$Goto.run(LBasicMachine;LBasicMachine$Line;)LBasicMachine$Line; -/
set_option maxHeartbeats 4000000 in
set_option maxRecDepth 100000 in
theorem oaf_X15_run {n : Nat} {S : Nat → Nat} {st : aS} {a0 : Nat} {p1 : Option Nat} {p2 : Option Nat} : Mo st (af_X15_run n S st a0 p1 p2) := (mo_v fun _ => (mo_v fun _ => (mo_v fun _ => (mo_x oaf_X1_line fun _ _ => mo_ret))))
/-! BasicMachine$If.run(LBasicMachine;LBasicMachine$Line;)LBasicMachine$Line; -/
set_option maxHeartbeats 4000000 in
set_option maxRecDepth 100000 in
theorem oaf_X14_run_L46 {n : Nat} {S : Nat → Nat} {st : aS} {a0 : Nat} {x1 : Option Nat} {z46_0 : Int32} : Mo st (af_X14_run_L46 n S st a0 x1 z46_0) := (mo_v fun _ => (mo_if mo_ret (mo_v fun _ => (mo_v fun _ => (mo_v fun _ => (mo_x oaf_X1_line fun _ _ => mo_ret))))))
set_option maxHeartbeats 4000000 in
set_option maxRecDepth 100000 in
theorem oaf_X14_run {n : Nat} {S : Nat → Nat} {st : aS} {a0 : Nat} {p1 : Option Nat} {p2 : Option Nat} : Mo st (af_X14_run n S st a0 p1 p2) := (mo_v fun _ => (mo_v fun _ => (mo_x (of_value _ _ _) fun _ _ => (mo_v fun _ => (mo_v fun _ => (mo_x (of_value _ _ _) fun _ _ => (mo_if (mo_if (oaf_X14_run_L46 ) (oaf_X14_run_L46 )) (oaf_X14_run_L46 ))))))))
/-! BasicMachine$Element.i()LBasicMachine$Expression; -/
set_option maxHeartbeats 4000000 in
set_option maxRecDepth 100000 in
theorem oaf_X11_i {n : Nat} {S : Nat → Nat} {st : aS} {a0 : Nat} : Mo st (af_X11_i n S st a0) := (mo_v fun _ => mo_ret)
/-! BasicMachine$Element.j()LBasicMachine$Expression; -/
set_option maxHeartbeats 4000000 in
set_option maxRecDepth 100000 in
theorem oaf_X11_j {n : Nat} {S : Nat → Nat} {st : aS} {a0 : Nat} : Mo st (af_X11_j n S st a0) := (mo_v fun _ => mo_ret)
/-! BasicMachine$Element.matrix()I -/
set_option maxHeartbeats 4000000 in
set_option maxRecDepth 100000 in
theorem oaf_X11_matrix {n : Nat} {S : Nat → Nat} {st : aS} {a0 : Nat} : Mo st (af_X11_matrix n S st a0) := (mo_v fun _ => mo_ret)
/-! BasicMachine$Place.find(LBasicMachine;)J -/
set_option maxHeartbeats 4000000 in
set_option maxRecDepth 100000 in
theorem oaf_X5_find {n : Nat} {S : Nat → Nat} {st : aS} {a0 : Nat} {p1 : Option Nat} : Mo st (af_X5_find n S st a0 p1) := (mo_v fun _ => (mo_if mo_ret (mo_v fun _ => (mo_v fun _ => (mo_v fun _ => (mo_cb oaf_X11_i fun _ _ => (mo_v fun _ => (mo_x (of_value _ _ _) fun _ _ => (mo_cb oaf_X1_whole fun _ _ => (mo_v fun _ => (mo_v fun _ => (mo_v fun _ => (mo_cb oaf_X11_j fun _ _ => (mo_v fun _ => (mo_x (of_value _ _ _) fun _ _ => (mo_cb oaf_X1_whole fun _ _ => (mo_v fun _ => (mo_v fun _ => (mo_v fun _ => (mo_cb oaf_X11_matrix fun _ _ => (mo_v fun _ => (mo_v fun _ => (mo_x oaf_X1_matrix fun _ _ => (mo_v fun _ => (mo_v fun _ => (mo_x oaf_X28_check fun _ _ => mo_ret))))))))))))))))))))))))))
/-! BasicMachine$Variable.s()I -/
set_option maxHeartbeats 4000000 in
set_option maxRecDepth 100000 in
theorem oaf_X9_s {n : Nat} {S : Nat → Nat} {st : aS} {a0 : Nat} : Mo st (af_X9_s n S st a0) := (mo_v fun _ => mo_ret)
/-! BasicMachine$Place.put(LBasicMachine;JD)V -/
set_option maxHeartbeats 4000000 in
set_option maxRecDepth 100000 in
theorem oaf_X5_put {n : Nat} {S : Nat → Nat} {st : aS} {a0 : Nat} {p1 : Option Nat} {p2 : Int64} {p4 : UInt64} : Mo st (af_X5_put n S st a0 p1 p2 p4) := (mo_v fun _ => (mo_if (mo_v fun _ => (mo_v fun _ => (mo_v fun _ => (mo_v fun _ => (mo_v fun _ => (mo_cb oaf_X9_s fun _ _ => (mo_v fun _ => (mo_s (fun _ => le_wD) fun _ => mo_ret)))))))) (mo_v fun _ => (mo_v fun _ => (mo_v fun _ => (mo_v fun _ => (mo_v fun _ => (mo_cb oaf_X11_matrix fun _ _ => (mo_v fun _ => (mo_v fun _ => (mo_v fun _ => (mo_v fun _ => (mo_v fun _ => (mo_v fun _ => (mo_v fun _ => (mo_s (fun _ => le_wD) fun _ => mo_ret))))))))))))))))
/-! BasicMachine$Let.run(LBasicMachine;LBasicMachine$Line;)LBasicMachine$Line; -/
set_option maxHeartbeats 4000000 in
set_option maxRecDepth 100000 in
theorem oaf_X12_run {n : Nat} {S : Nat → Nat} {st : aS} {a0 : Nat} {p1 : Option Nat} {p2 : Option Nat} : Mo st (af_X12_run n S st a0 p1 p2) := (mo_v fun _ => (mo_v fun _ => (mo_v fun _ => (mo_x oaf_X5_find fun _ _ => (mo_v fun _ => (mo_v fun _ => (mo_v fun _ => (mo_x (of_value _ _ _) fun _ _ => (mo_v fun _ => (mo_v fun _ => (mo_cb oaf_X5_put fun _ _ => mo_ret)))))))))))
/-! BasicMachine$Matrix.sameSize(LBasicMachine$Matrix;)Z -/
set_option maxHeartbeats 4000000 in
set_option maxRecDepth 100000 in
theorem oaf_X28_sameSize {n : Nat} {S : Nat → Nat} {st : aS} {a0 : Nat} {p1 : Option Nat} : Mo st (af_X28_sameSize n S st a0 p1) := (mo_v fun _ => (mo_v fun _ => (mo_v fun _ => (mo_if (mo_v fun _ => (mo_v fun _ => (mo_if mo_ret mo_ret))) mo_ret))))
/-! BasicMachine$Mat.cell(LBasicMachine$Matrix;LBasicMachine$Matrix;DII)D -/
set_option maxHeartbeats 4000000 in
set_option maxRecDepth 100000 in
theorem oaf_X26_cell_S212_ {n : Nat} {S : Nat → Nat} : ∀ k : Nat, (∀ {st : aS} {a0 : Nat} {x1 : Option Nat} {x2 : Option Nat} {x5 : Int32} {x6 : Int32} {x7 : UInt64} {x9 : Int32}, Mo st (af_X26_cell_S212 n S k st a0 x1 x2 x5 x6 x7 x9)) := by
  intro k
  induction k with
  | zero => exact fun q h => nomatch (show none = some q from h)
  | succ k ih =>
    have mrec := @ih
    intro st a0 x1 x2 x5 x6 x7 x9
    exact (show Mo st (af_X26_cell_B212 n S (af_X26_cell_S212 n S k) st a0 x1 x2 x5 x6 x7 x9) from (mo_v fun _ => (mo_v fun _ => (mo_if mo_ret (mo_v fun _ => (mo_v fun _ => (mo_v fun _ => (mo_v fun _ => (mo_v fun _ => (mo_v fun _ => (mo_v fun _ => (mo_v fun _ => (mo_v fun _ => (mo_v fun _ => (mo_v fun _ => (mo_v fun _ => (mo_x oaf_X1_checked fun _ _ => (mo_v fun _ => (mo_x oaf_X1_checked fun _ _ => (mrec))))))))))))))))))))
set_option maxHeartbeats 4000000 in
set_option maxRecDepth 100000 in
theorem oaf_X26_cell_S212 {n : Nat} {S : Nat → Nat} : (∀ {st : aS} {a0 : Nat} {x1 : Option Nat} {x2 : Option Nat} {x5 : Int32} {x6 : Int32} {x7 : UInt64} {x9 : Int32}, Mo st (af_X26_cell_S212 n S n st a0 x1 x2 x5 x6 x7 x9)) := oaf_X26_cell_S212_  n
set_option maxHeartbeats 4000000 in
set_option maxRecDepth 100000 in
theorem oaf_X26_cell {n : Nat} {S : Nat → Nat} {st : aS} {a0 : Nat} {p1 : Option Nat} {p2 : Option Nat} {p3 : UInt64} {p5 : Int32} {p6 : Int32} : Mo st (af_X26_cell n S st a0 p1 p2 p3 p5 p6) := (mo_v fun _ => (mo_if (mo_v fun _ => (mo_v fun _ => (mo_v fun _ => (mo_v fun _ => (mo_v fun _ => (mo_v fun _ => (mo_v fun _ => (mo_v fun _ => (mo_v fun _ => (mo_v fun _ => (mo_v fun _ => (mo_v fun _ => (mo_v fun _ => (mo_x oaf_X1_checked fun _ _ => mo_ret)))))))))))))) (mo_if (mo_v fun _ => (mo_v fun _ => (mo_v fun _ => (mo_v fun _ => (mo_v fun _ => (mo_v fun _ => (mo_v fun _ => (mo_v fun _ => (mo_v fun _ => (mo_v fun _ => (mo_v fun _ => (mo_v fun _ => (mo_v fun _ => (mo_x oaf_X1_checked fun _ _ => mo_ret)))))))))))))) (mo_if (mo_v fun _ => (mo_v fun _ => (mo_v fun _ => (mo_v fun _ => (mo_v fun _ => (mo_v fun _ => mo_ret)))))) (mo_if mo_ret (mo_if (mo_if mo_ret mo_ret) (mo_if (mo_v fun _ => (mo_v fun _ => (mo_v fun _ => (mo_v fun _ => (mo_v fun _ => (mo_v fun _ => (mo_v fun _ => (mo_x oaf_X1_checked fun _ _ => mo_ret)))))))) (mo_if (mo_v fun _ => (mo_v fun _ => (mo_v fun _ => (mo_v fun _ => (mo_v fun _ => (mo_v fun _ => mo_ret)))))) (mo_if mo_ret (mo_v fun _ => (mo_v fun _ => (mo_v fun _ => (mo_v fun _ => (mo_v fun _ => (mo_v fun _ => (mo_v fun _ => (mo_v fun _ => (mo_v fun _ => (mo_v fun _ => (mo_v fun _ => (mo_v fun _ => (mo_v fun _ => (mo_x oaf_X1_checked fun _ _ => ((oaf_X26_cell_S212 )))))))))))))))))))))))))
/-! BasicMachine$Mat.worked(LBasicMachine;LBasicMachine$Matrix;LBasicMachine$Matrix;D)LBasicMachine$Matrix; -/
set_option maxHeartbeats 4000000 in
set_option maxRecDepth 100000 in
theorem oaf_X26_worked_S162_ {n : Nat} {S : Nat → Nat} : ∀ k : Nat, (∀ {st : aS} {a0 : Nat} {x2 : Option Nat} {x3 : Option Nat} {x4 : UInt64} {x7 : Option Nat} {x8 : Int32} {x9 : Int32}, Mo st (af_X26_worked_S162 n S k 0 st a0 x2 x3 x4 x7 x8 x9)) ∧ (∀ {st : aS} {a0 : Nat} {x2 : Option Nat} {x3 : Option Nat} {x4 : UInt64} {x7 : Option Nat} {x8 : Int32} {x9 : Int32}, Mo st (af_X26_worked_S162 n S k 1 st a0 x2 x3 x4 x7 x8 x9)) := by
  intro k
  induction k with
  | zero => exact ⟨(fun q h => nomatch (show none = some q from h)), (fun q h => nomatch (show none = some q from h))⟩
  | succ k ih =>
    obtain ⟨mrec0, mrec1⟩ := ih
    refine ⟨?_, ?_⟩
    · intro st a0 x2 x3 x4 x7 x8 x9
      exact (show Mo st (af_X26_worked_B162 n S (af_X26_worked_S162 n S k) st a0 x2 x3 x4 x7 x8 x9) from (mo_v fun _ => (mo_v fun _ => (mo_if mo_ret (mrec1)))))
    · intro st a0 x2 x3 x4 x7 x8 x9
      exact (show Mo st (af_X26_worked_B175 n S (af_X26_worked_S162 n S k) st a0 x2 x3 x4 x7 x8 x9) from (mo_v fun _ => (mo_v fun _ => (mo_if (mrec0) (mo_v fun _ => (mo_v fun _ => (mo_v fun _ => (mo_v fun _ => (mo_x oaf_X26_cell fun _ _ => (mo_v fun _ => (mo_s (fun _ => le_wD) fun _ => (mrec1))))))))))))
set_option maxHeartbeats 4000000 in
set_option maxRecDepth 100000 in
theorem oaf_X26_worked_S162 {n : Nat} {S : Nat → Nat} : (∀ {st : aS} {a0 : Nat} {x2 : Option Nat} {x3 : Option Nat} {x4 : UInt64} {x7 : Option Nat} {x8 : Int32} {x9 : Int32}, Mo st (af_X26_worked_S162 n S n 0 st a0 x2 x3 x4 x7 x8 x9)) ∧ (∀ {st : aS} {a0 : Nat} {x2 : Option Nat} {x3 : Option Nat} {x4 : UInt64} {x7 : Option Nat} {x8 : Int32} {x9 : Int32}, Mo st (af_X26_worked_S162 n S n 1 st a0 x2 x3 x4 x7 x8 x9)) := oaf_X26_worked_S162_  n
set_option maxHeartbeats 4000000 in
set_option maxRecDepth 100000 in
theorem oaf_X26_worked_L154 {n : Nat} {S : Nat → Nat} {st : aS} {a0 : Nat} {x2 : Option Nat} {x3 : Option Nat} {x4 : UInt64} {z154_0 : Option Nat} {z154_1 : Int32} {z154_2 : Int32} : Mo st (af_X26_worked_L154 n S st a0 x2 x3 x4 z154_0 z154_1 z154_2) := (mo_v fun _ => (mo_v fun _ => (mo_cb oaf_X28_be fun _ _ => ((oaf_X26_worked_S162 ).1))))
set_option maxHeartbeats 4000000 in
set_option maxRecDepth 100000 in
theorem oaf_X26_worked_L118 {n : Nat} {S : Nat → Nat} {st : aS} {a0 : Nat} {x2 : Option Nat} {x3 : Option Nat} {x4 : UInt64} {z118_0 : Option Nat} {z118_1 : Int32} : Mo st (af_X26_worked_L118 n S st a0 x2 x3 x4 z118_0 z118_1) := (mo_v fun _ => (mo_if (mo_v fun _ => (mo_v fun _ => (oaf_X26_worked_L154 ))) (mo_v fun _ => (mo_if (mo_v fun _ => (mo_v fun _ => (oaf_X26_worked_L154 ))) (mo_v fun _ => (mo_v fun _ => (oaf_X26_worked_L154 )))))))
set_option maxHeartbeats 4000000 in
set_option maxRecDepth 100000 in
theorem oaf_X26_worked_L94 {n : Nat} {S : Nat → Nat} {st : aS} {a0 : Nat} {x1 : Option Nat} {x2 : Option Nat} {x3 : Option Nat} {x4 : UInt64} : Mo st (af_X26_worked_L94 n S st a0 x1 x2 x3 x4) := (mo_v fun _ => (mo_v fun _ => (mo_v fun _ => (mo_if (mo_v fun _ => (mo_v fun _ => (oaf_X26_worked_L118 ))) (mo_v fun _ => (mo_v fun _ => (oaf_X26_worked_L118 )))))))
set_option maxHeartbeats 4000000 in
set_option maxRecDepth 100000 in
theorem oaf_X26_worked_L61 {n : Nat} {S : Nat → Nat} {st : aS} {a0 : Nat} {x1 : Option Nat} {x2 : Option Nat} {x3 : Option Nat} {x4 : UInt64} {z61_0 : Int32} : Mo st (af_X26_worked_L61 n S st a0 x1 x2 x3 x4 z61_0) := (mo_if mo_tw (mo_v fun _ => (mo_v fun _ => (mo_if (mo_s (fun _ => le_nO) fun _ => (mo_cb oaf_X28_init fun _ _ => (mo_s (fun _ => le_pF) fun _ => (oaf_X26_worked_L94 )))) (oaf_X26_worked_L94 )))))
set_option maxHeartbeats 4000000 in
set_option maxRecDepth 100000 in
theorem oaf_X26_worked {n : Nat} {S : Nat → Nat} {st : aS} {a0 : Nat} {p1 : Option Nat} {p2 : Option Nat} {p3 : Option Nat} {p4 : UInt64} : Mo st (af_X26_worked n S st a0 p1 p2 p3 p4) := (mo_v fun _ => (mo_if (mo_v fun _ => (mo_v fun _ => (mo_v fun _ => (mo_v fun _ => (mo_if (oaf_X26_worked_L61 ) (oaf_X26_worked_L61 )))))) (mo_v fun _ => (mo_if (mo_v fun _ => (mo_v fun _ => (mo_v fun _ => (mo_if (oaf_X26_worked_L61 ) (oaf_X26_worked_L61 ))))) (mo_v fun _ => (mo_v fun _ => (mo_cb oaf_X28_sameSize fun _ _ => (oaf_X26_worked_L61 ))))))))
/-! BasicMachine$Mat.run(LBasicMachine;LBasicMachine$Line;)LBasicMachine$Line; -/
set_option maxHeartbeats 4000000 in
set_option maxRecDepth 100000 in
theorem oaf_X26_run_L51 {n : Nat} {S : Nat → Nat} {st : aS} {a0 : Nat} {x1 : Option Nat} {x3 : Option Nat} {x4 : Option Nat} {z51_0 : UInt64} : Mo st (af_X26_run_L51 n S st a0 x1 x3 x4 z51_0) := (mo_v fun _ => (mo_x oaf_X26_worked fun _ _ => (mo_v fun _ => (mo_v fun _ => (mo_v fun _ => (mo_v fun _ => (mo_v fun _ => (mo_s (fun _ => le_pF) fun _ => (mo_v fun _ => (mo_v fun _ => (mo_v fun _ => (mo_v fun _ => (mo_v fun _ => (mo_s (fun _ => le_wR) fun _ => mo_ret))))))))))))))
set_option maxHeartbeats 4000000 in
set_option maxRecDepth 100000 in
theorem oaf_X26_run_L28 {n : Nat} {S : Nat → Nat} {st : aS} {a0 : Nat} {x1 : Option Nat} {x3 : Option Nat} {z28_0 : Option Nat} : Mo st (af_X26_run_L28 n S st a0 x1 x3 z28_0) := (mo_v fun _ => (mo_if (oaf_X26_run_L51 ) (mo_v fun _ => (mo_v fun _ => (mo_x (of_value _ _ _) fun _ _ => (oaf_X26_run_L51 ))))))
set_option maxHeartbeats 4000000 in
set_option maxRecDepth 100000 in
theorem oaf_X26_run {n : Nat} {S : Nat → Nat} {st : aS} {a0 : Nat} {p1 : Option Nat} {p2 : Option Nat} : Mo st (af_X26_run n S st a0 p1 p2) := (mo_v fun _ => (mo_v fun _ => (mo_v fun _ => (mo_x oaf_X1_known fun _ _ => (mo_v fun _ => (mo_if (mo_v fun _ => (mo_v fun _ => (mo_x oaf_X1_known fun _ _ => (oaf_X26_run_L28 )))) (oaf_X26_run_L28 )))))))
/-! BasicMachine$Loop.step()D -/
set_option maxHeartbeats 4000000 in
set_option maxRecDepth 100000 in
theorem oaf_X29_step {n : Nat} {S : Nat → Nat} {st : aS} {a0 : Nat} : Mo st (af_X29_step n S st a0) := (mo_v fun _ => mo_ret)
/-! BasicMachine$Loop.limit()D -/
set_option maxHeartbeats 4000000 in
set_option maxRecDepth 100000 in
theorem oaf_X29_limit {n : Nat} {S : Nat → Nat} {st : aS} {a0 : Nat} : Mo st (af_X29_limit n S st a0) := (mo_v fun _ => mo_ret)
/-! BasicMachine$Loop.from()LBasicMachine$Line; -/
set_option maxHeartbeats 4000000 in
set_option maxRecDepth 100000 in
theorem oaf_X29_from {n : Nat} {S : Nat → Nat} {st : aS} {a0 : Nat} : Mo st (af_X29_from n S st a0) := (mo_v fun _ => mo_ret)
/-! BasicMachine$Next.run(LBasicMachine;LBasicMachine$Line;)LBasicMachine$Line; -/
set_option maxHeartbeats 4000000 in
set_option maxRecDepth 100000 in
theorem oaf_X20_run {n : Nat} {S : Nat → Nat} {st : aS} {a0 : Nat} {p1 : Option Nat} {p2 : Option Nat} : Mo st (af_X20_run n S st a0 p1 p2) := (mo_v fun _ => (mo_v fun _ => (mo_v fun _ => (mo_cb oaf_X1_loop fun _ _ => (mo_if (mo_s (fun _ => le_pF) fun _ => (mo_v fun _ => (mo_v fun _ => (mo_v fun _ => (mo_v fun _ => (mo_v fun _ => (mo_v fun _ => (mo_v fun _ => (mo_v fun _ => (mo_v fun _ => (mo_v fun _ => (mo_v fun _ => (mo_cb oaf_X29_step fun _ _ => (mo_v fun _ => (mo_x oaf_X1_checked fun _ _ => (mo_v fun _ => (mo_s (fun _ => le_wD) fun _ => (mo_v fun _ => (mo_v fun _ => (mo_v fun _ => (mo_v fun _ => (mo_v fun _ => (mo_cb oaf_X29_limit fun _ _ => (mo_v fun _ => (mo_cb oaf_X29_step fun _ _ => (mo_cb oaf_X29_over fun _ _ => (mo_if (mo_v fun _ => (mo_cb oaf_X29_from fun _ _ => (mo_v fun _ => (mo_cb oaf_X1_after fun _ _ => mo_ret)))) (mo_s (fun _ => le_pF) fun _ => mo_ret)))))))))))))))))))))))))))) mo_tw)))))
/-! BasicMachine$Nothing.run(LBasicMachine;LBasicMachine$Line;)LBasicMachine$Line; -/
set_option maxHeartbeats 4000000 in
set_option maxRecDepth 100000 in
theorem oaf_X27_run {n : Nat} {S : Nat → Nat} {st : aS} {a0 : Nat} {p1 : Option Nat} {p2 : Option Nat} : Mo st (af_X27_run n S st a0 p1 p2) := (mo_v fun _ => (mo_if mo_ret (mo_v fun _ => (mo_s (fun _ => le_pF) fun _ => mo_ret))))
/-! BasicMachine$On.run(LBasicMachine;LBasicMachine$Line;)LBasicMachine$Line; -/
set_option maxHeartbeats 4000000 in
set_option maxRecDepth 100000 in
theorem oaf_X16_run {n : Nat} {S : Nat → Nat} {st : aS} {a0 : Nat} {p1 : Option Nat} {p2 : Option Nat} : Mo st (af_X16_run n S st a0 p1 p2) := (mo_v fun _ => (mo_v fun _ => (mo_x (of_value _ _ _) fun _ _ => (mo_cb oaf_X1_whole fun _ _ => (mo_if mo_tw (mo_v fun _ => (mo_v fun _ => (mo_v fun _ => (mo_if (mo_v fun _ => (mo_v fun _ => (mo_v fun _ => (mo_v fun _ => (mo_v fun _ => (mo_x oaf_X1_line fun _ _ => mo_ret)))))) mo_tw)))))))))
/-! BasicMachine$Print.run(LBasicMachine;LBasicMachine$Line;)LBasicMachine$Line; -/
set_option maxHeartbeats 4000000 in
set_option maxRecDepth 100000 in
theorem oaf_X13_run_L30 {n : Nat} {S : Nat → Nat} {st : aS} {a0 : Nat} {x1 : Option Nat} : Mo st (af_X13_run_L30 n S st a0 x1) := (mo_v fun _ => (mo_v fun _ => (mo_s (fun _ => le_pF) fun _ => mo_ret)))
set_option maxHeartbeats 4000000 in
set_option maxRecDepth 100000 in
theorem oaf_X13_run {n : Nat} {S : Nat → Nat} {st : aS} {a0 : Nat} {p1 : Option Nat} {p2 : Option Nat} : Mo st (af_X13_run n S st a0 p1 p2) := (mo_v fun _ => (mo_v fun _ => (mo_x (of_value _ _ _) fun _ _ => (mo_v fun _ => (mo_v fun _ => (mo_if (oaf_X13_run_L30 ) (mo_v fun _ => (mo_v fun _ => (mo_v fun _ => (mo_s (fun _ => le_wD) fun _ => (oaf_X13_run_L30 )))))))))))
/-! BasicMachine$Read.run(LBasicMachine;LBasicMachine$Line;)LBasicMachine$Line; -/
set_option maxHeartbeats 4000000 in
set_option maxRecDepth 100000 in
theorem oaf_X21_run {n : Nat} {S : Nat → Nat} {st : aS} {a0 : Nat} {p1 : Option Nat} {p2 : Option Nat} : Mo st (af_X21_run n S st a0 p1 p2) := (mo_v fun _ => (mo_v fun _ => (mo_v fun _ => (mo_x oaf_X5_find fun _ _ => (mo_v fun _ => (mo_v fun _ => (mo_v fun _ => (mo_x oaf_X1_read fun _ _ => (mo_v fun _ => (mo_v fun _ => (mo_cb oaf_X5_put fun _ _ => mo_ret)))))))))))
/-! BasicMachine$Restore.run(LBasicMachine;LBasicMachine$Line;)LBasicMachine$Line; -/
set_option maxHeartbeats 4000000 in
set_option maxRecDepth 100000 in
theorem oaf_X23_run {n : Nat} {S : Nat → Nat} {st : aS} {a0 : Nat} {p1 : Option Nat} {p2 : Option Nat} : Mo st (af_X23_run n S st a0 p1 p2) := (mo_v fun _ => (mo_s (fun _ => le_pF) fun _ => mo_ret))
/-! BasicMachine$Return.run(LBasicMachine;LBasicMachine$Line;)LBasicMachine$Line; -/
set_option maxHeartbeats 4000000 in
set_option maxRecDepth 100000 in
theorem oaf_X18_run {n : Nat} {S : Nat → Nat} {st : aS} {a0 : Nat} {p1 : Option Nat} {p2 : Option Nat} : Mo st (af_X18_run n S st a0 p1 p2) := (mo_v fun _ => (mo_v fun _ => (mo_if mo_tw (mo_v fun _ => (mo_s (fun _ => le_pF) fun _ => (mo_v fun _ => (mo_v fun _ => (mo_v fun _ => (mo_v fun _ => (mo_v fun _ => (mo_cb oaf_X1_after fun _ _ => mo_ret)))))))))))
/-! dispatch.run -/
set_option maxHeartbeats 4000000 in
set_option maxRecDepth 100000 in
theorem of_run (n : Nat) (S : Nat → Nat) {st : aS} {a : Nat} {r1 r2 : Option Nat} : Mo st (af_run n S st a r1 r2) := mo_v fun c => (mo_if oaf_X22_run (mo_if oaf_X25_run (mo_if oaf_X24_run (mo_if oaf_X19_run (mo_if oaf_X17_run (mo_if oaf_X15_run (mo_if oaf_X14_run (mo_if oaf_X12_run (mo_if oaf_X26_run (mo_if oaf_X20_run (mo_if oaf_X27_run (mo_if oaf_X16_run (mo_if oaf_X13_run (mo_if oaf_X21_run (mo_if oaf_X23_run (mo_if oaf_X18_run mo_none))))))))))))))))
/-! BasicMachine.go()V -/
set_option maxHeartbeats 4000000 in
set_option maxRecDepth 100000 in
theorem oaf_X1_go_S5_ {n : Nat} {S : Nat → Nat} : ∀ k : Nat, (∀ {st : aS} {a0 : Nat} {x1 : Option Nat} {x2 : Option Nat} {z80_0 : Option Nat}, Mo st (af_X1_go_S5 n S k 0 st a0 x1 x2 z80_0)) ∧ (∀ {st : aS} {a0 : Nat} {x1 : Option Nat} {x2 : Option Nat} {z80_0 : Option Nat}, Mo st (af_X1_go_S5 n S k 1 st a0 x1 x2 z80_0)) ∧ (∀ {st : aS} {a0 : Nat} {x1 : Option Nat} {x2 : Option Nat} {z80_0 : Option Nat}, Mo st (af_X1_go_S5 n S k 2 st a0 x1 x2 z80_0)) := by
  intro k
  induction k with
  | zero => exact ⟨(fun q h => nomatch (show none = some q from h)), (fun q h => nomatch (show none = some q from h)), (fun q h => nomatch (show none = some q from h))⟩
  | succ k ih =>
    obtain ⟨mrec0, mrec1, mrec2⟩ := ih
    refine ⟨?_, ?_, ?_⟩
    · intro st a0 x1 x2 z80_0
      exact (show Mo st (af_X1_go_B5 n S (af_X1_go_S5 n S k) st a0 x1 x2 z80_0) from (mo_v fun _ => (mo_if (mo_v fun _ => (mo_if mo_tw (mo_v fun _ => (mo_s (fun _ => le_pF) fun _ => (mo_v fun _ => (mo_v fun _ => (mo_s (fun _ => le_pF) fun _ => (mo_v fun _ => (mo_v fun _ => (mo_x (of_run _ _) fun _ _ => (mo_if (mo_v fun _ => (mo_if (mo_v fun _ => (mo_cb oaf_X1_after fun _ _ => (mrec2))) (mrec1))) (mrec1)))))))))))) mo_ret)))
    · intro st a0 x1 x2 z80_0
      exact (show Mo st (af_X1_go_B71 n S (af_X1_go_S5 n S k) st a0 x1 x2 z80_0) from (mrec2))
    · intro st a0 x1 x2 z80_0
      exact (show Mo st (af_X1_go_B80 n S (af_X1_go_S5 n S k) st a0 x1 x2 z80_0) from (mrec0))
set_option maxHeartbeats 4000000 in
set_option maxRecDepth 100000 in
theorem oaf_X1_go_S5 {n : Nat} {S : Nat → Nat} : (∀ {st : aS} {a0 : Nat} {x1 : Option Nat} {x2 : Option Nat} {z80_0 : Option Nat}, Mo st (af_X1_go_S5 n S n 0 st a0 x1 x2 z80_0)) ∧ (∀ {st : aS} {a0 : Nat} {x1 : Option Nat} {x2 : Option Nat} {z80_0 : Option Nat}, Mo st (af_X1_go_S5 n S n 1 st a0 x1 x2 z80_0)) ∧ (∀ {st : aS} {a0 : Nat} {x1 : Option Nat} {x2 : Option Nat} {z80_0 : Option Nat}, Mo st (af_X1_go_S5 n S n 2 st a0 x1 x2 z80_0)) := oaf_X1_go_S5_  n
set_option maxHeartbeats 4000000 in
set_option maxRecDepth 100000 in
theorem oaf_X1_go {n : Nat} {S : Nat → Nat} {st : aS} {a0 : Nat} : Mo st (af_X1_go n S st a0) := (mo_v fun _ => ((oaf_X1_go_S5 ).1))
/-! BasicMachine.settle()V -/
set_option maxHeartbeats 4000000 in
set_option maxRecDepth 100000 in
theorem oaf_X1_settle_S14_ {n : Nat} {S : Nat → Nat} : ∀ k : Nat, (∀ {st : aS} {a0 : Nat} {x1 : Option Nat}, Mo st (af_X1_settle_S14 n S k 0 st a0 x1)) ∧ (∀ {st : aS} {a0 : Nat} {x1 : Option Nat}, Mo st (af_X1_settle_S14 n S k 1 st a0 x1)) := by
  intro k
  induction k with
  | zero => exact ⟨(fun q h => nomatch (show none = some q from h)), (fun q h => nomatch (show none = some q from h))⟩
  | succ k ih =>
    obtain ⟨mrec0, mrec1⟩ := ih
    refine ⟨?_, ?_⟩
    · intro st a0 x1
      exact (show Mo st (af_X1_settle_B14 n S (af_X1_settle_S14 n S k) st a0 x1) from (mo_if mo_ret (mo_v fun _ => (mo_v fun _ => (mo_v fun _ => (mo_if (mrec1) (mo_v fun _ => (mo_v fun _ => (mo_v fun _ => (mo_v fun _ => (mo_v fun _ => (mo_cb oaf_X22_values fun _ _ => (mo_v fun _ => (mo_v fun _ => (mo_s (fun _ => le_pF) fun _ => (mrec1))))))))))))))))
    · intro st a0 x1
      exact (show Mo st (af_X1_settle_B48 n S (af_X1_settle_S14 n S k) st a0 x1) from (mo_v fun _ => (mo_v fun _ => (mrec0))))
set_option maxHeartbeats 4000000 in
set_option maxRecDepth 100000 in
theorem oaf_X1_settle_S14 {n : Nat} {S : Nat → Nat} : (∀ {st : aS} {a0 : Nat} {x1 : Option Nat}, Mo st (af_X1_settle_S14 n S n 0 st a0 x1)) ∧ (∀ {st : aS} {a0 : Nat} {x1 : Option Nat}, Mo st (af_X1_settle_S14 n S n 1 st a0 x1)) := oaf_X1_settle_S14_  n
set_option maxHeartbeats 4000000 in
set_option maxRecDepth 100000 in
theorem oaf_X1_settle {n : Nat} {S : Nat → Nat} {st : aS} {a0 : Nat} : Mo st (af_X1_settle n S st a0) := (mo_v fun _ => (mo_s (fun _ => le_pF) fun _ => (mo_v fun _ => ((oaf_X1_settle_S14 ).1))))
/-! BasicMachine.failed()V -/
set_option maxHeartbeats 4000000 in
set_option maxRecDepth 100000 in
theorem oaf_X1_failed_S10_ {n : Nat} {S : Nat → Nat} : ∀ k : Nat, (∀ {st : aS} {a0 : Nat}, Mo st (af_X1_failed_S10 n S k st a0)) := by
  intro k
  induction k with
  | zero => exact fun q h => nomatch (show none = some q from h)
  | succ k ih =>
    have mrec := @ih
    intro st a0
    exact (show Mo st (af_X1_failed_B10 n S (af_X1_failed_S10 n S k) st a0) from (mo_v fun _ => (mo_if (mo_v fun _ => (mo_cb oaf_X1_settle fun _ _ => mo_ret)) (mo_v fun _ => (mo_cb oaf_X1_leave fun _ _ => (mrec))))))
set_option maxHeartbeats 4000000 in
set_option maxRecDepth 100000 in
theorem oaf_X1_failed_S10 {n : Nat} {S : Nat → Nat} : (∀ {st : aS} {a0 : Nat}, Mo st (af_X1_failed_S10 n S n st a0)) := oaf_X1_failed_S10_  n
set_option maxHeartbeats 4000000 in
set_option maxRecDepth 100000 in
theorem oaf_X1_failed {n : Nat} {S : Nat → Nat} {st : aS} {a0 : Nat} : Mo st (af_X1_failed n S st a0) := (mo_v fun _ => (mo_s (fun _ => le_pF) fun _ => ((oaf_X1_failed_S10 ))))
/-! BasicMachine.run()I -/
set_option maxHeartbeats 4000000 in
set_option maxRecDepth 100000 in
theorem oaf_X1_run {n : Nat} {S : Nat → Nat} {st : aS} {a0 : Nat} : Mo st (af_X1_run n S st a0) := (mo_v fun _ => (mo_cb oaf_X1_begin fun _ _ => (mo_v fun _ => (mo_xc oaf_X1_go (fun _ _ => (mo_v fun _ => (mo_cb oaf_X1_settle fun _ _ => (mo_v fun _ => mo_ret)))) fun _ _ => (mo_if (mo_v fun _ => (mo_cb oaf_X1_failed fun _ _ => mo_tw)) (mo_if (mo_v fun _ => (mo_cb oaf_X1_failed fun _ _ => mo_tw)) (mo_if (mo_v fun _ => (mo_cb oaf_X1_failed fun _ _ => mo_tw)) (mo_if (mo_v fun _ => (mo_cb oaf_X1_failed fun _ _ => mo_tw)) (mo_if (mo_v fun _ => (mo_cb oaf_X1_failed fun _ _ => mo_tw)) (mo_if (mo_v fun _ => (mo_cb oaf_X1_failed fun _ _ => mo_tw)) mo_none))))))))))
/-! BasicMachine.printed(I)D -/
set_option maxHeartbeats 4000000 in
set_option maxRecDepth 100000 in
theorem oaf_X1_printed {n : Nat} {S : Nat → Nat} {st : aS} {a0 : Nat} {p1 : Int32} : Mo st (af_X1_printed n S st a0 p1) := (mo_if mo_tw (mo_v fun _ => (mo_if mo_tw (mo_if (mo_v fun _ => (mo_v fun _ => (mo_v fun _ => mo_ret))) mo_tw))))
/-! BasicMachine.variable(I)D -/
set_option maxHeartbeats 4000000 in
set_option maxRecDepth 100000 in
theorem oaf_X1_variable_L30 {n : Nat} {S : Nat → Nat} {st : aS} {a0 : Nat} {x1 : Int32} : Mo st (af_X1_variable_L30 n S st a0 x1) := (mo_v fun _ => (mo_v fun _ => (mo_v fun _ => mo_ret)))
set_option maxHeartbeats 4000000 in
set_option maxRecDepth 100000 in
theorem oaf_X1_variable {n : Nat} {S : Nat → Nat} {st : aS} {a0 : Nat} {p1 : Int32} : Mo st (af_X1_variable n S st a0 p1) := (mo_if mo_tw (mo_if mo_tw (mo_if (oaf_X1_variable_L30 ) (mo_if (oaf_X1_variable_L30 ) mo_tw))))
/-! BasicMachine.element(III)D -/
set_option maxHeartbeats 4000000 in
set_option maxRecDepth 100000 in
theorem oaf_X1_element {n : Nat} {S : Nat → Nat} {st : aS} {a0 : Nat} {p1 : Int32} {p2 : Int32} {p3 : Int32} : Mo st (af_X1_element n S st a0 p1 p2 p3) := (mo_if mo_tw (mo_if (mo_v fun _ => (mo_x oaf_X1_matrix fun _ _ => (mo_v fun _ => (mo_v fun _ => (mo_x oaf_X28_at fun _ _ => mo_ret))))) mo_tw))
/-! BasicMachine.at()I -/
set_option maxHeartbeats 4000000 in
set_option maxRecDepth 100000 in
theorem oaf_X1_at {n : Nat} {S : Nat → Nat} {st : aS} {a0 : Nat} : Mo st (af_X1_at n S st a0) := (mo_v fun _ => mo_ret)
/-! BasicMachine.greatest()I -/
set_option maxHeartbeats 4000000 in
set_option maxRecDepth 100000 in
theorem oaf_X1_greatest_S7_ {n : Nat} {S : Nat → Nat} : ∀ k : Nat, (∀ {st : aS} {a0 : Nat} {x1 : Int32} {x2 : Option Nat}, Mo st (af_X1_greatest_S7 n S k st a0 x1 x2)) := by
  intro k
  induction k with
  | zero => exact fun q h => nomatch (show none = some q from h)
  | succ k ih =>
    have mrec := @ih
    intro st a0 x1 x2
    exact (show Mo st (af_X1_greatest_B7 n S (af_X1_greatest_S7 n S k) st a0 x1 x2) from (mo_if mo_ret (mo_v fun _ => (mo_v fun _ => (mo_v fun _ => (mrec))))))
set_option maxHeartbeats 4000000 in
set_option maxRecDepth 100000 in
theorem oaf_X1_greatest_S7 {n : Nat} {S : Nat → Nat} : (∀ {st : aS} {a0 : Nat} {x1 : Int32} {x2 : Option Nat}, Mo st (af_X1_greatest_S7 n S n st a0 x1 x2)) := oaf_X1_greatest_S7_  n
set_option maxHeartbeats 4000000 in
set_option maxRecDepth 100000 in
theorem oaf_X1_greatest {n : Nat} {S : Nat → Nat} {st : aS} {a0 : Nat} : Mo st (af_X1_greatest n S st a0) := (mo_v fun _ => ((oaf_X1_greatest_S7 )))
/-! BasicMachine.count(I)I -/
set_option maxHeartbeats 4000000 in
set_option maxRecDepth 100000 in
theorem oaf_X1_count {n : Nat} {S : Nat → Nat} {st : aS} {a0 : Nat} {p1 : Int32} : Mo st (af_X1_count n S st a0 p1) := (mo_if (mo_v fun _ => mo_ret) (mo_if (mo_v fun _ => mo_ret) (mo_if (mo_v fun _ => mo_ret) (mo_if (mo_v fun _ => mo_ret) (mo_if (mo_v fun _ => mo_ret) (mo_if (mo_v fun _ => mo_ret) (mo_if (mo_v fun _ => mo_ret) (mo_if (mo_v fun _ => mo_ret) (mo_if (mo_v fun _ => (mo_if mo_ret (mo_v fun _ => (mo_v fun _ => (mo_v fun _ => mo_ret))))) (mo_if (mo_v fun _ => (mo_cb oaf_X1_greatest fun _ _ => mo_ret)) mo_ret))))))))))
/-! BasicMachineModel.<init>()V -/
set_option maxHeartbeats 4000000 in
set_option maxRecDepth 100000 in
theorem oaf_X2_init {n : Nat} {S : Nat → Nat} {st : aS} {a0 : Nat} : Mo st (af_X2_init n S st a0) := (mo_s (fun _ => le_pF) fun _ => (mo_s (fun _ => le_pF) fun _ => (mo_s (fun _ => le_pF) fun _ => (mo_s (fun _ => le_pF) fun _ => (mo_s (fun _ => le_pF) fun _ => (mo_s (fun _ => le_pF) fun _ => (mo_s (fun _ => le_pF) fun _ => (mo_s (fun _ => le_pF) fun _ => (mo_s (fun _ => le_nA) fun _ => (mo_s (fun _ => le_pF) fun _ => (mo_s (fun _ => le_nA) fun _ => (mo_s (fun _ => le_pF) fun _ => (mo_s (fun _ => le_nA) fun _ => (mo_s (fun _ => le_pF) fun _ => (mo_s (fun _ => le_nA) fun _ => (mo_s (fun _ => le_pF) fun _ => (mo_s (fun _ => le_nA) fun _ => (mo_s (fun _ => le_pF) fun _ => (mo_s (fun _ => le_nA) fun _ => (mo_s (fun _ => le_pF) fun _ => (mo_s (fun _ => le_nA) fun _ => (mo_s (fun _ => le_pF) fun _ => (mo_s (fun _ => le_nA) fun _ => (mo_s (fun _ => le_pF) fun _ => (mo_s (fun _ => le_pF) fun _ => (mo_s (fun _ => le_pF) fun _ => (mo_s (fun _ => le_pF) fun _ => (mo_s (fun _ => le_pF) fun _ => (mo_s (fun _ => le_pF) fun _ => (mo_s (fun _ => le_pF) fun _ => (mo_s (fun _ => le_pF) fun _ => (mo_s (fun _ => le_pF) fun _ => (mo_s (fun _ => le_pF) fun _ => (mo_s (fun _ => le_pF) fun _ => (mo_s (fun _ => le_pF) fun _ => (mo_s (fun _ => le_pF) fun _ => (mo_s (fun _ => le_nA) fun _ => (mo_s (fun _ => le_pF) fun _ => (mo_s (fun _ => le_nA) fun _ => (mo_s (fun _ => le_pF) fun _ => (mo_s (fun _ => le_nA) fun _ => (mo_s (fun _ => le_pF) fun _ => (mo_s (fun _ => le_nA) fun _ => (mo_s (fun _ => le_pF) fun _ => (mo_s (fun _ => le_nA) fun _ => (mo_s (fun _ => le_pF) fun _ => (mo_s (fun _ => le_nA) fun _ => (mo_s (fun _ => le_pF) fun _ => (mo_s (fun _ => le_nA) fun _ => (mo_s (fun _ => le_pF) fun _ => (mo_s (fun _ => le_nA) fun _ => (mo_s (fun _ => le_pF) fun _ => (mo_s (fun _ => le_nA) fun _ => (mo_s (fun _ => le_pF) fun _ => (mo_s (fun _ => le_nA) fun _ => (mo_s (fun _ => le_pF) fun _ => (mo_s (fun _ => le_nA) fun _ => (mo_s (fun _ => le_pF) fun _ => (mo_s (fun _ => le_nA) fun _ => (mo_s (fun _ => le_pF) fun _ => (mo_s (fun _ => le_nA) fun _ => (mo_s (fun _ => le_pF) fun _ => (mo_s (fun _ => le_nA) fun _ => (mo_s (fun _ => le_pF) fun _ => (mo_s (fun _ => le_nA) fun _ => (mo_s (fun _ => le_pF) fun _ => (mo_s (fun _ => le_nA) fun _ => (mo_s (fun _ => le_pF) fun _ => (mo_s (fun _ => le_nA) fun _ => (mo_s (fun _ => le_pF) fun _ => mo_ret))))))))))))))))))))))))))))))))))))))))))))))))))))))))))))))))))))))
/-! BasicMachineLaw.type(LBasicMachine;I[J)I -/
set_option maxHeartbeats 4000000 in
set_option maxRecDepth 100000 in
theorem oaf_X0_type {n : Nat} {S : Nat → Nat} {st : aS} {p0 : Option Nat} {p1 : Int32} {p2 : Option Nat} : Mo st (af_X0_type n S st p0 p1 p2) := (mo_v fun _ => (mo_v fun _ => (mo_xc oaf_X1_type (fun _ _ => (mo_v fun _ => (mo_s (fun _ => le_wL) fun _ => mo_ret))) fun _ _ => (mo_if mo_ret (mo_if mo_ret mo_none)))))
/-! BasicMachineLaw.enter(LBasicMachine;[J)I -/
set_option maxHeartbeats 4000000 in
set_option maxRecDepth 100000 in
theorem oaf_X0_enter {n : Nat} {S : Nat → Nat} {st : aS} {p0 : Option Nat} {p1 : Option Nat} : Mo st (af_X0_enter n S st p0 p1) := (mo_v fun _ => (mo_v fun _ => (mo_xc oaf_X1_enter (fun _ _ => (mo_v fun _ => (mo_s (fun _ => le_wL) fun _ => mo_ret))) fun _ _ => (mo_if mo_ret (mo_if mo_ret (mo_if mo_ret mo_none))))))
/-! BasicMachineLaw.run(LBasicMachine;[J)I -/
set_option maxHeartbeats 4000000 in
set_option maxRecDepth 100000 in
theorem oaf_X0_run {n : Nat} {S : Nat → Nat} {st : aS} {p0 : Option Nat} {p1 : Option Nat} : Mo st (af_X0_run n S st p0 p1) := (mo_v fun _ => (mo_v fun _ => (mo_xc oaf_X1_run (fun _ _ => (mo_v fun _ => (mo_s (fun _ => le_wL) fun _ => mo_ret))) fun _ _ => (mo_if mo_ret (mo_if mo_ret (mo_if mo_ret (mo_if mo_ret (mo_if mo_ret (mo_if mo_ret mo_none)))))))))
/-! BasicMachineLaw.printed(LBasicMachine;I[D)I -/
set_option maxHeartbeats 4000000 in
set_option maxRecDepth 100000 in
theorem oaf_X0_printed {n : Nat} {S : Nat → Nat} {st : aS} {p0 : Option Nat} {p1 : Int32} {p2 : Option Nat} : Mo st (af_X0_printed n S st p0 p1 p2) := (mo_v fun _ => (mo_v fun _ => (mo_xc oaf_X1_printed (fun _ _ => (mo_v fun _ => (mo_s (fun _ => le_wD) fun _ => mo_ret))) fun _ _ => (mo_if mo_ret mo_none))))
/-! BasicMachineLaw.variable(LBasicMachine;I[D)I -/
set_option maxHeartbeats 4000000 in
set_option maxRecDepth 100000 in
theorem oaf_X0_variable {n : Nat} {S : Nat → Nat} {st : aS} {p0 : Option Nat} {p1 : Int32} {p2 : Option Nat} : Mo st (af_X0_variable n S st p0 p1 p2) := (mo_v fun _ => (mo_v fun _ => (mo_xc oaf_X1_variable (fun _ _ => (mo_v fun _ => (mo_s (fun _ => le_wD) fun _ => mo_ret))) fun _ _ => (mo_if mo_ret mo_none))))
/-! BasicMachineLaw.element(LBasicMachine;III[D)I -/
set_option maxHeartbeats 4000000 in
set_option maxRecDepth 100000 in
theorem oaf_X0_element {n : Nat} {S : Nat → Nat} {st : aS} {p0 : Option Nat} {p1 : Int32} {p2 : Int32} {p3 : Int32} {p4 : Option Nat} : Mo st (af_X0_element n S st p0 p1 p2 p3 p4) := (mo_v fun _ => (mo_v fun _ => (mo_xc oaf_X1_element (fun _ _ => (mo_v fun _ => (mo_s (fun _ => le_wD) fun _ => mo_ret))) fun _ _ => (mo_if mo_ret (mo_if mo_ret mo_none)))))
