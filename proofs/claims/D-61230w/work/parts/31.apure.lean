/-! the pure functions of the machine (printed by gena.py) -/
/-! BasicMachine.checked(D)D -/
def af_X1_checked (n : Nat) (S : Nat → Nat) (st : aS) (p0 : UInt64) : Option (aS × ((UInt64) ⊕ Nat)) :=
  if 0 < (Op.cmpValue (FP.dcmp p0 (4877398396442247168 : UInt64)) .l) then
    aTw st 3
  else
    if 0 ≤ (Op.cmpValue (FP.dcmp p0 (14100770433297022976 : UInt64)) .g) then
      some (st, .inl p0)
    else
      aTw st 3
/-! BasicMachine.whole(D)J -/
def af_X1_whole (n : Nat) (S : Nat → Nat) (st : aS) (p0 : UInt64) : Option (aS × (Int64)) :=
  some (st, (FP.d2l p0))
/-! BasicMachine.<init>()V -/
def af_X1_init (n : Nat) (S : Nat → Nat) (st : aS) (a0 : Nat) : Option (aS × Unit) :=
  (nA st 0 (60 : Int32) (.inl (fun _ => 0))).bind fun st_1 =>
  (pF st_1 a0 0 0 (va_rf (some st.1))).bind fun st_2 =>
  (pF st_2 a0 0 2 (.int (-1 : Int32))).bind fun st_3 =>
  (nA st_3 2 (26 : Int32) (.inr (.inr (.inr (.inl (fun _ => 0)))))).bind fun st_4 =>
  (pF st_4 a0 0 5 (va_rf (some st_3.1))).bind fun st_5 =>
  (nA st_5 4 (3 : Int32) (.inr (.inr (.inr (.inr (fun _ => none)))))).bind fun st_6 =>
  (pF st_6 a0 0 6 (va_rf (some st_5.1))).bind fun st_7 =>
  (nA st_7 5 (3 : Int32) (.inr (.inr (.inr (.inr (fun _ => none)))))).bind fun st_8 =>
  (pF st_8 a0 0 8 (va_rf (some st_7.1))).bind fun st_9 =>
  (nA st_9 1 (3 : Int32) (.inl (fun _ => 0))).bind fun st_10 =>
  (pF st_10 a0 0 10 (va_rf (some st_9.1))).bind fun st_11 =>
  (nA st_11 2 (3 : Int32) (.inr (.inr (.inr (.inl (fun _ => 0)))))).bind fun st_12 =>
  (pF st_12 a0 0 11 (va_rf (some st_11.1))).bind fun st_13 =>
  (nA st_13 6 (8 : Int32) (.inr (.inr (.inr (.inr (fun _ => none)))))).bind fun st_14 =>
  (pF st_14 a0 0 12 (va_rf (some st_13.1))).bind fun st_15 =>
  (nA st_15 7 (6 : Int32) (.inr (.inr (.inr (.inr (fun _ => none)))))).bind fun st_16 =>
  (pF st_16 a0 0 14 (va_rf (some st_15.1))).bind fun st_17 =>
  (nA st_17 2 (40 : Int32) (.inr (.inr (.inr (.inl (fun _ => 0)))))).bind fun st_18 =>
  (pF st_18 a0 0 16 (va_rf (some st_17.1))).bind fun st_19 =>
  (pF st_19 a0 0 22 (.int (-1 : Int32))).bind fun st_20 =>
  some (st_20, ())
/-! BasicMachine.type(I)I -/
def af_X1_type (n : Nat) (S : Nat → Nat) (st : aS) (a0 : Nat) (p1 : Int32) : Option (aS × ((Int32) ⊕ Nat)) :=
  if p1 < 0 then
    aTw st 0
  else
    if p1 ≤ (127 : Int32) then
      (gI st a0 0 1).bind fun v_3 =>
      if v_3 = (60 : Int32) then
        aTw st 1
      else
        (gR st a0 0 0).bind fun r_5 =>
        (gI st a0 0 1).bind fun v_6 =>
        (r_5).bind fun a_7 =>
        (wI st a_7 0 v_6 (vp_nar .char (p1.toUInt32 % 65536).toInt32)).bind fun st_8 =>
        (gI st_8 a0 0 1).bind fun v_9 =>
        (pF st_8 a0 0 1 (.int (v_9 + (1 : Int32)))).bind fun st_10 =>
        (gI st_10 a0 0 1).bind fun v_11 =>
        some (st_10, .inl v_11)
    else
      aTw st 0
/-! BasicMachine$Parser.<init>([CI)V -/
def af_X3_init (n : Nat) (S : Nat → Nat) (st : aS) (a0 : Nat) (p1 : Option Nat) (p2 : Int32) : Option (aS × Unit) :=
  (nA st 8 (17 : Int32) (.inr (.inr (.inr (.inr (fun _ => none)))))).bind fun st_1 =>
  (wR st_1 st.1 8 (0 : Int32) (some (S 0))).bind fun st_2 =>
  (wR st_2 st.1 8 (1 : Int32) (some (S 1))).bind fun st_3 =>
  (wR st_3 st.1 8 (2 : Int32) (some (S 2))).bind fun st_4 =>
  (wR st_4 st.1 8 (3 : Int32) (some (S 3))).bind fun st_5 =>
  (wR st_5 st.1 8 (4 : Int32) (some (S 4))).bind fun st_6 =>
  (wR st_6 st.1 8 (5 : Int32) (some (S 5))).bind fun st_7 =>
  (wR st_7 st.1 8 (6 : Int32) (some (S 6))).bind fun st_8 =>
  (wR st_8 st.1 8 (7 : Int32) (some (S 7))).bind fun st_9 =>
  (wR st_9 st.1 8 (8 : Int32) (some (S 8))).bind fun st_10 =>
  (wR st_10 st.1 8 (9 : Int32) (some (S 9))).bind fun st_11 =>
  (wR st_11 st.1 8 (10 : Int32) (some (S 10))).bind fun st_12 =>
  (wR st_12 st.1 8 (11 : Int32) (some (S 11))).bind fun st_13 =>
  (wR st_13 st.1 8 (12 : Int32) (some (S 12))).bind fun st_14 =>
  (wR st_14 st.1 8 (13 : Int32) (some (S 13))).bind fun st_15 =>
  (wR st_15 st.1 8 (14 : Int32) (some (S 14))).bind fun st_16 =>
  (wR st_16 st.1 8 (15 : Int32) (some (S 15))).bind fun st_17 =>
  (wR st_17 st.1 8 (16 : Int32) (some (S 16))).bind fun st_18 =>
  (pF st_18 a0 2 5 (va_rf (some st.1))).bind fun st_19 =>
  (pF st_19 a0 2 0 (va_rf p1)).bind fun st_20 =>
  (pF st_20 a0 2 1 (.int p2)).bind fun st_21 =>
  some (st_21, ())
/-! BasicMachine$Parser.here()C -/
def af_X3_here (n : Nat) (S : Nat → Nat) (st : aS) (a0 : Nat) : Option (aS × (Int32)) :=
  (gI st a0 2 2).bind fun v_1 =>
  (gI st a0 2 1).bind fun v_2 =>
  if v_2 ≤ v_1 then
    (cz (0 : Int32)).bind fun v_4 =>
    some (st, v_4)
  else
    (gR st a0 2 0).bind fun r_5 =>
    (gI st a0 2 2).bind fun v_6 =>
    (r_5).bind fun a_7 =>
    (lI st a_7 0 v_6).bind fun v_8 =>
    (cz v_8).bind fun v_9 =>
    some (st, v_9)
/-! BasicMachine$Parser.digit(C)Z -/
def af_X3_digit (n : Nat) (S : Nat → Nat) (st : aS) (p0 : Int32) : Option (aS × (Int32)) :=
  if p0 < (48 : Int32) then
    some (st, (0 : Int32))
  else
    if (57 : Int32) < p0 then
      some (st, (0 : Int32))
    else
      some (st, (1 : Int32))
/-! BasicMachine$Parser.need(Z)V -/
def af_X3_need (n : Nat) (S : Nat → Nat) (st : aS) (a0 : Nat) (p1 : Int32) : Option (aS × (Unit ⊕ Nat)) :=
  if p1 = 0 then
    aTw st 0
  else
    some (st, .inl ())
/-! BasicMachine$Parser.number()I -/
def af_X3_number_L80 (n : Nat) (S : Nat → Nat) (st : aS) (a0 : Nat) (x1 : Int32) (z80_1 : Int32) : Option (aS × ((Int32) ⊕ Nat)) :=
  (gC st a0 2).bind fun u_3 =>
  xb (af_X3_need n S st a0 z80_1) fun st_1 u_2 =>
  some (st_1, .inl x1)
def af_X3_number_L79 (n : Nat) (S : Nat → Nat) (st : aS) (a0 : Nat) (x1 : Int32) : Option (aS × ((Int32) ⊕ Nat)) :=
  af_X3_number_L80 n S st a0 x1 (0 : Int32)
def af_X3_number_L66 (n : Nat) (S : Nat → Nat) (st : aS) (a0 : Nat) (x1 : Int32) (x2 : Int32) : Option (aS × ((Int32) ⊕ Nat)) :=
  if x2 ≤ 0 then
    af_X3_number_L79 n S st a0 x1
  else
    if x1 ≤ 0 then
      af_X3_number_L79 n S st a0 x1
    else
      af_X3_number_L80 n S st a0 x1 (1 : Int32)
def af_X3_number_B4 (n : Nat) (S : Nat → Nat) (rec : Nat → aS → Nat → Int32 → Int32 → Int32 → Option (aS × ((Int32) ⊕ Nat))) (st : aS) (a0 : Nat) (x1 : Int32) (x2 : Int32) (z47_1 : Int32) : Option (aS × ((Int32) ⊕ Nat)) :=
  if (3 : Int32) ≤ x2 then
    af_X3_number_L66 n S st a0 x1 x2
  else
    (gC st a0 2).bind fun u_4 =>
    cb (af_X3_here n S st a0) fun st_2 v_3 =>
    cb (af_X3_digit n S st_2 v_3) fun st_5 v_6 =>
    if v_6 = 0 then
      af_X3_number_L66 n S st_5 a0 x1 x2
    else
      (gC st_5 a0 2).bind fun u_10 =>
      cb (af_X3_here n S st_5 a0) fun st_8 v_9 =>
      (nm ((((10 : Int32) * x1) + v_9) - (48 : Int32))).bind fun x1_11 =>
      if 0 < x1_11 then
        rec 1 st_8 a0 x1_11 x2 (0 : Int32)
      else
        if (2 : Int32) ≤ x2 then
          rec 2 st_8 a0 x1_11 x2 (0 : Int32)
        else
          rec 1 st_8 a0 x1_11 x2 (0 : Int32)
def af_X3_number_B42 (n : Nat) (S : Nat → Nat) (rec : Nat → aS → Nat → Int32 → Int32 → Int32 → Option (aS × ((Int32) ⊕ Nat))) (st : aS) (a0 : Nat) (x1 : Int32) (x2 : Int32) (z47_1 : Int32) : Option (aS × ((Int32) ⊕ Nat)) :=
  rec 2 st a0 x1 x2 (1 : Int32)
def af_X3_number_B47 (n : Nat) (S : Nat → Nat) (rec : Nat → aS → Nat → Int32 → Int32 → Int32 → Option (aS × ((Int32) ⊕ Nat))) (st : aS) (a0 : Nat) (x1 : Int32) (x2 : Int32) (z47_1 : Int32) : Option (aS × ((Int32) ⊕ Nat)) :=
  (gC st a0 2).bind fun u_3 =>
  xb (af_X3_need n S st a0 z47_1) fun st_1 u_2 =>
  (gI st_1 a0 2 2).bind fun v_4 =>
  (pF st_1 a0 2 2 (.int (v_4 + (1 : Int32)))).bind fun st_5 =>
  rec 0 st_5 a0 x1 (x2 + (1 : Int32)) (0 : Int32)
def af_X3_number_S4 (n : Nat) (S : Nat → Nat) : Nat → Nat → aS → Nat → Int32 → Int32 → Int32 → Option (aS × ((Int32) ⊕ Nat))
  | 0, _, _, _, _, _, _ => none
  | k + 1, lb, st, a0, x1, x2, z47_1 => if lb = 0 then af_X3_number_B4 n S (af_X3_number_S4 n S k) st a0 x1 x2 z47_1 else if lb = 1 then af_X3_number_B42 n S (af_X3_number_S4 n S k) st a0 x1 x2 z47_1 else af_X3_number_B47 n S (af_X3_number_S4 n S k) st a0 x1 x2 z47_1
def af_X3_number (n : Nat) (S : Nat → Nat) (st : aS) (a0 : Nat) : Option (aS × ((Int32) ⊕ Nat)) :=
  af_X3_number_S4 n S n 0 st a0 (0 : Int32) (0 : Int32) (0 : Int32)
/-! BasicMachine$Line.<init>(ILBasicMachine$Statement;)V -/
def af_X4_init (n : Nat) (S : Nat → Nat) (st : aS) (a0 : Nat) (p1 : Int32) (p2 : Option Nat) : Option (aS × Unit) :=
  (pF st a0 3 0 (.int p1)).bind fun st_1 =>
  (pF st_1 a0 3 1 (va_rf p2)).bind fun st_2 =>
  some (st_2, ())
/-! BasicMachine$Parser.same(Ljava/lang/String;I)I -/
def af_X3_same_B2 (n : Nat) (S : Nat → Nat) (rec : aS → Nat → Option Nat → Int32 → Int32 → Option (aS × (Int32))) (st : aS) (a0 : Nat) (x1 : Option Nat) (x2 : Int32) (x3 : Int32) : Option (aS × (Int32)) :=
  (x1).bind fun a_1 =>
  (sLen S a_1).bind fun v_2 =>
  if v_2 ≤ x3 then
    some (st, x3)
  else
    (gI st a0 2 1).bind fun v_4 =>
    if v_4 ≤ (x2 + x3) then
      some (st, x3)
    else
      (gR st a0 2 0).bind fun r_6 =>
      (r_6).bind fun a_7 =>
      (lI st a_7 0 (x2 + x3)).bind fun v_8 =>
      (sAt S a_1 x3).bind fun v_9 =>
      if v_8 = v_9 then
        rec st a0 (some a_1) x2 (x3 + (1 : Int32))
      else
        some (st, x3)
def af_X3_same_S2 (n : Nat) (S : Nat → Nat) : Nat → aS → Nat → Option Nat → Int32 → Int32 → Option (aS × (Int32))
  | 0, _, _, _, _, _ => none
  | k + 1, st, a0, x1, x2, x3 => af_X3_same_B2 n S (af_X3_same_S2 n S k) st a0 x1 x2 x3
def af_X3_same (n : Nat) (S : Nat → Nat) (st : aS) (a0 : Nat) (p1 : Option Nat) (p2 : Int32) : Option (aS × (Int32)) :=
  af_X3_same_S2 n S n st a0 p1 p2 (0 : Int32)
/-! BasicMachine$Parser.word()Ljava/lang/String; -/
def af_X3_word_B5 (n : Nat) (S : Nat → Nat) (rec : Nat → aS → Nat → Int32 → Int32 → Int32 → Option (aS × ((Option Nat) ⊕ Nat))) (st : aS) (a0 : Nat) (x1 : Int32) (x2 : Int32) (x3 : Int32) : Option (aS × ((Option Nat) ⊕ Nat)) :=
  rec 1 st a0 x1 (0 : Int32) (0 : Int32)
def af_X3_word_B9 (n : Nat) (S : Nat → Nat) (rec : Nat → aS → Nat → Int32 → Int32 → Int32 → Option (aS × ((Option Nat) ⊕ Nat))) (st : aS) (a0 : Nat) (x1 : Int32) (x2 : Int32) (x3 : Int32) : Option (aS × ((Option Nat) ⊕ Nat)) :=
  (gR st a0 2 5).bind fun r_1 =>
  (r_1).bind fun a_2 =>
  (aLen st a_2).bind fun v_3 =>
  if v_3 ≤ x3 then
    (gC st a0 2).bind fun u_7 =>
    xb (af_X3_need n S st a0 x2) fun st_5 u_6 =>
    (gI st_5 a0 2 2).bind fun v_8 =>
    (pF st_5 a0 2 2 (.int (v_8 + (1 : Int32)))).bind fun st_9 =>
    rec 0 st_9 a0 x1 (0 : Int32) (0 : Int32)
  else
    (gR st a0 2 5).bind fun r_10 =>
    (r_10).bind fun a_11 =>
    (lR st a_11 8 x3).bind fun r_12 =>
    (gC st a0 2).bind fun u_15 =>
    cb (af_X3_same n S st a0 r_12 x1) fun st_13 v_14 =>
    (gR st_13 a0 2 5).bind fun r_16 =>
    (r_16).bind fun a_17 =>
    (lR st_13 a_17 8 x3).bind fun r_18 =>
    (r_18).bind fun a_19 =>
    (sLen S a_19).bind fun v_20 =>
    if v_14 = v_20 then
      (pF st_13 a0 2 2 (.int (x1 + v_14))).bind fun st_24 =>
      (gR st_24 a0 2 5).bind fun r_25 =>
      (r_25).bind fun a_26 =>
      (lR st_24 a_26 8 x3).bind fun r_27 =>
      some (st_24, .inl r_27)
    else
      (gI st_13 a0 2 2).bind fun v_22 =>
      if v_14 ≤ (v_22 - x1) then
        rec 2 st_13 a0 x1 x2 x3
      else
        rec 2 st_13 a0 x1 (1 : Int32) x3
def af_X3_word_B73 (n : Nat) (S : Nat → Nat) (rec : Nat → aS → Nat → Int32 → Int32 → Int32 → Option (aS × ((Option Nat) ⊕ Nat))) (st : aS) (a0 : Nat) (x1 : Int32) (x2 : Int32) (x3 : Int32) : Option (aS × ((Option Nat) ⊕ Nat)) :=
  rec 1 st a0 x1 x2 (x3 + (1 : Int32))
def af_X3_word_S5 (n : Nat) (S : Nat → Nat) : Nat → Nat → aS → Nat → Int32 → Int32 → Int32 → Option (aS × ((Option Nat) ⊕ Nat))
  | 0, _, _, _, _, _, _ => none
  | k + 1, lb, st, a0, x1, x2, x3 => if lb = 0 then af_X3_word_B5 n S (af_X3_word_S5 n S k) st a0 x1 x2 x3 else if lb = 1 then af_X3_word_B9 n S (af_X3_word_S5 n S k) st a0 x1 x2 x3 else af_X3_word_B73 n S (af_X3_word_S5 n S k) st a0 x1 x2 x3
def af_X3_word (n : Nat) (S : Nat → Nat) (st : aS) (a0 : Nat) : Option (aS × ((Option Nat) ⊕ Nat)) :=
  (gI st a0 2 2).bind fun v_1 =>
  af_X3_word_S5 n S n 0 st a0 v_1 (0 : Int32) (0 : Int32)
/-! BasicMachine$Parser.isMatrix(C)Z -/
def af_X3_isMatrix (n : Nat) (S : Nat → Nat) (st : aS) (p0 : Int32) : Option (aS × (Int32)) :=
  if p0 < (80 : Int32) then
    some (st, (0 : Int32))
  else
    if (82 : Int32) < p0 then
      some (st, (0 : Int32))
    else
      some (st, (1 : Int32))
/-! BasicMachine$Parser.takes(C)Z -/
def af_X3_takes (n : Nat) (S : Nat → Nat) (st : aS) (a0 : Nat) (p1 : Int32) : Option (aS × (Int32)) :=
  (gC st a0 2).bind fun u_3 =>
  cb (af_X3_here n S st a0) fun st_1 v_2 =>
  if v_2 = p1 then
    (gI st_1 a0 2 2).bind fun v_5 =>
    (gI st_1 a0 2 1).bind fun v_6 =>
    if v_5 < v_6 then
      (gI st_1 a0 2 2).bind fun v_8 =>
      (pF st_1 a0 2 2 (.int (v_8 + (1 : Int32)))).bind fun st_9 =>
      some (st_9, (1 : Int32))
    else
      some (st_1, (0 : Int32))
  else
    some (st_1, (0 : Int32))
/-! BasicMachine$Parser.numeral()D -/
def af_X3_numeral_L88 (n : Nat) (S : Nat → Nat) (st : aS) (a0 : Nat) (x1 : Int64) (z88_1 : Int32) : Option (aS × ((UInt64) ⊕ Nat)) :=
  (gC st a0 2).bind fun u_3 =>
  xb (af_X3_need n S st a0 z88_1) fun st_1 u_2 =>
  some (st_1, .inl (FP.l2d x1))
def af_X3_numeral_L181 (n : Nat) (S : Nat → Nat) (st : aS) (a0 : Nat) (x1 : Int64) (x4 : UInt64) (z181_1 : Int32) : Option (aS × ((UInt64) ⊕ Nat)) :=
  (gC st a0 2).bind fun u_3 =>
  xb (af_X3_need n S st a0 z181_1) fun st_1 u_2 =>
  (nN (FP.ddiv (FP.l2d x1) x4)).bind fun v_4 =>
  some (st_1, .inl v_4)
def af_X3_numeral_L165 (n : Nat) (S : Nat → Nat) (st : aS) (a0 : Nat) (x1 : Int64) (x4 : UInt64) : Option (aS × ((UInt64) ⊕ Nat)) :=
  (gC st a0 2).bind fun u_3 =>
  cb (af_X3_here n S st a0) fun st_1 v_2 =>
  cb (af_X3_digit n S st_1 v_2) fun st_4 v_5 =>
  if v_5 = 0 then
    af_X3_numeral_L181 n S st_4 a0 x1 x4 (1 : Int32)
  else
    af_X3_numeral_L181 n S st_4 a0 x1 x4 (0 : Int32)
def af_X3_numeral_B110 (n : Nat) (S : Nat → Nat) (rec : aS → Nat → Int64 → Int32 → UInt64 → Option (aS × ((UInt64) ⊕ Nat))) (st : aS) (a0 : Nat) (x1 : Int64) (x3 : Int32) (x4 : UInt64) : Option (aS × ((UInt64) ⊕ Nat)) :=
  if (3 : Int32) ≤ x3 then
    af_X3_numeral_L165 n S st a0 x1 x4
  else
    (gC st a0 2).bind fun u_4 =>
    cb (af_X3_here n S st a0) fun st_2 v_3 =>
    cb (af_X3_digit n S st_2 v_3) fun st_5 v_6 =>
    if v_6 = 0 then
      af_X3_numeral_L165 n S st_5 a0 x1 x4
    else
      (gC st_5 a0 2).bind fun u_10 =>
      cb (af_X3_here n S st_5 a0) fun st_8 v_9 =>
      (nm ((((10 : Int64) * x1) + v_9.toInt64) - (48 : Int64))).bind fun x1_11 =>
      (nN (FP.dmul x4 (4621819117588971520 : UInt64))).bind fun v_12 =>
      (gI st_8 a0 2 2).bind fun v_13 =>
      (pF st_8 a0 2 2 (.int (v_13 + (1 : Int32)))).bind fun st_14 =>
      rec st_14 a0 x1_11 (x3 + (1 : Int32)) v_12
def af_X3_numeral_S110 (n : Nat) (S : Nat → Nat) : Nat → aS → Nat → Int64 → Int32 → UInt64 → Option (aS × ((UInt64) ⊕ Nat))
  | 0, _, _, _, _, _ => none
  | k + 1, st, a0, x1, x3, x4 => af_X3_numeral_B110 n S (af_X3_numeral_S110 n S k) st a0 x1 x3 x4
def af_X3_numeral_L63 (n : Nat) (S : Nat → Nat) (st : aS) (a0 : Nat) (x1 : Int64) : Option (aS × ((UInt64) ⊕ Nat)) :=
  (gC st a0 2).bind fun u_3 =>
  cb (af_X3_takes n S st a0 (46 : Int32)) fun st_1 v_2 =>
  if v_2 = 0 then
    (gC st_1 a0 2).bind fun u_15 =>
    cb (af_X3_here n S st_1 a0) fun st_13 v_14 =>
    cb (af_X3_digit n S st_13 v_14) fun st_16 v_17 =>
    if v_17 = 0 then
      af_X3_numeral_L88 n S st_16 a0 x1 (1 : Int32)
    else
      af_X3_numeral_L88 n S st_16 a0 x1 (0 : Int32)
  else
    (gC st_1 a0 2).bind fun u_7 =>
    cb (af_X3_here n S st_1 a0) fun st_5 v_6 =>
    cb (af_X3_digit n S st_5 v_6) fun st_8 v_9 =>
    (gC st_8 a0 2).bind fun u_12 =>
    xb (af_X3_need n S st_8 a0 v_9) fun st_10 u_11 =>
    af_X3_numeral_S110 n S n st_10 a0 x1 (0 : Int32) FP.dconst1
def af_X3_numeral_B15 (n : Nat) (S : Nat → Nat) (rec : aS → Nat → Int64 → Int32 → Option (aS × ((UInt64) ⊕ Nat))) (st : aS) (a0 : Nat) (x1 : Int64) (x3 : Int32) : Option (aS × ((UInt64) ⊕ Nat)) :=
  if (6 : Int32) ≤ x3 then
    af_X3_numeral_L63 n S st a0 x1
  else
    (gC st a0 2).bind fun u_4 =>
    cb (af_X3_here n S st a0) fun st_2 v_3 =>
    cb (af_X3_digit n S st_2 v_3) fun st_5 v_6 =>
    if v_6 = 0 then
      af_X3_numeral_L63 n S st_5 a0 x1
    else
      (gC st_5 a0 2).bind fun u_10 =>
      cb (af_X3_here n S st_5 a0) fun st_8 v_9 =>
      (nm ((((10 : Int64) * x1) + v_9.toInt64) - (48 : Int64))).bind fun x1_11 =>
      (gI st_8 a0 2 2).bind fun v_12 =>
      (pF st_8 a0 2 2 (.int (v_12 + (1 : Int32)))).bind fun st_13 =>
      rec st_13 a0 x1_11 (x3 + (1 : Int32))
def af_X3_numeral_S15 (n : Nat) (S : Nat → Nat) : Nat → aS → Nat → Int64 → Int32 → Option (aS × ((UInt64) ⊕ Nat))
  | 0, _, _, _, _ => none
  | k + 1, st, a0, x1, x3 => af_X3_numeral_B15 n S (af_X3_numeral_S15 n S k) st a0 x1 x3
def af_X3_numeral (n : Nat) (S : Nat → Nat) (st : aS) (a0 : Nat) : Option (aS × ((UInt64) ⊕ Nat)) :=
  (gC st a0 2).bind fun u_3 =>
  cb (af_X3_here n S st a0) fun st_1 v_2 =>
  cb (af_X3_digit n S st_1 v_2) fun st_4 v_5 =>
  (gC st_4 a0 2).bind fun u_8 =>
  xb (af_X3_need n S st_4 a0 v_5) fun st_6 u_7 =>
  af_X3_numeral_S15 n S n st_6 a0 (0 : Int64) (0 : Int32)
/-! java/lang/Record.<init>()V -/
def af_J15_init (n : Nat) (S : Nat → Nat) (st : aS) (a0 : Nat) : Option (aS × Unit) :=
  some (st, ())
/-! BasicMachine$Numeral.<init>(D)V -/
def af_X6_init (n : Nat) (S : Nat → Nat) (st : aS) (a0 : Nat) (p1 : UInt64) : Option (aS × Unit) :=
  cb (af_J15_init n S st a0) fun st_1 u_2 =>
  (pF st_1 a0 5 0 (.double p1)).bind fun st_3 =>
  some (st_3, ())
/-! BasicMachine$Parser.matrix()I -/
def af_X3_matrix (n : Nat) (S : Nat → Nat) (st : aS) (a0 : Nat) : Option (aS × ((Int32) ⊕ Nat)) :=
  (gC st a0 2).bind fun u_3 =>
  cb (af_X3_here n S st a0) fun st_1 v_2 =>
  cb (af_X3_isMatrix n S st_1 v_2) fun st_4 v_5 =>
  (gC st_4 a0 2).bind fun u_8 =>
  xb (af_X3_need n S st_4 a0 v_5) fun st_6 u_7 =>
  (gI st_6 a0 2 2).bind fun v_9 =>
  (pF st_6 a0 2 2 (.int (v_9 + (1 : Int32)))).bind fun st_10 =>
  (gR st_10 a0 2 0).bind fun r_11 =>
  (gI st_10 a0 2 2).bind fun v_12 =>
  (r_11).bind fun a_13 =>
  (lI st_10 a_13 0 (v_12 - (1 : Int32))).bind fun v_14 =>
  some (st_10, .inl (v_14 - (80 : Int32)))
/-! BasicMachine$Parser.take(C)V -/
def af_X3_take_L14 (n : Nat) (S : Nat → Nat) (st : aS) (a0 : Nat) (z14_1 : Int32) : Option (aS × (Unit ⊕ Nat)) :=
  (gC st a0 2).bind fun u_3 =>
  xb (af_X3_need n S st a0 z14_1) fun st_1 u_2 =>
  (gI st_1 a0 2 2).bind fun v_4 =>
  (pF st_1 a0 2 2 (.int (v_4 + (1 : Int32)))).bind fun st_5 =>
  some (st_5, .inl ())
def af_X3_take (n : Nat) (S : Nat → Nat) (st : aS) (a0 : Nat) (p1 : Int32) : Option (aS × (Unit ⊕ Nat)) :=
  (gC st a0 2).bind fun u_3 =>
  cb (af_X3_here n S st a0) fun st_1 v_2 =>
  if v_2 = p1 then
    af_X3_take_L14 n S st_1 a0 (1 : Int32)
  else
    af_X3_take_L14 n S st_1 a0 (0 : Int32)
/-! BasicMachine$Parser.openBracket()V -/
def af_X3_openBracket (n : Nat) (S : Nat → Nat) (st : aS) (a0 : Nat) : Option (aS × (Unit ⊕ Nat)) :=
  (gC st a0 2).bind fun u_3 =>
  xb (af_X3_take n S st a0 (40 : Int32)) fun st_1 u_2 =>
  (gI st_1 a0 2 3).bind fun v_4 =>
  (pF st_1 a0 2 3 (.int (v_4 + (1 : Int32)))).bind fun st_5 =>
  some (st_5, .inl ())
/-! BasicMachine$Parser.closeBracket()V -/
def af_X3_closeBracket (n : Nat) (S : Nat → Nat) (st : aS) (a0 : Nat) : Option (aS × (Unit ⊕ Nat)) :=
  (gC st a0 2).bind fun u_3 =>
  xb (af_X3_take n S st a0 (41 : Int32)) fun st_1 u_2 =>
  (gI st_1 a0 2 3).bind fun v_4 =>
  (pF st_1 a0 2 3 (.int (v_4 - (1 : Int32)))).bind fun st_5 =>
  some (st_5, .inl ())
/-! BasicMachine$Element.<init>(ILBasicMachine$Expression;LBasicMachine$Expression;)V -/
def af_X11_init (n : Nat) (S : Nat → Nat) (st : aS) (a0 : Nat) (p1 : Int32) (p2 : Option Nat) (p3 : Option Nat) : Option (aS × Unit) :=
  cb (af_J15_init n S st a0) fun st_1 u_2 =>
  (pF st_1 a0 10 0 (.int p1)).bind fun st_3 =>
  (pF st_3 a0 10 1 (va_rf p2)).bind fun st_4 =>
  (pF st_4 a0 10 2 (va_rf p3)).bind fun st_5 =>
  some (st_5, ())
/-! BasicMachine$Parser.element()LBasicMachine$Element; -/
def af_X3_element_L15 (n : Nat) (S : Nat → Nat) (rx : aS → Nat → Option (aS × (Option Nat ⊕ Nat))) (st : aS) (a0 : Nat) (z15_1 : Int32) : Option (aS × ((Option Nat) ⊕ Nat)) :=
  (gC st a0 2).bind fun u_3 =>
  xb (af_X3_need n S st a0 z15_1) fun st_1 u_2 =>
  (gC st_1 a0 2).bind fun u_6 =>
  xb (af_X3_matrix n S st_1 a0) fun st_4 v_5 =>
  (gC st_4 a0 2).bind fun u_9 =>
  xb (af_X3_openBracket n S st_4 a0) fun st_7 u_8 =>
  (gC st_7 a0 2).bind fun u_12 =>
  xb (rx st_7 a0) fun st_10 r_11 =>
  (gC st_10 a0 2).bind fun u_15 =>
  xb (af_X3_take n S st_10 a0 (44 : Int32)) fun st_13 u_14 =>
  (gC st_13 a0 2).bind fun u_18 =>
  xb (rx st_13 a0) fun st_16 r_17 =>
  (gC st_16 a0 2).bind fun u_21 =>
  xb (af_X3_closeBracket n S st_16 a0) fun st_19 u_20 =>
  (nO st_19 10 [.int 0, .null, .null] 3).bind fun st_22 =>
  cb (af_X11_init n S st_22 st_19.1 v_5 r_11 r_17) fun st_23 u_24 =>
  some (st_23, .inl (some st_19.1))
def af_X3_element (n : Nat) (S : Nat → Nat) (rx : aS → Nat → Option (aS × (Option Nat ⊕ Nat))) (st : aS) (a0 : Nat) : Option (aS × ((Option Nat) ⊕ Nat)) :=
  (gI st a0 2 3).bind fun v_1 =>
  if (6 : Int32) ≤ v_1 then
    af_X3_element_L15 n S rx st a0 (0 : Int32)
  else
    af_X3_element_L15 n S rx st a0 (1 : Int32)
/-! BasicMachine$Parser.inside()LBasicMachine$Expression; -/
def af_X3_inside (n : Nat) (S : Nat → Nat) (rx : aS → Nat → Option (aS × (Option Nat ⊕ Nat))) (st : aS) (a0 : Nat) : Option (aS × ((Option Nat) ⊕ Nat)) :=
  (gC st a0 2).bind fun u_3 =>
  xb (af_X3_openBracket n S st a0) fun st_1 u_2 =>
  (gC st_1 a0 2).bind fun u_6 =>
  xb (rx st_1 a0) fun st_4 r_5 =>
  (gC st_4 a0 2).bind fun u_9 =>
  xb (af_X3_closeBracket n S st_4 a0) fun st_7 u_8 =>
  some (st_7, .inl r_5)
/-! BasicMachine$Parser.behind()C -/
def af_X3_behind (n : Nat) (S : Nat → Nat) (st : aS) (a0 : Nat) : Option (aS × (Int32)) :=
  (gI st a0 2 2).bind fun v_1 =>
  (gI st a0 2 1).bind fun v_2 =>
  if v_2 ≤ (v_1 + (1 : Int32)) then
    (cz (0 : Int32)).bind fun v_4 =>
    some (st, v_4)
  else
    (gR st a0 2 0).bind fun r_5 =>
    (gI st a0 2 2).bind fun v_6 =>
    (r_5).bind fun a_7 =>
    (lI st a_7 0 (v_6 + (1 : Int32))).bind fun v_8 =>
    (cz v_8).bind fun v_9 =>
    some (st, v_9)
/-! BasicMachine$Parser.take(Ljava/lang/String;)V -/
def af_X3_take_2_B2 (n : Nat) (S : Nat → Nat) (rec : aS → Nat → Option Nat → Int32 → Option (aS × (Unit ⊕ Nat))) (st : aS) (a0 : Nat) (x1 : Option Nat) (x2 : Int32) : Option (aS × (Unit ⊕ Nat)) :=
  (x1).bind fun a_1 =>
  (sLen S a_1).bind fun v_2 =>
  if v_2 ≤ x2 then
    some (st, .inl ())
  else
    (sAt S a_1 x2).bind fun v_4 =>
    (gC st a0 2).bind fun u_7 =>
    xb (af_X3_take n S st a0 v_4) fun st_5 u_6 =>
    rec st_5 a0 (some a_1) (x2 + (1 : Int32))
def af_X3_take_2_S2 (n : Nat) (S : Nat → Nat) : Nat → aS → Nat → Option Nat → Int32 → Option (aS × (Unit ⊕ Nat))
  | 0, _, _, _, _ => none
  | k + 1, st, a0, x1, x2 => af_X3_take_2_B2 n S (af_X3_take_2_S2 n S k) st a0 x1 x2
def af_X3_take_2 (n : Nat) (S : Nat → Nat) (st : aS) (a0 : Nat) (p1 : Option Nat) : Option (aS × (Unit ⊕ Nat)) :=
  af_X3_take_2_S2 n S n st a0 p1 (0 : Int32)
/-! BasicMachine$Single.<init>(CLBasicMachine$Expression;)V -/
def af_X7_init (n : Nat) (S : Nat → Nat) (st : aS) (a0 : Nat) (p1 : Int32) (p2 : Option Nat) : Option (aS × Unit) :=
  cb (af_J15_init n S st a0) fun st_1 u_2 =>
  (cz p1).bind fun v_3 =>
  (pF st_1 a0 6 0 (.int v_3)).bind fun st_4 =>
  (pF st_4 a0 6 1 (va_rf p2)).bind fun st_5 =>
  some (st_5, ())
/-! BasicMachine$Parser.functionName()I -/
def af_X3_functionName_L24 (n : Nat) (S : Nat → Nat) (st : aS) (a0 : Nat) (z24_1 : Int32) : Option (aS × ((Int32) ⊕ Nat)) :=
  (gC st a0 2).bind fun u_3 =>
  xb (af_X3_need n S st a0 z24_1) fun st_1 u_2 =>
  (gI st_1 a0 2 2).bind fun v_4 =>
  (pF st_1 a0 2 2 (.int (v_4 + (1 : Int32)))).bind fun st_5 =>
  (gR st_5 a0 2 0).bind fun r_6 =>
  (gI st_5 a0 2 2).bind fun v_7 =>
  (r_6).bind fun a_8 =>
  (lI st_5 a_8 0 (v_7 - (1 : Int32))).bind fun v_9 =>
  some (st_5, .inl (v_9 - (65 : Int32)))
def af_X3_functionName_L23 (n : Nat) (S : Nat → Nat) (st : aS) (a0 : Nat) : Option (aS × ((Int32) ⊕ Nat)) :=
  af_X3_functionName_L24 n S st a0 (0 : Int32)
def af_X3_functionName (n : Nat) (S : Nat → Nat) (st : aS) (a0 : Nat) : Option (aS × ((Int32) ⊕ Nat)) :=
  (gC st a0 2).bind fun u_3 =>
  cb (af_X3_here n S st a0) fun st_1 v_2 =>
  if v_2 < (65 : Int32) then
    af_X3_functionName_L23 n S st_1 a0
  else
    (gC st_1 a0 2).bind fun u_7 =>
    cb (af_X3_here n S st_1 a0) fun st_5 v_6 =>
    if (67 : Int32) < v_6 then
      af_X3_functionName_L23 n S st_5 a0
    else
      af_X3_functionName_L24 n S st_5 a0 (1 : Int32)
/-! BasicMachine$Call.<init>(ILBasicMachine$Expression;)V -/
def af_X8_init (n : Nat) (S : Nat → Nat) (st : aS) (a0 : Nat) (p1 : Int32) (p2 : Option Nat) : Option (aS × Unit) :=
  cb (af_J15_init n S st a0) fun st_1 u_2 =>
  (pF st_1 a0 7 0 (.int p1)).bind fun st_3 =>
  (pF st_3 a0 7 1 (va_rf p2)).bind fun st_4 =>
  some (st_4, ())
/-! BasicMachine$Parser.function(CC)LBasicMachine$Expression; -/
def af_X3_function_L120 (n : Nat) (S : Nat → Nat) (rx : aS → Nat → Option (aS × (Option Nat ⊕ Nat))) (st : aS) (a0 : Nat) (x1 : Int32) : Option (aS × ((Option Nat) ⊕ Nat)) :=
  if x1 = (70 : Int32) then
    (gC st a0 2).bind fun u_4 =>
    xb (af_X3_take_2 n S st a0 (some (S 20))) fun st_2 u_3 =>
    (gC st_2 a0 2).bind fun u_7 =>
    xb (af_X3_functionName n S st_2 a0) fun st_5 v_6 =>
    (nO st_5 7 [.int 0, .null] 2).bind fun st_8 =>
    (gC st_8 a0 2).bind fun u_11 =>
    xb (af_X3_inside n S rx st_8 a0) fun st_9 r_10 =>
    cb (af_X8_init n S st_9 st_5.1 v_6 r_10) fun st_12 u_13 =>
    some (st_12, .inl (some st_5.1))
  else
    (nO st 6 [.int 0, .null] 2).bind fun st_14 =>
    (gC st_14 a0 2).bind fun u_17 =>
    xb (af_X3_inside n S rx st_14 a0) fun st_15 r_16 =>
    cb (af_X7_init n S st_15 st.1 x1 r_16) fun st_18 u_19 =>
    some (st_18, .inl (some st.1))
def af_X3_function_L97 (n : Nat) (S : Nat → Nat) (rx : aS → Nat → Option (aS × (Option Nat ⊕ Nat))) (st : aS) (a0 : Nat) (x1 : Int32) : Option (aS × ((Option Nat) ⊕ Nat)) :=
  (gC st a0 2).bind fun u_3 =>
  xb (af_X3_take_2 n S st a0 (some (S 19))) fun st_1 u_2 =>
  af_X3_function_L120 n S rx st_1 a0 x1
def af_X3_function_L106 (n : Nat) (S : Nat → Nat) (rx : aS → Nat → Option (aS × (Option Nat ⊕ Nat))) (st : aS) (a0 : Nat) (x1 : Int32) (x2 : Int32) : Option (aS × ((Option Nat) ⊕ Nat)) :=
  if x1 = (70 : Int32) then
    if x2 = (78 : Int32) then
      af_X3_function_L120 n S rx st a0 x1
    else
      some (st, .inl (none : Option Nat))
  else
    some (st, .inl (none : Option Nat))
def af_X3_function_L42 (n : Nat) (S : Nat → Nat) (rx : aS → Nat → Option (aS × (Option Nat ⊕ Nat))) (st : aS) (a0 : Nat) (x1 : Int32) (x2 : Int32) : Option (aS × ((Option Nat) ⊕ Nat)) :=
  if x1 = (83 : Int32) then
    if x2 = (71 : Int32) then
      (gI st a0 2 4).bind fun v_3 =>
      if v_3 = 0 then
        af_X3_function_L97 n S rx st a0 x1
      else
        (gI st a0 2 3).bind fun v_5 =>
        if v_5 = 0 then
          (gI st a0 2 2).bind fun v_7 =>
          (gI st a0 2 1).bind fun v_8 =>
          if v_8 ≤ (v_7 + (2 : Int32)) then
            af_X3_function_L97 n S rx st a0 x1
          else
            (gR st a0 2 0).bind fun r_10 =>
            (gI st a0 2 2).bind fun v_11 =>
            (r_10).bind fun a_12 =>
            (lI st a_12 0 (v_11 + (2 : Int32))).bind fun v_13 =>
            if v_13 = (79 : Int32) then
              af_X3_function_L106 n S rx st a0 x1 x2
            else
              af_X3_function_L97 n S rx st a0 x1
        else
          af_X3_function_L97 n S rx st a0 x1
    else
      af_X3_function_L106 n S rx st a0 x1 x2
  else
    af_X3_function_L106 n S rx st a0 x1 x2
def af_X3_function_L21 (n : Nat) (S : Nat → Nat) (rx : aS → Nat → Option (aS × (Option Nat ⊕ Nat))) (st : aS) (a0 : Nat) (x1 : Int32) (x2 : Int32) : Option (aS × ((Option Nat) ⊕ Nat)) :=
  if x1 = (73 : Int32) then
    if x2 = (78 : Int32) then
      (gC st a0 2).bind fun u_5 =>
      xb (af_X3_take_2 n S st a0 (some (S 18))) fun st_3 u_4 =>
      af_X3_function_L120 n S rx st_3 a0 x1
    else
      af_X3_function_L42 n S rx st a0 x1 x2
  else
    af_X3_function_L42 n S rx st a0 x1 x2
def af_X3_function (n : Nat) (S : Nat → Nat) (rx : aS → Nat → Option (aS × (Option Nat ⊕ Nat))) (st : aS) (a0 : Nat) (p1 : Int32) (p2 : Int32) : Option (aS × ((Option Nat) ⊕ Nat)) :=
  if p1 = (65 : Int32) then
    if p2 = (66 : Int32) then
      (gC st a0 2).bind fun u_5 =>
      xb (af_X3_take_2 n S st a0 (some (S 17))) fun st_3 u_4 =>
      af_X3_function_L120 n S rx st_3 a0 p1
    else
      af_X3_function_L21 n S rx st a0 p1 p2
  else
    af_X3_function_L21 n S rx st a0 p1 p2
/-! BasicMachine$Parser.isVariable(C)Z -/
def af_X3_isVariable (n : Nat) (S : Nat → Nat) (st : aS) (p0 : Int32) : Option (aS × (Int32)) :=
  if p0 < (65 : Int32) then
    some (st, (0 : Int32))
  else
    if (90 : Int32) < p0 then
      some (st, (0 : Int32))
    else
      cb (af_X3_isMatrix n S st p0) fun st_3 v_4 =>
      if v_4 = 0 then
        some (st_3, (1 : Int32))
      else
        some (st_3, (0 : Int32))
/-! BasicMachine$Parser.variable()I -/
def af_X3_variable (n : Nat) (S : Nat → Nat) (st : aS) (a0 : Nat) : Option (aS × ((Int32) ⊕ Nat)) :=
  (gC st a0 2).bind fun u_3 =>
  cb (af_X3_here n S st a0) fun st_1 v_2 =>
  cb (af_X3_isVariable n S st_1 v_2) fun st_4 v_5 =>
  (gC st_4 a0 2).bind fun u_8 =>
  xb (af_X3_need n S st_4 a0 v_5) fun st_6 u_7 =>
  (gI st_6 a0 2 2).bind fun v_9 =>
  (pF st_6 a0 2 2 (.int (v_9 + (1 : Int32)))).bind fun st_10 =>
  (gR st_10 a0 2 0).bind fun r_11 =>
  (gI st_10 a0 2 2).bind fun v_12 =>
  (r_11).bind fun a_13 =>
  (lI st_10 a_13 0 (v_12 - (1 : Int32))).bind fun v_14 =>
  some (st_10, .inl (v_14 - (65 : Int32)))
/-! BasicMachine$Variable.<init>(I)V -/
def af_X9_init (n : Nat) (S : Nat → Nat) (st : aS) (a0 : Nat) (p1 : Int32) : Option (aS × Unit) :=
  cb (af_J15_init n S st a0) fun st_1 u_2 =>
  (pF st_1 a0 8 0 (.int p1)).bind fun st_3 =>
  some (st_3, ())
/-! BasicMachine$Parser.part()LBasicMachine$Expression; -/
def af_X3_part_L72 (n : Nat) (S : Nat → Nat) (rx : aS → Nat → Option (aS × (Option Nat ⊕ Nat))) (st : aS) (a0 : Nat) : Option (aS × ((Option Nat) ⊕ Nat)) :=
  (nO st 8 [.int 0] 1).bind fun st_1 =>
  (gC st_1 a0 2).bind fun u_4 =>
  xb (af_X3_variable n S st_1 a0) fun st_2 v_3 =>
  cb (af_X9_init n S st_2 st.1 v_3) fun st_5 u_6 =>
  some (st_5, .inl (some st.1))
def af_X3_part (n : Nat) (S : Nat → Nat) (rx : aS → Nat → Option (aS × (Option Nat ⊕ Nat))) (st : aS) (a0 : Nat) : Option (aS × ((Option Nat) ⊕ Nat)) :=
  (gC st a0 2).bind fun u_3 =>
  cb (af_X3_here n S st a0) fun st_1 v_2 =>
  cb (af_X3_digit n S st_1 v_2) fun st_4 v_5 =>
  if v_5 = 0 then
    cb (af_X3_isMatrix n S st_4 v_2) fun st_7 v_8 =>
    if v_8 = 0 then
      (gI st_7 a0 2 3).bind fun v_10 =>
      if (6 : Int32) ≤ v_10 then
        af_X3_part_L72 n S rx st_7 a0
      else
        if v_2 = (40 : Int32) then
          (gC st_7 a0 2).bind fun u_22 =>
          xb (af_X3_inside n S rx st_7 a0) fun st_20 r_21 =>
          some (st_20, .inl r_21)
        else
          (gC st_7 a0 2).bind fun u_15 =>
          cb (af_X3_behind n S st_7 a0) fun st_13 v_14 =>
          (gC st_13 a0 2).bind fun u_18 =>
          xb (af_X3_function n S rx st_13 a0 v_2 v_14) fun st_16 r_17 =>
          if r_17 = none then
            af_X3_part_L72 n S rx st_16 a0
          else
            some (st_16, .inl r_17)
    else
      (gC st_7 a0 2).bind fun u_25 =>
      xb (af_X3_element n S rx st_7 a0) fun st_23 r_24 =>
      some (st_23, .inl r_24)
  else
    (nO st_4 5 [.double 0] 1).bind fun st_26 =>
    (gC st_26 a0 2).bind fun u_29 =>
    xb (af_X3_numeral n S st_26 a0) fun st_27 v_28 =>
    cb (af_X6_init n S st_27 st_4.1 v_28) fun st_30 u_31 =>
    some (st_30, .inl (some st_4.1))
/-! BasicMachine$Pair.<init>(CLBasicMachine$Expression;LBasicMachine$Expression;)V -/
def af_X10_init (n : Nat) (S : Nat → Nat) (st : aS) (a0 : Nat) (p1 : Int32) (p2 : Option Nat) (p3 : Option Nat) : Option (aS × Unit) :=
  cb (af_J15_init n S st a0) fun st_1 u_2 =>
  (cz p1).bind fun v_3 =>
  (pF st_1 a0 9 0 (.int v_3)).bind fun st_4 =>
  (pF st_4 a0 9 1 (va_rf p2)).bind fun st_5 =>
  (pF st_5 a0 9 2 (va_rf p3)).bind fun st_6 =>
  some (st_6, ())
/-! BasicMachine$Parser.power()LBasicMachine$Expression; -/
def af_X3_power_B5 (n : Nat) (S : Nat → Nat) (rx : aS → Nat → Option (aS × (Option Nat ⊕ Nat))) (rec : aS → Nat → Option Nat → Option (aS × ((Option Nat) ⊕ Nat))) (st : aS) (a0 : Nat) (x1 : Option Nat) : Option (aS × ((Option Nat) ⊕ Nat)) :=
  (gC st a0 2).bind fun u_3 =>
  cb (af_X3_takes n S st a0 (94 : Int32)) fun st_1 v_2 =>
  if v_2 = 0 then
    some (st_1, .inl x1)
  else
    (nO st_1 9 [.int 0, .null, .null] 3).bind fun st_5 =>
    (gC st_5 a0 2).bind fun u_8 =>
    xb (af_X3_part n S rx st_5 a0) fun st_6 r_7 =>
    cb (af_X10_init n S st_6 st_1.1 (94 : Int32) x1 r_7) fun st_9 u_10 =>
    rec st_9 a0 (some st_1.1)
def af_X3_power_S5 (n : Nat) (S : Nat → Nat) (rx : aS → Nat → Option (aS × (Option Nat ⊕ Nat))) : Nat → aS → Nat → Option Nat → Option (aS × ((Option Nat) ⊕ Nat))
  | 0, _, _, _ => none
  | k + 1, st, a0, x1 => af_X3_power_B5 n S rx (af_X3_power_S5 n S rx k) st a0 x1
def af_X3_power (n : Nat) (S : Nat → Nat) (rx : aS → Nat → Option (aS × (Option Nat ⊕ Nat))) (st : aS) (a0 : Nat) : Option (aS × ((Option Nat) ⊕ Nat)) :=
  (gC st a0 2).bind fun u_3 =>
  xb (af_X3_part n S rx st a0) fun st_1 r_2 =>
  af_X3_power_S5 n S rx n st_1 a0 r_2
/-! BasicMachine$Parser.term()LBasicMachine$Expression; -/
def af_X3_term_B5 (n : Nat) (S : Nat → Nat) (rx : aS → Nat → Option (aS × (Option Nat ⊕ Nat))) (rec : Nat → aS → Nat → Option Nat → Option (aS × ((Option Nat) ⊕ Nat))) (st : aS) (a0 : Nat) (x1 : Option Nat) : Option (aS × ((Option Nat) ⊕ Nat)) :=
  (gC st a0 2).bind fun u_3 =>
  cb (af_X3_here n S st a0) fun st_1 v_2 =>
  if v_2 = (42 : Int32) then
    rec 1 st_1 a0 x1
  else
    (gC st_1 a0 2).bind fun u_7 =>
    cb (af_X3_here n S st_1 a0) fun st_5 v_6 =>
    if v_6 = (47 : Int32) then
      rec 1 st_5 a0 x1
    else
      some (st_5, .inl x1)
def af_X3_term_B23 (n : Nat) (S : Nat → Nat) (rx : aS → Nat → Option (aS × (Option Nat ⊕ Nat))) (rec : Nat → aS → Nat → Option Nat → Option (aS × ((Option Nat) ⊕ Nat))) (st : aS) (a0 : Nat) (x1 : Option Nat) : Option (aS × ((Option Nat) ⊕ Nat)) :=
  (gC st a0 2).bind fun u_3 =>
  cb (af_X3_here n S st a0) fun st_1 v_2 =>
  (gI st_1 a0 2 2).bind fun v_4 =>
  (pF st_1 a0 2 2 (.int (v_4 + (1 : Int32)))).bind fun st_5 =>
  (nO st_5 9 [.int 0, .null, .null] 3).bind fun st_6 =>
  (gC st_6 a0 2).bind fun u_9 =>
  xb (af_X3_power n S rx st_6 a0) fun st_7 r_8 =>
  cb (af_X10_init n S st_7 st_5.1 v_2 x1 r_8) fun st_10 u_11 =>
  rec 0 st_10 a0 (some st_5.1)
def af_X3_term_S5 (n : Nat) (S : Nat → Nat) (rx : aS → Nat → Option (aS × (Option Nat ⊕ Nat))) : Nat → Nat → aS → Nat → Option Nat → Option (aS × ((Option Nat) ⊕ Nat))
  | 0, _, _, _, _ => none
  | k + 1, lb, st, a0, x1 => if lb = 0 then af_X3_term_B5 n S rx (af_X3_term_S5 n S rx k) st a0 x1 else af_X3_term_B23 n S rx (af_X3_term_S5 n S rx k) st a0 x1
def af_X3_term (n : Nat) (S : Nat → Nat) (rx : aS → Nat → Option (aS × (Option Nat ⊕ Nat))) (st : aS) (a0 : Nat) : Option (aS × ((Option Nat) ⊕ Nat)) :=
  (gC st a0 2).bind fun u_3 =>
  xb (af_X3_power n S rx st a0) fun st_1 r_2 =>
  af_X3_term_S5 n S rx n 0 st_1 a0 r_2
/-! BasicMachine$Parser.expression()LBasicMachine$Expression; -/
def af_X3_expression_B27 (n : Nat) (S : Nat → Nat) (rx : aS → Nat → Option (aS × (Option Nat ⊕ Nat))) (rec : Nat → aS → Nat → Option Nat → Option (aS × ((Option Nat) ⊕ Nat))) (st : aS) (a0 : Nat) (x2 : Option Nat) : Option (aS × ((Option Nat) ⊕ Nat)) :=
  (gC st a0 2).bind fun u_3 =>
  cb (af_X3_here n S st a0) fun st_1 v_2 =>
  if v_2 = (43 : Int32) then
    rec 1 st_1 a0 x2
  else
    (gC st_1 a0 2).bind fun u_7 =>
    cb (af_X3_here n S st_1 a0) fun st_5 v_6 =>
    if v_6 = (45 : Int32) then
      rec 1 st_5 a0 x2
    else
      some (st_5, .inl x2)
def af_X3_expression_B45 (n : Nat) (S : Nat → Nat) (rx : aS → Nat → Option (aS × (Option Nat ⊕ Nat))) (rec : Nat → aS → Nat → Option Nat → Option (aS × ((Option Nat) ⊕ Nat))) (st : aS) (a0 : Nat) (x2 : Option Nat) : Option (aS × ((Option Nat) ⊕ Nat)) :=
  (gC st a0 2).bind fun u_3 =>
  cb (af_X3_here n S st a0) fun st_1 v_2 =>
  (gI st_1 a0 2 2).bind fun v_4 =>
  (pF st_1 a0 2 2 (.int (v_4 + (1 : Int32)))).bind fun st_5 =>
  (nO st_5 9 [.int 0, .null, .null] 3).bind fun st_6 =>
  (gC st_6 a0 2).bind fun u_9 =>
  xb (af_X3_term n S rx st_6 a0) fun st_7 r_8 =>
  cb (af_X10_init n S st_7 st_5.1 v_2 x2 r_8) fun st_10 u_11 =>
  rec 0 st_10 a0 (some st_5.1)
def af_X3_expression_S27 (n : Nat) (S : Nat → Nat) (rx : aS → Nat → Option (aS × (Option Nat ⊕ Nat))) : Nat → Nat → aS → Nat → Option Nat → Option (aS × ((Option Nat) ⊕ Nat))
  | 0, _, _, _, _ => none
  | k + 1, lb, st, a0, x2 => if lb = 0 then af_X3_expression_B27 n S rx (af_X3_expression_S27 n S rx k) st a0 x2 else af_X3_expression_B45 n S rx (af_X3_expression_S27 n S rx k) st a0 x2
def af_X3_expression (n : Nat) (S : Nat → Nat) (rx : aS → Nat → Option (aS × (Option Nat ⊕ Nat))) (st : aS) (a0 : Nat) : Option (aS × ((Option Nat) ⊕ Nat)) :=
  (gC st a0 2).bind fun u_3 =>
  cb (af_X3_takes n S st a0 (45 : Int32)) fun st_1 v_2 =>
  (gC st_1 a0 2).bind fun u_6 =>
  xb (af_X3_term n S rx st_1 a0) fun st_4 r_5 =>
  if v_2 = 0 then
    af_X3_expression_S27 n S rx n 0 st_4 a0 r_5
  else
    (nO st_4 6 [.int 0, .null] 2).bind fun st_8 =>
    cb (af_X7_init n S st_8 st_4.1 (45 : Int32) r_5) fun st_9 u_10 =>
    af_X3_expression_S27 n S rx n 0 st_9 a0 (some st_4.1)
/-! dispatch.expression -/
def af_expr (n : Nat) (S : Nat → Nat) : Nat → aS → Nat → Option (aS × (Option Nat ⊕ Nat))
  | 0, _, _ => none
  | d + 1, st, a => af_X3_expression n S (af_expr n S d) st a
/-! BasicMachine$Place.<init>(LBasicMachine$Variable;LBasicMachine$Element;)V -/
def af_X5_init (n : Nat) (S : Nat → Nat) (st : aS) (a0 : Nat) (p1 : Option Nat) (p2 : Option Nat) : Option (aS × Unit) :=
  cb (af_J15_init n S st a0) fun st_1 u_2 =>
  (pF st_1 a0 4 0 (va_rf p1)).bind fun st_3 =>
  (pF st_3 a0 4 1 (va_rf p2)).bind fun st_4 =>
  some (st_4, ())
/-! BasicMachine$Parser.place()LBasicMachine$Place; -/
def af_X3_place (n : Nat) (S : Nat → Nat) (st : aS) (a0 : Nat) : Option (aS × ((Option Nat) ⊕ Nat)) :=
  (gC st a0 2).bind fun u_3 =>
  cb (af_X3_here n S st a0) fun st_1 v_2 =>
  cb (af_X3_isMatrix n S st_1 v_2) fun st_4 v_5 =>
  if v_5 = 0 then
    (nO st_4 4 [.null, .null] 2).bind fun st_7 =>
    (nO st_7 8 [.int 0] 1).bind fun st_8 =>
    (gC st_8 a0 2).bind fun u_11 =>
    xb (af_X3_variable n S st_8 a0) fun st_9 v_10 =>
    cb (af_X9_init n S st_9 st_7.1 v_10) fun st_12 u_13 =>
    cb (af_X5_init n S st_12 st_4.1 (some st_7.1) (none : Option Nat)) fun st_14 u_15 =>
    some (st_14, .inl (some st_4.1))
  else
    (nO st_4 4 [.null, .null] 2).bind fun st_16 =>
    (gC st_16 a0 2).bind fun u_19 =>
    xb (af_X3_element n S (af_expr n S dX) st_16 a0) fun st_17 r_18 =>
    cb (af_X5_init n S st_17 st_4.1 (none : Option Nat) r_18) fun st_20 u_21 =>
    some (st_20, .inl (some st_4.1))
/-! BasicMachine$Let.<init>(LBasicMachine$Place;LBasicMachine$Expression;)V -/
def af_X12_init (n : Nat) (S : Nat → Nat) (st : aS) (a0 : Nat) (p1 : Option Nat) (p2 : Option Nat) : Option (aS × Unit) :=
  cb (af_J15_init n S st a0) fun st_1 u_2 =>
  (pF st_1 a0 11 0 (va_rf p1)).bind fun st_3 =>
  (pF st_3 a0 11 1 (va_rf p2)).bind fun st_4 =>
  some (st_4, ())
/-! BasicMachine$Print.<init>(LBasicMachine$Expression;)V -/
def af_X13_init (n : Nat) (S : Nat → Nat) (st : aS) (a0 : Nat) (p1 : Option Nat) : Option (aS × Unit) :=
  cb (af_J15_init n S st a0) fun st_1 u_2 =>
  (pF st_1 a0 12 0 (va_rf p1)).bind fun st_3 =>
  some (st_3, ())
/-! BasicMachine$If.<init>(LBasicMachine$Expression;ILBasicMachine$Expression;I)V -/
def af_X14_init (n : Nat) (S : Nat → Nat) (st : aS) (a0 : Nat) (p1 : Option Nat) (p2 : Int32) (p3 : Option Nat) (p4 : Int32) : Option (aS × Unit) :=
  cb (af_J15_init n S st a0) fun st_1 u_2 =>
  (pF st_1 a0 13 0 (va_rf p1)).bind fun st_3 =>
  (pF st_3 a0 13 1 (.int p2)).bind fun st_4 =>
  (pF st_4 a0 13 2 (va_rf p3)).bind fun st_5 =>
  (pF st_5 a0 13 3 (.int p4)).bind fun st_6 =>
  some (st_6, ())
/-! BasicMachine$Parser.ifThen()LBasicMachine$Statement; -/
def af_X3_ifThen_L96 (n : Nat) (S : Nat → Nat) (st : aS) (a0 : Nat) (x1 : Option Nat) (x2 : Int32) (z96_1 : Int32) : Option (aS × ((Option Nat) ⊕ Nat)) :=
  (gC st a0 2).bind fun u_3 =>
  xb (af_X3_need n S st a0 z96_1) fun st_1 u_2 =>
  (gC st_1 a0 2).bind fun u_6 =>
  xb (af_expr n S dX st_1 a0) fun st_4 r_5 =>
  (gC st_4 a0 2).bind fun u_9 =>
  xb (af_X3_take_2 n S st_4 a0 (some (S 21))) fun st_7 u_8 =>
  (nO st_7 13 [.null, .int 0, .null, .int 0] 4).bind fun st_10 =>
  (gC st_10 a0 2).bind fun u_13 =>
  xb (af_X3_number n S st_10 a0) fun st_11 v_12 =>
  cb (af_X14_init n S st_11 st_7.1 x1 x2 r_5 v_12) fun st_14 u_15 =>
  some (st_14, .inl (some st_7.1))
def af_X3_ifThen_L85 (n : Nat) (S : Nat → Nat) (st : aS) (a0 : Nat) (x1 : Option Nat) (z85_0 : Int32) : Option (aS × ((Option Nat) ⊕ Nat)) :=
  if z85_0 ≤ 0 then
    af_X3_ifThen_L96 n S st a0 x1 z85_0 (0 : Int32)
  else
    af_X3_ifThen_L96 n S st a0 x1 z85_0 (1 : Int32)
def af_X3_ifThen (n : Nat) (S : Nat → Nat) (st : aS) (a0 : Nat) : Option (aS × ((Option Nat) ⊕ Nat)) :=
  (gC st a0 2).bind fun u_3 =>
  xb (af_expr n S dX st a0) fun st_1 r_2 =>
  (gC st_1 a0 2).bind fun u_6 =>
  cb (af_X3_takes n S st_1 a0 (61 : Int32)) fun st_4 v_5 =>
  if v_5 = 0 then
    (gC st_4 a0 2).bind fun u_10 =>
    cb (af_X3_takes n S st_4 a0 (60 : Int32)) fun st_8 v_9 =>
    if v_9 = 0 then
      (gC st_8 a0 2).bind fun u_14 =>
      cb (af_X3_takes n S st_8 a0 (62 : Int32)) fun st_12 v_13 =>
      if v_13 = 0 then
        af_X3_ifThen_L85 n S st_12 a0 r_2 (0 : Int32)
      else
        (gC st_12 a0 2).bind fun u_18 =>
        cb (af_X3_takes n S st_12 a0 (61 : Int32)) fun st_16 v_17 =>
        if v_17 = 0 then
          af_X3_ifThen_L85 n S st_16 a0 r_2 (4 : Int32)
        else
          af_X3_ifThen_L85 n S st_16 a0 r_2 (6 : Int32)
    else
      (gC st_8 a0 2).bind fun u_22 =>
      cb (af_X3_takes n S st_8 a0 (61 : Int32)) fun st_20 v_21 =>
      if v_21 = 0 then
        (gC st_20 a0 2).bind fun u_26 =>
        cb (af_X3_takes n S st_20 a0 (62 : Int32)) fun st_24 v_25 =>
        if v_25 = 0 then
          af_X3_ifThen_L85 n S st_24 a0 r_2 (1 : Int32)
        else
          af_X3_ifThen_L85 n S st_24 a0 r_2 (5 : Int32)
      else
        af_X3_ifThen_L85 n S st_20 a0 r_2 (3 : Int32)
  else
    af_X3_ifThen_L85 n S st_4 a0 r_2 (2 : Int32)
/-! BasicMachine$Goto.<init>(I)V -/
def af_X15_init (n : Nat) (S : Nat → Nat) (st : aS) (a0 : Nat) (p1 : Int32) : Option (aS × Unit) :=
  cb (af_J15_init n S st a0) fun st_1 u_2 =>
  (pF st_1 a0 14 0 (.int p1)).bind fun st_3 =>
  some (st_3, ())
/-! BasicMachine$On.<init>(LBasicMachine$Expression;[I)V -/
def af_X16_init (n : Nat) (S : Nat → Nat) (st : aS) (a0 : Nat) (p1 : Option Nat) (p2 : Option Nat) : Option (aS × Unit) :=
  cb (af_J15_init n S st a0) fun st_1 u_2 =>
  (pF st_1 a0 15 0 (va_rf p1)).bind fun st_3 =>
  (pF st_3 a0 15 1 (va_rf p2)).bind fun st_4 =>
  some (st_4, ())
/-! BasicMachine$Parser.on()LBasicMachine$Statement; -/
def af_X3_on_B54 (n : Nat) (S : Nat → Nat) (rec : aS → Nat → Option Nat → Option Nat → Int32 → Option Nat → Int32 → Option (aS × ((Option Nat) ⊕ Nat))) (st : aS) (a0 : Nat) (x1 : Option Nat) (x2 : Option Nat) (x3 : Int32) (x4 : Option Nat) (x5 : Int32) : Option (aS × ((Option Nat) ⊕ Nat)) :=
  if x3 ≤ x5 then
    (nO st 15 [.null, .null] 2).bind fun st_2 =>
    cb (af_X16_init n S st_2 st.1 x1 x4) fun st_3 u_4 =>
    some (st_3, .inl (some st.1))
  else
    (x2).bind fun a_5 =>
    (lI st a_5 1 x5).bind fun v_6 =>
    (x4).bind fun a_7 =>
    (wI st a_7 1 x5 v_6).bind fun st_8 =>
    rec st_8 a0 x1 (some a_5) x3 (some a_7) (x5 + (1 : Int32))
def af_X3_on_S54 (n : Nat) (S : Nat → Nat) : Nat → aS → Nat → Option Nat → Option Nat → Int32 → Option Nat → Int32 → Option (aS × ((Option Nat) ⊕ Nat))
  | 0, _, _, _, _, _, _, _ => none
  | k + 1, st, a0, x1, x2, x3, x4, x5 => af_X3_on_B54 n S (af_X3_on_S54 n S k) st a0 x1 x2 x3 x4 x5
def af_X3_on_L46 (n : Nat) (S : Nat → Nat) (st : aS) (a0 : Nat) (x1 : Option Nat) (x2 : Option Nat) (x3 : Int32) : Option (aS × ((Option Nat) ⊕ Nat)) :=
  (nA st 1 x3 (.inl (fun _ => 0))).bind fun st_1 =>
  af_X3_on_S54 n S n st_1 a0 x1 x2 x3 (some st.1) (0 : Int32)
def af_X3_on_B22 (n : Nat) (S : Nat → Nat) (rec : aS → Nat → Option Nat → Option Nat → Int32 → Option (aS × ((Option Nat) ⊕ Nat))) (st : aS) (a0 : Nat) (x1 : Option Nat) (x2 : Option Nat) (x3 : Int32) : Option (aS × ((Option Nat) ⊕ Nat)) :=
  (gC st a0 2).bind fun u_3 =>
  xb (af_X3_number n S st a0) fun st_1 v_2 =>
  (x2).bind fun a_4 =>
  (wI st_1 a_4 1 x3 v_2).bind fun st_5 =>
  if (4 : Int32) ≤ (x3 + (1 : Int32)) then
    af_X3_on_L46 n S st_5 a0 x1 (some a_4) (x3 + (1 : Int32))
  else
    (gC st_5 a0 2).bind fun u_9 =>
    cb (af_X3_takes n S st_5 a0 (44 : Int32)) fun st_7 v_8 =>
    if v_8 = 0 then
      af_X3_on_L46 n S st_7 a0 x1 (some a_4) (x3 + (1 : Int32))
    else
      rec st_7 a0 x1 (some a_4) (x3 + (1 : Int32))
def af_X3_on_S22 (n : Nat) (S : Nat → Nat) : Nat → aS → Nat → Option Nat → Option Nat → Int32 → Option (aS × ((Option Nat) ⊕ Nat))
  | 0, _, _, _, _, _ => none
  | k + 1, st, a0, x1, x2, x3 => af_X3_on_B22 n S (af_X3_on_S22 n S k) st a0 x1 x2 x3
def af_X3_on (n : Nat) (S : Nat → Nat) (st : aS) (a0 : Nat) : Option (aS × ((Option Nat) ⊕ Nat)) :=
  (pF st a0 2 4 (.int (1 : Int32))).bind fun st_1 =>
  (gC st_1 a0 2).bind fun u_4 =>
  xb (af_expr n S dX st_1 a0) fun st_2 r_3 =>
  (gC st_2 a0 2).bind fun u_7 =>
  xb (af_X3_take_2 n S st_2 a0 (some (S 3))) fun st_5 u_6 =>
  (nA st_5 1 (4 : Int32) (.inl (fun _ => 0))).bind fun st_8 =>
  af_X3_on_S22 n S n st_8 a0 r_3 (some st_5.1) (0 : Int32)
/-! BasicMachine$Gosub.<init>(I)V -/
def af_X17_init (n : Nat) (S : Nat → Nat) (st : aS) (a0 : Nat) (p1 : Int32) : Option (aS × Unit) :=
  cb (af_J15_init n S st a0) fun st_1 u_2 =>
  (pF st_1 a0 16 0 (.int p1)).bind fun st_3 =>
  some (st_3, ())
/-! BasicMachine$Return.<init>()V -/
def af_X18_init (n : Nat) (S : Nat → Nat) (st : aS) (a0 : Nat) : Option (aS × Unit) :=
  cb (af_J15_init n S st a0) fun st_1 u_2 =>
  some (st_1, ())
/-! BasicMachine$For.<init>(ILBasicMachine$Expression;LBasicMachine$Expression;LBasicMachine$Expression;)V -/
def af_X19_init (n : Nat) (S : Nat → Nat) (st : aS) (a0 : Nat) (p1 : Int32) (p2 : Option Nat) (p3 : Option Nat) (p4 : Option Nat) : Option (aS × Unit) :=
  cb (af_J15_init n S st a0) fun st_1 u_2 =>
  (pF st_1 a0 18 0 (.int p1)).bind fun st_3 =>
  (pF st_3 a0 18 1 (va_rf p2)).bind fun st_4 =>
  (pF st_4 a0 18 2 (va_rf p3)).bind fun st_5 =>
  (pF st_5 a0 18 3 (va_rf p4)).bind fun st_6 =>
  some (st_6, ())
/-! BasicMachine$Parser.loop()LBasicMachine$Statement; -/
def af_X3_loop (n : Nat) (S : Nat → Nat) (st : aS) (a0 : Nat) : Option (aS × ((Option Nat) ⊕ Nat)) :=
  (gC st a0 2).bind fun u_3 =>
  xb (af_X3_variable n S st a0) fun st_1 v_2 =>
  (gC st_1 a0 2).bind fun u_6 =>
  xb (af_X3_take n S st_1 a0 (61 : Int32)) fun st_4 u_5 =>
  (gC st_4 a0 2).bind fun u_9 =>
  xb (af_expr n S dX st_4 a0) fun st_7 r_8 =>
  (gC st_7 a0 2).bind fun u_12 =>
  xb (af_X3_take_2 n S st_7 a0 (some (S 22))) fun st_10 u_11 =>
  (gC st_10 a0 2).bind fun u_15 =>
  xb (af_expr n S dX st_10 a0) fun st_13 r_14 =>
  (gI st_13 a0 2 2).bind fun v_16 =>
  (gI st_13 a0 2 1).bind fun v_17 =>
  if v_16 < v_17 then
    (gC st_13 a0 2).bind fun u_21 =>
    xb (af_X3_take_2 n S st_13 a0 (some (S 23))) fun st_19 u_20 =>
    (nO st_19 18 [.int 0, .null, .null, .null] 4).bind fun st_22 =>
    (gC st_22 a0 2).bind fun u_25 =>
    xb (af_expr n S dX st_22 a0) fun st_23 r_24 =>
    cb (af_X19_init n S st_23 st_19.1 v_2 r_8 r_14 r_24) fun st_26 u_27 =>
    some (st_26, .inl (some st_19.1))
  else
    (nO st_13 18 [.int 0, .null, .null, .null] 4).bind fun st_28 =>
    cb (af_X19_init n S st_28 st_13.1 v_2 r_8 r_14 (none : Option Nat)) fun st_29 u_30 =>
    some (st_29, .inl (some st_13.1))
/-! BasicMachine$Next.<init>(I)V -/
def af_X20_init (n : Nat) (S : Nat → Nat) (st : aS) (a0 : Nat) (p1 : Int32) : Option (aS × Unit) :=
  cb (af_J15_init n S st a0) fun st_1 u_2 =>
  (pF st_1 a0 19 0 (.int p1)).bind fun st_3 =>
  some (st_3, ())
/-! BasicMachine$Read.<init>(LBasicMachine$Place;)V -/
def af_X21_init (n : Nat) (S : Nat → Nat) (st : aS) (a0 : Nat) (p1 : Option Nat) : Option (aS × Unit) :=
  cb (af_J15_init n S st a0) fun st_1 u_2 =>
  (pF st_1 a0 20 0 (va_rf p1)).bind fun st_3 =>
  some (st_3, ())
/-! BasicMachine$Data.<init>([D)V -/
def af_X22_init (n : Nat) (S : Nat → Nat) (st : aS) (a0 : Nat) (p1 : Option Nat) : Option (aS × Unit) :=
  cb (af_J15_init n S st a0) fun st_1 u_2 =>
  (pF st_1 a0 21 0 (va_rf p1)).bind fun st_3 =>
  some (st_3, ())
/-! BasicMachine$Parser.data()LBasicMachine$Statement; -/
def af_X3_data_B60 (n : Nat) (S : Nat → Nat) (rec : aS → Nat → Option Nat → Int32 → Option Nat → Int32 → Option (aS × ((Option Nat) ⊕ Nat))) (st : aS) (a0 : Nat) (x1 : Option Nat) (x2 : Int32) (x3 : Option Nat) (x4 : Int32) : Option (aS × ((Option Nat) ⊕ Nat)) :=
  if x2 ≤ x4 then
    (nO st 21 [.null] 1).bind fun st_2 =>
    cb (af_X22_init n S st_2 st.1 x3) fun st_3 u_4 =>
    some (st_3, .inl (some st.1))
  else
    (x1).bind fun a_5 =>
    (lD st a_5 x4).bind fun v_6 =>
    (x3).bind fun a_7 =>
    (wD st a_7 x4 v_6).bind fun st_8 =>
    rec st_8 a0 (some a_5) x2 (some a_7) (x4 + (1 : Int32))
def af_X3_data_S60 (n : Nat) (S : Nat → Nat) : Nat → aS → Nat → Option Nat → Int32 → Option Nat → Int32 → Option (aS × ((Option Nat) ⊕ Nat))
  | 0, _, _, _, _, _, _ => none
  | k + 1, st, a0, x1, x2, x3, x4 => af_X3_data_B60 n S (af_X3_data_S60 n S k) st a0 x1 x2 x3 x4
def af_X3_data_L53 (n : Nat) (S : Nat → Nat) (st : aS) (a0 : Nat) (x1 : Option Nat) (x2 : Int32) : Option (aS × ((Option Nat) ⊕ Nat)) :=
  (nA st 2 x2 (.inr (.inr (.inr (.inl (fun _ => 0)))))).bind fun st_1 =>
  af_X3_data_S60 n S n st_1 a0 x1 x2 (some st.1) (0 : Int32)
def af_X3_data_B7 (n : Nat) (S : Nat → Nat) (rec : Nat → aS → Nat → Option Nat → Int32 → Option Nat → Int32 → UInt64 → Option (aS × ((Option Nat) ⊕ Nat))) (st : aS) (a0 : Nat) (x1 : Option Nat) (x2 : Int32) (z34_0 : Option Nat) (z34_1 : Int32) (z34_2 : UInt64) : Option (aS × ((Option Nat) ⊕ Nat)) :=
  (gC st a0 2).bind fun u_3 =>
  cb (af_X3_takes n S st a0 (45 : Int32)) fun st_1 v_2 =>
  (gC st_1 a0 2).bind fun u_6 =>
  xb (af_X3_numeral n S st_1 a0) fun st_4 v_5 =>
  if v_2 = 0 then
    rec 1 st_4 a0 x1 x2 x1 x2 v_5
  else
    rec 1 st_4 a0 x1 x2 x1 x2 (FP.dneg v_5)
def af_X3_data_B34 (n : Nat) (S : Nat → Nat) (rec : Nat → aS → Nat → Option Nat → Int32 → Option Nat → Int32 → UInt64 → Option (aS × ((Option Nat) ⊕ Nat))) (st : aS) (a0 : Nat) (x1 : Option Nat) (x2 : Int32) (z34_0 : Option Nat) (z34_1 : Int32) (z34_2 : UInt64) : Option (aS × ((Option Nat) ⊕ Nat)) :=
  (z34_0).bind fun a_1 =>
  (wD st a_1 z34_1 z34_2).bind fun st_2 =>
  if (6 : Int32) ≤ (x2 + (1 : Int32)) then
    af_X3_data_L53 n S st_2 a0 x1 (x2 + (1 : Int32))
  else
    (gC st_2 a0 2).bind fun u_6 =>
    cb (af_X3_takes n S st_2 a0 (44 : Int32)) fun st_4 v_5 =>
    if v_5 = 0 then
      af_X3_data_L53 n S st_4 a0 x1 (x2 + (1 : Int32))
    else
      rec 0 st_4 a0 x1 (x2 + (1 : Int32)) (none : Option Nat) (0 : Int32) (0 : UInt64)
def af_X3_data_S7 (n : Nat) (S : Nat → Nat) : Nat → Nat → aS → Nat → Option Nat → Int32 → Option Nat → Int32 → UInt64 → Option (aS × ((Option Nat) ⊕ Nat))
  | 0, _, _, _, _, _, _, _, _ => none
  | k + 1, lb, st, a0, x1, x2, z34_0, z34_1, z34_2 => if lb = 0 then af_X3_data_B7 n S (af_X3_data_S7 n S k) st a0 x1 x2 z34_0 z34_1 z34_2 else af_X3_data_B34 n S (af_X3_data_S7 n S k) st a0 x1 x2 z34_0 z34_1 z34_2
def af_X3_data (n : Nat) (S : Nat → Nat) (st : aS) (a0 : Nat) : Option (aS × ((Option Nat) ⊕ Nat)) :=
  (nA st 2 (6 : Int32) (.inr (.inr (.inr (.inl (fun _ => 0)))))).bind fun st_1 =>
  af_X3_data_S7 n S n 0 st_1 a0 (some st.1) (0 : Int32) (none : Option Nat) (0 : Int32) (0 : UInt64)
/-! BasicMachine$Restore.<init>()V -/
def af_X23_init (n : Nat) (S : Nat → Nat) (st : aS) (a0 : Nat) : Option (aS × Unit) :=
  cb (af_J15_init n S st a0) fun st_1 u_2 =>
  some (st_1, ())
/-! BasicMachine$Parser.size()I -/
def af_X3_size_L24 (n : Nat) (S : Nat → Nat) (st : aS) (a0 : Nat) (z24_1 : Int32) : Option (aS × ((Int32) ⊕ Nat)) :=
  (gC st a0 2).bind fun u_3 =>
  xb (af_X3_need n S st a0 z24_1) fun st_1 u_2 =>
  (gI st_1 a0 2 2).bind fun v_4 =>
  (pF st_1 a0 2 2 (.int (v_4 + (1 : Int32)))).bind fun st_5 =>
  (gR st_5 a0 2 0).bind fun r_6 =>
  (gI st_5 a0 2 2).bind fun v_7 =>
  (r_6).bind fun a_8 =>
  (lI st_5 a_8 0 (v_7 - (1 : Int32))).bind fun v_9 =>
  some (st_5, .inl (v_9 - (48 : Int32)))
def af_X3_size_L23 (n : Nat) (S : Nat → Nat) (st : aS) (a0 : Nat) : Option (aS × ((Int32) ⊕ Nat)) :=
  af_X3_size_L24 n S st a0 (0 : Int32)
def af_X3_size (n : Nat) (S : Nat → Nat) (st : aS) (a0 : Nat) : Option (aS × ((Int32) ⊕ Nat)) :=
  (gC st a0 2).bind fun u_3 =>
  cb (af_X3_here n S st a0) fun st_1 v_2 =>
  if v_2 < (49 : Int32) then
    af_X3_size_L23 n S st_1 a0
  else
    (gC st_1 a0 2).bind fun u_7 =>
    cb (af_X3_here n S st_1 a0) fun st_5 v_6 =>
    if (54 : Int32) < v_6 then
      af_X3_size_L23 n S st_5 a0
    else
      af_X3_size_L24 n S st_5 a0 (1 : Int32)
/-! BasicMachine$Dim.<init>(III)V -/
def af_X24_init (n : Nat) (S : Nat → Nat) (st : aS) (a0 : Nat) (p1 : Int32) (p2 : Int32) (p3 : Int32) : Option (aS × Unit) :=
  cb (af_J15_init n S st a0) fun st_1 u_2 =>
  (pF st_1 a0 23 0 (.int p1)).bind fun st_3 =>
  (pF st_3 a0 23 1 (.int p2)).bind fun st_4 =>
  (pF st_4 a0 23 2 (.int p3)).bind fun st_5 =>
  some (st_5, ())
/-! BasicMachine$Parser.dim()LBasicMachine$Statement; -/
def af_X3_dim (n : Nat) (S : Nat → Nat) (st : aS) (a0 : Nat) : Option (aS × ((Option Nat) ⊕ Nat)) :=
  (gC st a0 2).bind fun u_3 =>
  xb (af_X3_matrix n S st a0) fun st_1 v_2 =>
  (gC st_1 a0 2).bind fun u_6 =>
  xb (af_X3_take n S st_1 a0 (40 : Int32)) fun st_4 u_5 =>
  (gC st_4 a0 2).bind fun u_9 =>
  xb (af_X3_size n S st_4 a0) fun st_7 v_8 =>
  (gC st_7 a0 2).bind fun u_12 =>
  xb (af_X3_take n S st_7 a0 (44 : Int32)) fun st_10 u_11 =>
  (gC st_10 a0 2).bind fun u_15 =>
  xb (af_X3_size n S st_10 a0) fun st_13 v_14 =>
  (gC st_13 a0 2).bind fun u_18 =>
  xb (af_X3_take n S st_13 a0 (41 : Int32)) fun st_16 u_17 =>
  (nO st_16 23 [.int 0, .int 0, .int 0] 3).bind fun st_19 =>
  cb (af_X24_init n S st_19 st_16.1 v_2 v_8 v_14) fun st_20 u_21 =>
  some (st_20, .inl (some st_16.1))
/-! BasicMachine$Define.<init>(IILBasicMachine$Expression;)V -/
def af_X25_init (n : Nat) (S : Nat → Nat) (st : aS) (a0 : Nat) (p1 : Int32) (p2 : Int32) (p3 : Option Nat) : Option (aS × Unit) :=
  cb (af_J15_init n S st a0) fun st_1 u_2 =>
  (pF st_1 a0 24 0 (.int p1)).bind fun st_3 =>
  (pF st_3 a0 24 1 (.int p2)).bind fun st_4 =>
  (pF st_4 a0 24 2 (va_rf p3)).bind fun st_5 =>
  some (st_5, ())
/-! BasicMachine$Parser.define()LBasicMachine$Statement; -/
def af_X3_define (n : Nat) (S : Nat → Nat) (st : aS) (a0 : Nat) : Option (aS × ((Option Nat) ⊕ Nat)) :=
  (gC st a0 2).bind fun u_3 =>
  xb (af_X3_take_2 n S st a0 (some (S 20))) fun st_1 u_2 =>
  (gC st_1 a0 2).bind fun u_6 =>
  xb (af_X3_functionName n S st_1 a0) fun st_4 v_5 =>
  (gC st_4 a0 2).bind fun u_9 =>
  xb (af_X3_take n S st_4 a0 (40 : Int32)) fun st_7 u_8 =>
  (gC st_7 a0 2).bind fun u_12 =>
  xb (af_X3_variable n S st_7 a0) fun st_10 v_11 =>
  (gC st_10 a0 2).bind fun u_15 =>
  xb (af_X3_take n S st_10 a0 (41 : Int32)) fun st_13 u_14 =>
  (gC st_13 a0 2).bind fun u_18 =>
  xb (af_X3_take n S st_13 a0 (61 : Int32)) fun st_16 u_17 =>
  (nO st_16 24 [.int 0, .int 0, .null] 3).bind fun st_19 =>
  (gC st_19 a0 2).bind fun u_22 =>
  xb (af_expr n S dX st_19 a0) fun st_20 r_21 =>
  cb (af_X25_init n S st_20 st_16.1 v_5 v_11 r_21) fun st_23 u_24 =>
  some (st_23, .inl (some st_16.1))
/-! BasicMachine$Mat.<init>(ICIILBasicMachine$Expression;)V -/
def af_X26_init (n : Nat) (S : Nat → Nat) (st : aS) (a0 : Nat) (p1 : Int32) (p2 : Int32) (p3 : Int32) (p4 : Int32) (p5 : Option Nat) : Option (aS × Unit) :=
  cb (af_J15_init n S st a0) fun st_1 u_2 =>
  (pF st_1 a0 25 0 (.int p1)).bind fun st_3 =>
  (cz p2).bind fun v_4 =>
  (pF st_3 a0 25 1 (.int v_4)).bind fun st_5 =>
  (pF st_5 a0 25 2 (.int p3)).bind fun st_6 =>
  (pF st_6 a0 25 3 (.int p4)).bind fun st_7 =>
  (pF st_7 a0 25 4 (va_rf p5)).bind fun st_8 =>
  some (st_8, ())
/-! BasicMachine$Parser.mat()LBasicMachine$Statement; -/
def af_X3_mat_L62 (n : Nat) (S : Nat → Nat) (st : aS) (a0 : Nat) (x1 : Int32) (x2 : Int32) (z62_1 : Option Nat) : Option (aS × ((Option Nat) ⊕ Nat)) :=
  (gC st a0 2).bind fun u_3 =>
  xb (af_X3_take_2 n S st a0 z62_1) fun st_1 u_2 =>
  (nO st_1 25 [.int 0, .int 0, .int 0, .int 0, .null] 5).bind fun st_4 =>
  cb (af_X26_init n S st_4 st_1.1 x1 x2 x1 (-1 : Int32) (none : Option Nat)) fun st_5 u_6 =>
  some (st_5, .inl (some st_1.1))
def af_X3_mat_L34 (n : Nat) (S : Nat → Nat) (st : aS) (a0 : Nat) (x1 : Int32) (x2 : Int32) : Option (aS × ((Option Nat) ⊕ Nat)) :=
  if x2 = (90 : Int32) then
    af_X3_mat_L62 n S st a0 x1 x2 (some (S 24))
  else
    if x2 = (67 : Int32) then
      af_X3_mat_L62 n S st a0 x1 x2 (some (S 25))
    else
      af_X3_mat_L62 n S st a0 x1 x2 (some (S 26))
def af_X3_mat_L196 (n : Nat) (S : Nat → Nat) (st : aS) (a0 : Nat) (x1 : Int32) (x3 : Int32) (x4 : Int32) : Option (aS × ((Option Nat) ⊕ Nat)) :=
  (gI st a0 2 2).bind fun v_1 =>
  (pF st a0 2 2 (.int (v_1 + (1 : Int32)))).bind fun st_2 =>
  (nO st_2 25 [.int 0, .int 0, .int 0, .int 0, .null] 5).bind fun st_3 =>
  (gC st_3 a0 2).bind fun u_6 =>
  xb (af_X3_matrix n S st_3 a0) fun st_4 v_5 =>
  cb (af_X26_init n S st_4 st_2.1 x1 x4 x3 v_5 (none : Option Nat)) fun st_7 u_8 =>
  some (st_7, .inl (some st_2.1))
def af_X3_mat (n : Nat) (S : Nat → Nat) (st : aS) (a0 : Nat) : Option (aS × ((Option Nat) ⊕ Nat)) :=
  (gC st a0 2).bind fun u_3 =>
  xb (af_X3_matrix n S st a0) fun st_1 v_2 =>
  (gC st_1 a0 2).bind fun u_6 =>
  xb (af_X3_take n S st_1 a0 (61 : Int32)) fun st_4 u_5 =>
  (gC st_4 a0 2).bind fun u_9 =>
  cb (af_X3_here n S st_4 a0) fun st_7 v_8 =>
  if v_8 = (90 : Int32) then
    af_X3_mat_L34 n S st_7 a0 v_2 v_8
  else
    if v_8 = (67 : Int32) then
      af_X3_mat_L34 n S st_7 a0 v_2 v_8
    else
      if v_8 = (73 : Int32) then
        af_X3_mat_L34 n S st_7 a0 v_2 v_8
      else
        if v_8 = (84 : Int32) then
          (gC st_7 a0 2).bind fun u_41 =>
          xb (af_X3_take_2 n S st_7 a0 (some (S 27))) fun st_39 u_40 =>
          (gC st_39 a0 2).bind fun u_44 =>
          xb (af_X3_matrix n S st_39 a0) fun st_42 v_43 =>
          (gC st_42 a0 2).bind fun u_47 =>
          xb (af_X3_take n S st_42 a0 (41 : Int32)) fun st_45 u_46 =>
          (nO st_45 25 [.int 0, .int 0, .int 0, .int 0, .null] 5).bind fun st_48 =>
          cb (af_X26_init n S st_48 st_45.1 v_2 (84 : Int32) v_43 (-1 : Int32) (none : Option Nat)) fun st_49 u_50 =>
          some (st_49, .inl (some st_45.1))
        else
          if v_8 = (40 : Int32) then
            (gC st_7 a0 2).bind fun u_29 =>
            xb (af_X3_inside n S (af_expr n S dX) st_7 a0) fun st_27 r_28 =>
            (gC st_27 a0 2).bind fun u_32 =>
            xb (af_X3_take n S st_27 a0 (42 : Int32)) fun st_30 u_31 =>
            (nO st_30 25 [.int 0, .int 0, .int 0, .int 0, .null] 5).bind fun st_33 =>
            (gC st_33 a0 2).bind fun u_36 =>
            xb (af_X3_matrix n S st_33 a0) fun st_34 v_35 =>
            cb (af_X26_init n S st_34 st_30.1 v_2 (83 : Int32) v_35 (-1 : Int32) r_28) fun st_37 u_38 =>
            some (st_37, .inl (some st_30.1))
          else
            (gC st_7 a0 2).bind fun u_17 =>
            xb (af_X3_matrix n S st_7 a0) fun st_15 v_16 =>
            (gC st_15 a0 2).bind fun u_20 =>
            cb (af_X3_here n S st_15 a0) fun st_18 v_19 =>
            if v_19 = (43 : Int32) then
              af_X3_mat_L196 n S st_18 a0 v_2 v_16 v_19
            else
              if v_19 = (45 : Int32) then
                af_X3_mat_L196 n S st_18 a0 v_2 v_16 v_19
              else
                if v_19 = (42 : Int32) then
                  af_X3_mat_L196 n S st_18 a0 v_2 v_16 v_19
                else
                  (nO st_18 25 [.int 0, .int 0, .int 0, .int 0, .null] 5).bind fun st_24 =>
                  cb (af_X26_init n S st_24 st_18.1 v_2 (61 : Int32) v_16 (-1 : Int32) (none : Option Nat)) fun st_25 u_26 =>
                  some (st_25, .inl (some st_18.1))
/-! BasicMachine$Nothing.<init>(Z)V -/
def af_X27_init (n : Nat) (S : Nat → Nat) (st : aS) (a0 : Nat) (p1 : Int32) : Option (aS × Unit) :=
  cb (af_J15_init n S st a0) fun st_1 u_2 =>
  (bz p1).bind fun v_3 =>
  (pF st_1 a0 26 0 (.int v_3)).bind fun st_4 =>
  some (st_4, ())
/-! BasicMachine$Parser.statement()LBasicMachine$Statement; -/
def af_X3_statement_L379 (n : Nat) (S : Nat → Nat) (st : aS) (a0 : Nat) (x2 : Int32) : Option (aS × ((Option Nat) ⊕ Nat)) :=
  if x2 = (0 : Int32) then
    (gC st a0 2).bind fun u_4 =>
    xb (af_X3_place n S st a0) fun st_2 r_3 =>
    (gC st_2 a0 2).bind fun u_7 =>
    xb (af_X3_take n S st_2 a0 (61 : Int32)) fun st_5 u_6 =>
    (nO st_5 11 [.null, .null] 2).bind fun st_8 =>
    (gC st_8 a0 2).bind fun u_11 =>
    xb (af_expr n S dX st_8 a0) fun st_9 r_10 =>
    cb (af_X12_init n S st_9 st_5.1 r_3 r_10) fun st_12 u_13 =>
    some (st_12, .inl (some st_5.1))
  else
  if x2 = (1 : Int32) then
    (nO st 12 [.null] 1).bind fun st_15 =>
    (gC st_15 a0 2).bind fun u_18 =>
    xb (af_expr n S dX st_15 a0) fun st_16 r_17 =>
    cb (af_X13_init n S st_16 st.1 r_17) fun st_19 u_20 =>
    some (st_19, .inl (some st.1))
  else
  if x2 = (2 : Int32) then
    (gC st a0 2).bind fun u_24 =>
    xb (af_X3_ifThen n S st a0) fun st_22 r_23 =>
    some (st_22, .inl r_23)
  else
  if x2 = (3 : Int32) then
    (nO st 14 [.int 0] 1).bind fun st_26 =>
    (gC st_26 a0 2).bind fun u_29 =>
    xb (af_X3_number n S st_26 a0) fun st_27 v_28 =>
    cb (af_X15_init n S st_27 st.1 v_28) fun st_30 u_31 =>
    some (st_30, .inl (some st.1))
  else
  if x2 = (4 : Int32) then
    (gC st a0 2).bind fun u_35 =>
    xb (af_X3_on n S st a0) fun st_33 r_34 =>
    some (st_33, .inl r_34)
  else
  if x2 = (5 : Int32) then
    (nO st 16 [.int 0] 1).bind fun st_37 =>
    (gC st_37 a0 2).bind fun u_40 =>
    xb (af_X3_number n S st_37 a0) fun st_38 v_39 =>
    cb (af_X17_init n S st_38 st.1 v_39) fun st_41 u_42 =>
    some (st_41, .inl (some st.1))
  else
  if x2 = (6 : Int32) then
    (nO st 17 [] 0).bind fun st_44 =>
    cb (af_X18_init n S st_44 st.1) fun st_45 u_46 =>
    some (st_45, .inl (some st.1))
  else
  if x2 = (7 : Int32) then
    (gC st a0 2).bind fun u_50 =>
    xb (af_X3_loop n S st a0) fun st_48 r_49 =>
    some (st_48, .inl r_49)
  else
  if x2 = (8 : Int32) then
    (nO st 19 [.int 0] 1).bind fun st_52 =>
    (gC st_52 a0 2).bind fun u_55 =>
    xb (af_X3_variable n S st_52 a0) fun st_53 v_54 =>
    cb (af_X20_init n S st_53 st.1 v_54) fun st_56 u_57 =>
    some (st_56, .inl (some st.1))
  else
  if x2 = (9 : Int32) then
    (nO st 20 [.null] 1).bind fun st_59 =>
    (gC st_59 a0 2).bind fun u_62 =>
    xb (af_X3_place n S st_59 a0) fun st_60 r_61 =>
    cb (af_X21_init n S st_60 st.1 r_61) fun st_63 u_64 =>
    some (st_63, .inl (some st.1))
  else
  if x2 = (10 : Int32) then
    (gC st a0 2).bind fun u_68 =>
    xb (af_X3_data n S st a0) fun st_66 r_67 =>
    some (st_66, .inl r_67)
  else
  if x2 = (11 : Int32) then
    (nO st 22 [] 0).bind fun st_70 =>
    cb (af_X23_init n S st_70 st.1) fun st_71 u_72 =>
    some (st_71, .inl (some st.1))
  else
  if x2 = (12 : Int32) then
    (gC st a0 2).bind fun u_76 =>
    xb (af_X3_dim n S st a0) fun st_74 r_75 =>
    some (st_74, .inl r_75)
  else
  if x2 = (13 : Int32) then
    (gC st a0 2).bind fun u_80 =>
    xb (af_X3_define n S st a0) fun st_78 r_79 =>
    some (st_78, .inl r_79)
  else
  if x2 = (14 : Int32) then
    (gC st a0 2).bind fun u_84 =>
    xb (af_X3_mat n S st a0) fun st_82 r_83 =>
    some (st_82, .inl r_83)
  else
  if x2 = (15 : Int32) then
    (gI st a0 2 1).bind fun v_86 =>
    (pF st a0 2 2 (.int v_86)).bind fun st_87 =>
    (nO st_87 26 [.int 0] 1).bind fun st_88 =>
    cb (af_X27_init n S st_88 st_87.1 (0 : Int32)) fun st_89 u_90 =>
    some (st_89, .inl (some st_87.1))
  else
  (nO st 26 [.int 0] 1).bind fun st_91 =>
  cb (af_X27_init n S st_91 st.1 (1 : Int32)) fun st_92 u_93 =>
  some (st_92, .inl (some st.1))
def af_X3_statement (n : Nat) (S : Nat → Nat) (st : aS) (a0 : Nat) : Option (aS × ((Option Nat) ⊕ Nat)) :=
  (gC st a0 2).bind fun u_3 =>
  xb (af_X3_word n S st a0) fun st_1 r_2 =>
  (r_2).bind fun a_4 =>
  (sHash S a_4).bind fun v_5 =>
  if v_5 = (-1881067216 : Int32) then
    (sEq S a_4 (some (S 6))).bind fun v_7 =>
    if v_7 = 0 then
      af_X3_statement_L379 n S st_1 a0 (-1 : Int32)
    else
      af_X3_statement_L379 n S st_1 a0 (6 : Int32)
  else
  if v_5 = (2333 : Int32) then
    (sEq S a_4 (some (S 2))).bind fun v_10 =>
    if v_10 = 0 then
      af_X3_statement_L379 n S st_1 a0 (-1 : Int32)
    else
      af_X3_statement_L379 n S st_1 a0 (2 : Int32)
  else
  if v_5 = (2527 : Int32) then
    (sEq S a_4 (some (S 4))).bind fun v_13 =>
    if v_13 = 0 then
      af_X3_statement_L379 n S st_1 a0 (-1 : Int32)
    else
      af_X3_statement_L379 n S st_1 a0 (4 : Int32)
  else
  if v_5 = (67557 : Int32) then
    (sEq S a_4 (some (S 13))).bind fun v_16 =>
    if v_16 = 0 then
      af_X3_statement_L379 n S st_1 a0 (-1 : Int32)
    else
      af_X3_statement_L379 n S st_1 a0 (13 : Int32)
  else
  if v_5 = (67688 : Int32) then
    (sEq S a_4 (some (S 12))).bind fun v_19 =>
    if v_19 = 0 then
      af_X3_statement_L379 n S st_1 a0 (-1 : Int32)
    else
      af_X3_statement_L379 n S st_1 a0 (12 : Int32)
  else
  if v_5 = (69801 : Int32) then
    (sEq S a_4 (some (S 7))).bind fun v_22 =>
    if v_22 = 0 then
      af_X3_statement_L379 n S st_1 a0 (-1 : Int32)
    else
      af_X3_statement_L379 n S st_1 a0 (7 : Int32)
  else
  if v_5 = (75259 : Int32) then
    (sEq S a_4 (some (S 0))).bind fun v_25 =>
    if v_25 = 0 then
      af_X3_statement_L379 n S st_1 a0 (-1 : Int32)
    else
      af_X3_statement_L379 n S st_1 a0 (0 : Int32)
  else
  if v_5 = (76096 : Int32) then
    (sEq S a_4 (some (S 14))).bind fun v_28 =>
    if v_28 = 0 then
      af_X3_statement_L379 n S st_1 a0 (-1 : Int32)
    else
      af_X3_statement_L379 n S st_1 a0 (14 : Int32)
  else
  if v_5 = (81018 : Int32) then
    (sEq S a_4 (some (S 15))).bind fun v_31 =>
    if v_31 = 0 then
      af_X3_statement_L379 n S st_1 a0 (-1 : Int32)
    else
      af_X3_statement_L379 n S st_1 a0 (15 : Int32)
  else
  if v_5 = (2090922 : Int32) then
    (sEq S a_4 (some (S 10))).bind fun v_34 =>
    if v_34 = 0 then
      af_X3_statement_L379 n S st_1 a0 (-1 : Int32)
    else
      af_X3_statement_L379 n S st_1 a0 (10 : Int32)
  else
  if v_5 = (2193763 : Int32) then
    (sEq S a_4 (some (S 3))).bind fun v_37 =>
    if v_37 = 0 then
      af_X3_statement_L379 n S st_1 a0 (-1 : Int32)
    else
      af_X3_statement_L379 n S st_1 a0 (3 : Int32)
  else
  if v_5 = (2392819 : Int32) then
    (sEq S a_4 (some (S 8))).bind fun v_40 =>
    if v_40 = 0 then
      af_X3_statement_L379 n S st_1 a0 (-1 : Int32)
    else
      af_X3_statement_L379 n S st_1 a0 (8 : Int32)
  else
  if v_5 = (2511254 : Int32) then
    (sEq S a_4 (some (S 9))).bind fun v_43 =>
    if v_43 = 0 then
      af_X3_statement_L379 n S st_1 a0 (-1 : Int32)
    else
      af_X3_statement_L379 n S st_1 a0 (9 : Int32)
  else
  if v_5 = (68005944 : Int32) then
    (sEq S a_4 (some (S 5))).bind fun v_46 =>
    if v_46 = 0 then
      af_X3_statement_L379 n S st_1 a0 (-1 : Int32)
    else
      af_X3_statement_L379 n S st_1 a0 (5 : Int32)
  else
  if v_5 = (76397197 : Int32) then
    (sEq S a_4 (some (S 1))).bind fun v_49 =>
    if v_49 = 0 then
      af_X3_statement_L379 n S st_1 a0 (-1 : Int32)
    else
      af_X3_statement_L379 n S st_1 a0 (1 : Int32)
  else
  if v_5 = (1815502446 : Int32) then
    (sEq S a_4 (some (S 11))).bind fun v_52 =>
    if v_52 = 0 then
      af_X3_statement_L379 n S st_1 a0 (-1 : Int32)
    else
      af_X3_statement_L379 n S st_1 a0 (11 : Int32)
  else
  af_X3_statement_L379 n S st_1 a0 (-1 : Int32)
/-! BasicMachine$Parser.line()LBasicMachine$Line; -/
def af_X3_line_L48 (n : Nat) (S : Nat → Nat) (st : aS) (a0 : Nat) (x1 : Int32) (x2 : Option Nat) (z48_1 : Int32) : Option (aS × ((Option Nat) ⊕ Nat)) :=
  (gC st a0 2).bind fun u_3 =>
  xb (af_X3_need n S st a0 z48_1) fun st_1 u_2 =>
  (nO st_1 3 [.int 0, .null, .null] 3).bind fun st_4 =>
  cb (af_X4_init n S st_4 st_1.1 x1 x2) fun st_5 u_6 =>
  some (st_5, .inl (some st_1.1))
def af_X3_line (n : Nat) (S : Nat → Nat) (st : aS) (a0 : Nat) : Option (aS × ((Option Nat) ⊕ Nat)) :=
  (gC st a0 2).bind fun u_3 =>
  xb (af_X3_number n S st a0) fun st_1 v_2 =>
  (gI st_1 a0 2 2).bind fun v_4 =>
  (gI st_1 a0 2 1).bind fun v_5 =>
  if v_4 < v_5 then
    (gC st_1 a0 2).bind fun u_9 =>
    xb (af_X3_statement n S st_1 a0) fun st_7 r_8 =>
    (gI st_7 a0 2 2).bind fun v_10 =>
    (gI st_7 a0 2 1).bind fun v_11 =>
    if v_10 < v_11 then
      af_X3_line_L48 n S st_7 a0 v_2 r_8 (0 : Int32)
    else
      af_X3_line_L48 n S st_7 a0 v_2 r_8 (1 : Int32)
  else
    (nO st_1 3 [.int 0, .null, .null] 3).bind fun st_13 =>
    cb (af_X4_init n S st_13 st_1.1 v_2 (none : Option Nat)) fun st_14 u_15 =>
    some (st_14, .inl (some st_1.1))
/-! BasicMachine.parse()LBasicMachine$Line; -/
def af_X1_parse_B9 (n : Nat) (S : Nat → Nat) (rec : Nat → aS → Nat → Option Nat → Int32 → Int32 → Option (aS × ((Option Nat) ⊕ Nat))) (st : aS) (a0 : Nat) (x1 : Option Nat) (x2 : Int32) (x3 : Int32) : Option (aS × ((Option Nat) ⊕ Nat)) :=
  (gI st a0 0 1).bind fun v_1 =>
  if v_1 ≤ x3 then
    (pF st a0 0 1 (.int (0 : Int32))).bind fun st_3 =>
    (pF st_3 a0 0 2 (.int (-1 : Int32))).bind fun st_4 =>
    (nO st_4 2 [.null, .int 0, .int 0, .int 0, .int 0, .null] 6).bind fun st_5 =>
    cb (af_X3_init n S st_5 st_4.1 x1 x2) fun st_6 u_7 =>
    (gC st_6 st_4.1 2).bind fun u_10 =>
    xc (af_X3_line n S st_6 st_4.1) (fun st_8 r_9 =>
      some (st_8, .inl r_9)
    ) (fun st_8 k9 =>
      if k9 = 0 then
        (gI st_8 st_4.1 2 2).bind fun v_12 =>
        (pF st_8 a0 0 2 (.int v_12)).bind fun st_13 =>
        aTw st_13 0
      else
      none
    )
  else
    (gR st a0 0 0).bind fun r_14 =>
    (r_14).bind fun a_15 =>
    (lI st a_15 0 x3).bind fun v_16 =>
    if v_16 = (32 : Int32) then
      rec 1 st a0 x1 x2 x3
    else
      (gR st a0 0 0).bind fun r_18 =>
      (r_18).bind fun a_19 =>
      (lI st a_19 0 x3).bind fun v_20 =>
      (x1).bind fun a_21 =>
      (wI st a_21 0 x2 (vp_nar .char v_20)).bind fun st_22 =>
      rec 1 st_22 a0 (some a_21) (x2 + (1 : Int32)) x3
def af_X1_parse_B43 (n : Nat) (S : Nat → Nat) (rec : Nat → aS → Nat → Option Nat → Int32 → Int32 → Option (aS × ((Option Nat) ⊕ Nat))) (st : aS) (a0 : Nat) (x1 : Option Nat) (x2 : Int32) (x3 : Int32) : Option (aS × ((Option Nat) ⊕ Nat)) :=
  rec 0 st a0 x1 x2 (x3 + (1 : Int32))
def af_X1_parse_S9 (n : Nat) (S : Nat → Nat) : Nat → Nat → aS → Nat → Option Nat → Int32 → Int32 → Option (aS × ((Option Nat) ⊕ Nat))
  | 0, _, _, _, _, _, _ => none
  | k + 1, lb, st, a0, x1, x2, x3 => if lb = 0 then af_X1_parse_B9 n S (af_X1_parse_S9 n S k) st a0 x1 x2 x3 else af_X1_parse_B43 n S (af_X1_parse_S9 n S k) st a0 x1 x2 x3
def af_X1_parse (n : Nat) (S : Nat → Nat) (st : aS) (a0 : Nat) : Option (aS × ((Option Nat) ⊕ Nat)) :=
  (nA st 0 (60 : Int32) (.inl (fun _ => 0))).bind fun st_1 =>
  af_X1_parse_S9 n S n 0 st_1 a0 (some st.1) (0 : Int32) (0 : Int32)
/-! BasicMachine.lineOrNull(I)LBasicMachine$Line; -/
def af_X1_lineOrNull_B5 (n : Nat) (S : Nat → Nat) (rec : aS → Nat → Int32 → Option Nat → Option (aS × (Option Nat))) (st : aS) (a0 : Nat) (x1 : Int32) (x2 : Option Nat) : Option (aS × (Option Nat)) :=
  if x2 = none then
    some (st, x2)
  else
    (x2).bind fun a_2 =>
    (gI st a_2 3 0).bind fun v_3 =>
    if v_3 = x1 then
      some (st, (some a_2))
    else
      (gR st a_2 3 2).bind fun r_5 =>
      rec st a0 x1 r_5
def af_X1_lineOrNull_S5 (n : Nat) (S : Nat → Nat) : Nat → aS → Nat → Int32 → Option Nat → Option (aS × (Option Nat))
  | 0, _, _, _, _ => none
  | k + 1, st, a0, x1, x2 => af_X1_lineOrNull_B5 n S (af_X1_lineOrNull_S5 n S k) st a0 x1 x2
def af_X1_lineOrNull (n : Nat) (S : Nat → Nat) (st : aS) (a0 : Nat) (p1 : Int32) : Option (aS × (Option Nat)) :=
  (gR st a0 0 3).bind fun r_1 =>
  af_X1_lineOrNull_S5 n S n st a0 p1 r_1
/-! BasicMachine.unlink(LBasicMachine$Line;)V -/
def af_X1_unlink_B21 (n : Nat) (S : Nat → Nat) (rec : Nat → aS → Nat → Option Nat → Option Nat → Option (aS × Unit)) (st : aS) (a0 : Nat) (x1 : Option Nat) (x2 : Option Nat) : Option (aS × Unit) :=
  if x2 = none then
    (gI st a0 0 4).bind fun v_2 =>
    (pF st a0 0 4 (.int (v_2 - (1 : Int32)))).bind fun st_3 =>
    some (st_3, ())
  else
    (x2).bind fun a_4 =>
    (gR st a_4 3 2).bind fun r_5 =>
    if r_5 = x1 then
      (x1).bind fun a_7 =>
      (gR st a_7 3 2).bind fun r_8 =>
      (pF st a_4 3 2 (va_rf r_8)).bind fun st_9 =>
      rec 1 st_9 a0 (some a_7) (some a_4)
    else
      rec 1 st a0 x1 (some a_4)
def af_X1_unlink_B41 (n : Nat) (S : Nat → Nat) (rec : Nat → aS → Nat → Option Nat → Option Nat → Option (aS × Unit)) (st : aS) (a0 : Nat) (x1 : Option Nat) (x2 : Option Nat) : Option (aS × Unit) :=
  (x2).bind fun a_1 =>
  (gR st a_1 3 2).bind fun r_2 =>
  rec 0 st a0 x1 r_2
def af_X1_unlink_S21 (n : Nat) (S : Nat → Nat) : Nat → Nat → aS → Nat → Option Nat → Option Nat → Option (aS × Unit)
  | 0, _, _, _, _, _ => none
  | k + 1, lb, st, a0, x1, x2 => if lb = 0 then af_X1_unlink_B21 n S (af_X1_unlink_S21 n S k) st a0 x1 x2 else af_X1_unlink_B41 n S (af_X1_unlink_S21 n S k) st a0 x1 x2
def af_X1_unlink_L16 (n : Nat) (S : Nat → Nat) (st : aS) (a0 : Nat) (x1 : Option Nat) : Option (aS × Unit) :=
  (gR st a0 0 3).bind fun r_1 =>
  af_X1_unlink_S21 n S n 0 st a0 x1 r_1
def af_X1_unlink (n : Nat) (S : Nat → Nat) (st : aS) (a0 : Nat) (p1 : Option Nat) : Option (aS × Unit) :=
  (gR st a0 0 3).bind fun r_1 =>
  if r_1 = p1 then
    (p1).bind fun a_3 =>
    (gR st a_3 3 2).bind fun r_4 =>
    (pF st a0 0 3 (va_rf r_4)).bind fun st_5 =>
    af_X1_unlink_L16 n S st_5 a0 (some a_3)
  else
    af_X1_unlink_L16 n S st a0 p1
/-! BasicMachine.link(LBasicMachine$Line;)V -/
def af_X1_link_L79 (n : Nat) (S : Nat → Nat) (st : aS) (a0 : Nat) (x1 : Option Nat) (x2 : Option Nat) : Option (aS × Unit) :=
  (x2).bind fun a_1 =>
  (gR st a_1 3 2).bind fun r_2 =>
  (x1).bind fun a_3 =>
  (pF st a_3 3 2 (va_rf r_2)).bind fun st_4 =>
  (pF st_4 a_1 3 2 (va_rf (some a_3))).bind fun st_5 =>
  some (st_5, ())
def af_X1_link_B50 (n : Nat) (S : Nat → Nat) (rec : aS → Nat → Option Nat → Option Nat → Option (aS × Unit)) (st : aS) (a0 : Nat) (x1 : Option Nat) (x2 : Option Nat) : Option (aS × Unit) :=
  (x2).bind fun a_1 =>
  (gR st a_1 3 2).bind fun r_2 =>
  if r_2 = none then
    af_X1_link_L79 n S st a0 x1 (some a_1)
  else
    (gR st a_1 3 2).bind fun r_4 =>
    (r_4).bind fun a_5 =>
    (gI st a_5 3 0).bind fun v_6 =>
    (x1).bind fun a_7 =>
    (gI st a_7 3 0).bind fun v_8 =>
    if v_8 ≤ v_6 then
      af_X1_link_L79 n S st a0 (some a_7) (some a_1)
    else
      (gR st a_1 3 2).bind fun r_10 =>
      rec st a0 (some a_7) r_10
def af_X1_link_S50 (n : Nat) (S : Nat → Nat) : Nat → aS → Nat → Option Nat → Option Nat → Option (aS × Unit)
  | 0, _, _, _, _ => none
  | k + 1, st, a0, x1, x2 => af_X1_link_B50 n S (af_X1_link_S50 n S k) st a0 x1 x2
def af_X1_link_L31 (n : Nat) (S : Nat → Nat) (st : aS) (a0 : Nat) (x1 : Option Nat) : Option (aS × Unit) :=
  (gR st a0 0 3).bind fun r_1 =>
  (x1).bind fun a_2 =>
  (pF st a_2 3 2 (va_rf r_1)).bind fun st_3 =>
  (pF st_3 a0 0 3 (va_rf (some a_2))).bind fun st_4 =>
  some (st_4, ())
def af_X1_link (n : Nat) (S : Nat → Nat) (st : aS) (a0 : Nat) (p1 : Option Nat) : Option (aS × Unit) :=
  (gI st a0 0 4).bind fun v_1 =>
  (pF st a0 0 4 (.int (v_1 + (1 : Int32)))).bind fun st_2 =>
  (gR st_2 a0 0 3).bind fun r_3 =>
  if r_3 = none then
    af_X1_link_L31 n S st_2 a0 p1
  else
    (gR st_2 a0 0 3).bind fun r_5 =>
    (r_5).bind fun a_6 =>
    (gI st_2 a_6 3 0).bind fun v_7 =>
    (p1).bind fun a_8 =>
    (gI st_2 a_8 3 0).bind fun v_9 =>
    if v_7 ≤ v_9 then
      (gR st_2 a0 0 3).bind fun r_11 =>
      af_X1_link_S50 n S n st_2 a0 (some a_8) r_11
    else
      af_X1_link_L31 n S st_2 a0 (some a_8)
/-! BasicMachine.enter()I -/
def af_X1_enter_L63 (n : Nat) (S : Nat → Nat) (st : aS) (a0 : Nat) (x1 : Option Nat) : Option (aS × ((Int32) ⊕ Nat)) :=
  (x1).bind fun a_1 =>
  (gR st a_1 3 1).bind fun r_2 =>
  if r_2 = none then
    (gI st a0 0 4).bind fun v_4 =>
    some (st, .inl v_4)
  else
    (gC st a0 0).bind fun u_7 =>
    cb (af_X1_link n S st a0 (some a_1)) fun st_5 u_6 =>
    (gI st_5 a0 0 4).bind fun v_8 =>
    some (st_5, .inl v_8)
def af_X1_enter_L54 (n : Nat) (S : Nat → Nat) (st : aS) (a0 : Nat) (x1 : Option Nat) (x2 : Option Nat) : Option (aS × ((Int32) ⊕ Nat)) :=
  if x2 = none then
    af_X1_enter_L63 n S st a0 x1
  else
    (gC st a0 0).bind fun u_4 =>
    cb (af_X1_unlink n S st a0 x2) fun st_2 u_3 =>
    af_X1_enter_L63 n S st_2 a0 x1
def af_X1_enter_L33 (n : Nat) (S : Nat → Nat) (st : aS) (a0 : Nat) (x1 : Option Nat) (x2 : Option Nat) : Option (aS × ((Int32) ⊕ Nat)) :=
  if x2 = none then
    (gI st a0 0 4).bind fun v_2 =>
    if v_2 = (24 : Int32) then
      aTw st 1
    else
      af_X1_enter_L54 n S st a0 x1 x2
  else
    af_X1_enter_L54 n S st a0 x1 x2
def af_X1_enter (n : Nat) (S : Nat → Nat) (st : aS) (a0 : Nat) : Option (aS × ((Int32) ⊕ Nat)) :=
  (gC st a0 0).bind fun u_3 =>
  xb (af_X1_parse n S st a0) fun st_1 r_2 =>
  (r_2).bind fun a_4 =>
  (gI st_1 a_4 3 0).bind fun v_5 =>
  (gC st_1 a0 0).bind fun u_8 =>
  cb (af_X1_lineOrNull n S st_1 a0 v_5) fun st_6 r_7 =>
  (gR st_6 a_4 3 1).bind fun r_9 =>
  if r_9 = none then
    if r_7 = none then
      aTw st_6 2
    else
      af_X1_enter_L33 n S st_6 a0 (some a_4) r_7
  else
    af_X1_enter_L33 n S st_6 a0 (some a_4) r_7
/-! BasicMachine.errorAt()I -/
def af_X1_errorAt (n : Nat) (S : Nat → Nat) (st : aS) (a0 : Nat) : Option (aS × (Int32)) :=
  (gI st a0 0 2).bind fun v_1 =>
  some (st, v_1)
/-! BasicMachine.wipe()I -/
def af_X1_wipe (n : Nat) (S : Nat → Nat) (st : aS) (a0 : Nat) : Option (aS × (Int32)) :=
  (gI st a0 0 4).bind fun v_1 =>
  (pF st a0 0 3 (va_rf (none : Option Nat))).bind fun st_2 =>
  (pF st_2 a0 0 4 (.int (0 : Int32))).bind fun st_3 =>
  some (st_3, v_1)
/-! BasicMachine.matrix(I)LBasicMachine$Matrix; -/
def af_X1_matrix (n : Nat) (S : Nat → Nat) (st : aS) (a0 : Nat) (p1 : Int32) : Option (aS × ((Option Nat) ⊕ Nat)) :=
  (gR st a0 0 6).bind fun r_1 =>
  (r_1).bind fun a_2 =>
  (lR st a_2 4 p1).bind fun r_3 =>
  if r_3 = none then
    aTw st 4
  else
    (gR st a0 0 6).bind fun r_5 =>
    (r_5).bind fun a_6 =>
    (lR st a_6 4 p1).bind fun r_7 =>
    some (st, .inl r_7)
/-! BasicMachine.known(I)LBasicMachine$Matrix; -/
def af_X1_known (n : Nat) (S : Nat → Nat) (st : aS) (a0 : Nat) (p1 : Int32) : Option (aS × ((Option Nat) ⊕ Nat)) :=
  (gR st a0 0 6).bind fun r_1 =>
  (r_1).bind fun a_2 =>
  (lR st a_2 4 p1).bind fun r_3 =>
  if r_3 = none then
    aTw st 5
  else
    (gR st a0 0 6).bind fun r_5 =>
    (r_5).bind fun a_6 =>
    (lR st a_6 4 p1).bind fun r_7 =>
    some (st, .inl r_7)
/-! BasicMachine.line(I)LBasicMachine$Line; -/
def af_X1_line (n : Nat) (S : Nat → Nat) (st : aS) (a0 : Nat) (p1 : Int32) : Option (aS × ((Option Nat) ⊕ Nat)) :=
  (gC st a0 0).bind fun u_3 =>
  cb (af_X1_lineOrNull n S st a0 p1) fun st_1 r_2 =>
  if r_2 = none then
    aTw st_1 2
  else
    some (st_1, .inl r_2)
/-! BasicMachine.after(LBasicMachine$Line;)LBasicMachine$Line; -/
def af_X1_after (n : Nat) (S : Nat → Nat) (st : aS) (a0 : Nat) (p1 : Option Nat) : Option (aS × (Option Nat)) :=
  (p1).bind fun a_1 =>
  (gR st a_1 3 2).bind fun r_2 =>
  if r_2 = none then
    (pF st a0 0 20 (.int (1 : Int32))).bind fun st_5 =>
    (gR st_5 a_1 3 2).bind fun r_6 =>
    some (st_5, r_6)
  else
    (gR st a_1 3 2).bind fun r_4 =>
    some (st, r_4)
/-! BasicMachine$Data.values()[D -/
def af_X22_values (n : Nat) (S : Nat → Nat) (st : aS) (a0 : Nat) : Option (aS × (Option Nat)) :=
  (gR st a0 21 0).bind fun r_1 =>
  some (st, r_1)
/-! BasicMachine.read()D -/
def af_X1_read_B10 (n : Nat) (S : Nat → Nat) (rec : Nat → aS → Nat → Int32 → Option Nat → Option (aS × ((UInt64) ⊕ Nat))) (st : aS) (a0 : Nat) (x1 : Int32) (x2 : Option Nat) : Option (aS × ((UInt64) ⊕ Nat)) :=
  if x2 = none then
    aTw st 2
  else
    (x2).bind fun a_2 =>
    (gR st a_2 3 1).bind fun r_3 =>
    (iO st r_3 21).bind fun v_4 =>
    if v_4 = 0 then
      rec 1 st a0 x1 (some a_2)
    else
      (gR st a_2 3 1).bind fun r_6 =>
      (r_6).bind fun a_7 =>
      (gC st a_7 21).bind fun u_8 =>
      (gC st a_7 21).bind fun u_11 =>
      cb (af_X22_values n S st a_7) fun st_9 r_10 =>
      (r_10).bind fun a_12 =>
      (aLen st_9 a_12).bind fun v_13 =>
      if v_13 ≤ x1 then
        (aLen st_9 a_12).bind fun v_15 =>
        (nm (x1 - v_15)).bind fun x1_16 =>
        rec 1 st_9 a0 x1_16 (some a_2)
      else
        (gI st_9 a0 0 18).bind fun v_17 =>
        (pF st_9 a0 0 18 (.int (v_17 + (1 : Int32)))).bind fun st_18 =>
        (lD st_18 a_12 x1).bind fun v_19 =>
        some (st_18, .inl v_19)
def af_X1_read_B63 (n : Nat) (S : Nat → Nat) (rec : Nat → aS → Nat → Int32 → Option Nat → Option (aS × ((UInt64) ⊕ Nat))) (st : aS) (a0 : Nat) (x1 : Int32) (x2 : Option Nat) : Option (aS × ((UInt64) ⊕ Nat)) :=
  (x2).bind fun a_1 =>
  (gR st a_1 3 2).bind fun r_2 =>
  rec 0 st a0 x1 r_2
def af_X1_read_S10 (n : Nat) (S : Nat → Nat) : Nat → Nat → aS → Nat → Int32 → Option Nat → Option (aS × ((UInt64) ⊕ Nat))
  | 0, _, _, _, _, _ => none
  | k + 1, lb, st, a0, x1, x2 => if lb = 0 then af_X1_read_B10 n S (af_X1_read_S10 n S k) st a0 x1 x2 else af_X1_read_B63 n S (af_X1_read_S10 n S k) st a0 x1 x2
def af_X1_read (n : Nat) (S : Nat → Nat) (st : aS) (a0 : Nat) : Option (aS × ((UInt64) ⊕ Nat)) :=
  (gI st a0 0 18).bind fun v_1 =>
  (gR st a0 0 3).bind fun r_2 =>
  af_X1_read_S10 n S n 0 st a0 v_1 r_2
/-! BasicMachine$Loop.s()I -/
def af_X29_s (n : Nat) (S : Nat → Nat) (st : aS) (a0 : Nat) : Option (aS × (Int32)) :=
  (gI st a0 28 0).bind fun v_1 =>
  some (st, v_1)
/-! BasicMachine.loop(I)I -/
def af_X1_loop_B7 (n : Nat) (S : Nat → Nat) (rec : aS → Nat → Int32 → Int32 → Option (aS × (Int32))) (st : aS) (a0 : Nat) (x1 : Int32) (x2 : Int32) : Option (aS × (Int32)) :=
  if x2 < 0 then
    some (st, x2)
  else
    (gR st a0 0 14).bind fun r_2 =>
    (r_2).bind fun a_3 =>
    (lR st a_3 7 x2).bind fun r_4 =>
    (r_4).bind fun a_5 =>
    (gC st a_5 28).bind fun u_8 =>
    cb (af_X29_s n S st a_5) fun st_6 v_7 =>
    if v_7 = x1 then
      some (st_6, x2)
    else
      rec st_6 a0 x1 (x2 + (-1 : Int32))
def af_X1_loop_S7 (n : Nat) (S : Nat → Nat) : Nat → aS → Nat → Int32 → Int32 → Option (aS × (Int32))
  | 0, _, _, _, _ => none
  | k + 1, st, a0, x1, x2 => af_X1_loop_B7 n S (af_X1_loop_S7 n S k) st a0 x1 x2
def af_X1_loop (n : Nat) (S : Nat → Nat) (st : aS) (a0 : Nat) (p1 : Int32) : Option (aS × (Int32)) :=
  (gI st a0 0 15).bind fun v_1 =>
  (nm (v_1 - (1 : Int32))).bind fun x2_2 =>
  af_X1_loop_S7 n S n st a0 p1 x2_2
/-! BasicMachine$Next.s()I -/
def af_X20_s (n : Nat) (S : Nat → Nat) (st : aS) (a0 : Nat) : Option (aS × (Int32)) :=
  (gI st a0 19 0).bind fun v_1 =>
  some (st, v_1)
/-! BasicMachine.nextOf(ILBasicMachine$Line;)LBasicMachine$Line; -/
def af_X1_nextOf_B5 (n : Nat) (S : Nat → Nat) (rec : Nat → aS → Nat → Int32 → Option Nat → Option (aS × ((Option Nat) ⊕ Nat))) (st : aS) (a0 : Nat) (x1 : Int32) (x3 : Option Nat) : Option (aS × ((Option Nat) ⊕ Nat)) :=
  if x3 = none then
    aTw st 1
  else
    (x3).bind fun a_2 =>
    (gR st a_2 3 1).bind fun r_3 =>
    (iO st r_3 19).bind fun v_4 =>
    if v_4 = 0 then
      rec 1 st a0 x1 (some a_2)
    else
      (gR st a_2 3 1).bind fun r_6 =>
      (r_6).bind fun a_7 =>
      (gC st a_7 19).bind fun u_8 =>
      (gC st a_7 19).bind fun u_11 =>
      cb (af_X20_s n S st a_7) fun st_9 v_10 =>
      if v_10 = x1 then
        some (st_9, .inl (some a_2))
      else
        rec 1 st_9 a0 x1 (some a_2)
def af_X1_nextOf_B35 (n : Nat) (S : Nat → Nat) (rec : Nat → aS → Nat → Int32 → Option Nat → Option (aS × ((Option Nat) ⊕ Nat))) (st : aS) (a0 : Nat) (x1 : Int32) (x3 : Option Nat) : Option (aS × ((Option Nat) ⊕ Nat)) :=
  (x3).bind fun a_1 =>
  (gR st a_1 3 2).bind fun r_2 =>
  rec 0 st a0 x1 r_2
def af_X1_nextOf_S5 (n : Nat) (S : Nat → Nat) : Nat → Nat → aS → Nat → Int32 → Option Nat → Option (aS × ((Option Nat) ⊕ Nat))
  | 0, _, _, _, _, _ => none
  | k + 1, lb, st, a0, x1, x3 => if lb = 0 then af_X1_nextOf_B5 n S (af_X1_nextOf_S5 n S k) st a0 x1 x3 else af_X1_nextOf_B35 n S (af_X1_nextOf_S5 n S k) st a0 x1 x3
def af_X1_nextOf (n : Nat) (S : Nat → Nat) (st : aS) (a0 : Nat) (p1 : Int32) (p2 : Option Nat) : Option (aS × ((Option Nat) ⊕ Nat)) :=
  (p2).bind fun a_1 =>
  (gR st a_1 3 2).bind fun r_2 =>
  af_X1_nextOf_S5 n S n 0 st a0 p1 r_2
/-! BasicMachine.begin()V -/
def af_X1_begin_L96 (n : Nat) (S : Nat → Nat) (st : aS) (a0 : Nat) (z96_1 : Int32) : Option (aS × Unit) :=
  (bz z96_1).bind fun v_1 =>
  (pF st a0 0 20 (.int v_1)).bind fun st_2 =>
  some (st_2, ())
def af_X1_begin_B23 (n : Nat) (S : Nat → Nat) (rec : aS → Nat → Int32 → Option (aS × Unit)) (st : aS) (a0 : Nat) (x1 : Int32) : Option (aS × Unit) :=
  if (3 : Int32) ≤ x1 then
    (pF st a0 0 9 (.int (0 : Int32))).bind fun st_2 =>
    (pF st_2 a0 0 13 (.int (0 : Int32))).bind fun st_3 =>
    (pF st_3 a0 0 15 (.int (0 : Int32))).bind fun st_4 =>
    (pF st_4 a0 0 17 (.int (0 : Int32))).bind fun st_5 =>
    (pF st_5 a0 0 18 (.int (0 : Int32))).bind fun st_6 =>
    (pF st_6 a0 0 21 (.int (0 : Int32))).bind fun st_7 =>
    (pF st_7 a0 0 22 (.int (-1 : Int32))).bind fun st_8 =>
    (gR st_8 a0 0 3).bind fun r_9 =>
    if r_9 = none then
      af_X1_begin_L96 n S st_8 a0 (1 : Int32)
    else
      af_X1_begin_L96 n S st_8 a0 (0 : Int32)
  else
    (gR st a0 0 6).bind fun r_11 =>
    (r_11).bind fun a_12 =>
    (wR st a_12 4 x1 none).bind fun st_13 =>
    (gR st_13 a0 0 8).bind fun r_14 =>
    (r_14).bind fun a_15 =>
    (wR st_13 a_15 5 x1 none).bind fun st_16 =>
    rec st_16 a0 (x1 + (1 : Int32))
def af_X1_begin_S23 (n : Nat) (S : Nat → Nat) : Nat → aS → Nat → Int32 → Option (aS × Unit)
  | 0, _, _, _ => none
  | k + 1, st, a0, x1 => af_X1_begin_B23 n S (af_X1_begin_S23 n S k) st a0 x1
def af_X1_begin_B2 (n : Nat) (S : Nat → Nat) (rec : aS → Nat → Int32 → Option (aS × Unit)) (st : aS) (a0 : Nat) (x1 : Int32) : Option (aS × Unit) :=
  if (26 : Int32) ≤ x1 then
    af_X1_begin_S23 n S n st a0 (0 : Int32)
  else
    (gR st a0 0 5).bind fun r_2 =>
    (r_2).bind fun a_3 =>
    (wD st a_3 x1 FP.dconst0).bind fun st_4 =>
    rec st_4 a0 (x1 + (1 : Int32))
def af_X1_begin_S2 (n : Nat) (S : Nat → Nat) : Nat → aS → Nat → Int32 → Option (aS × Unit)
  | 0, _, _, _ => none
  | k + 1, st, a0, x1 => af_X1_begin_B2 n S (af_X1_begin_S2 n S k) st a0 x1
def af_X1_begin (n : Nat) (S : Nat → Nat) (st : aS) (a0 : Nat) : Option (aS × Unit) :=
  af_X1_begin_S2 n S n st a0 (0 : Int32)
/-! BasicMachine$Data.run(LBasicMachine;LBasicMachine$Line;)LBasicMachine$Line; -/
def af_X22_run (n : Nat) (S : Nat → Nat) (st : aS) (a0 : Nat) (p1 : Option Nat) (p2 : Option Nat) : Option (aS × ((Option Nat) ⊕ Nat)) :=
  some (st, .inl (none : Option Nat))
/-! BasicMachine$Define.run(LBasicMachine;LBasicMachine$Line;)LBasicMachine$Line; -/
def af_X25_run (n : Nat) (S : Nat → Nat) (st : aS) (a0 : Nat) (p1 : Option Nat) (p2 : Option Nat) : Option (aS × ((Option Nat) ⊕ Nat)) :=
  (p1).bind fun a_1 =>
  (gR st a_1 0 8).bind fun r_2 =>
  (gI st a0 24 0).bind fun v_3 =>
  (r_2).bind fun a_4 =>
  (gC st a0 24).bind fun u_6 =>
  (wR st a_4 5 v_3 (some a0)).bind fun st_5 =>
  some (st_5, .inl (none : Option Nat))
/-! BasicMachine$Matrix.<init>()V -/
def af_X28_init (n : Nat) (S : Nat → Nat) (st : aS) (a0 : Nat) : Option (aS × Unit) :=
  (nM st).bind fun st_1 =>
  (pF st_1 a0 27 0 (va_rf (some st.1))).bind fun st_2 =>
  some (st_2, ())
/-! BasicMachine$Matrix.be(II)LBasicMachine$Matrix; -/
def af_X28_be_B12 (n : Nat) (S : Nat → Nat) (rec : Nat → aS → Nat → Int32 → Int32 → Int32 → Int32 → Option (aS × (Option Nat))) (st : aS) (a0 : Nat) (x1 : Int32) (x2 : Int32) (x3 : Int32) (x4 : Int32) : Option (aS × (Option Nat)) :=
  if x1 ≤ x3 then
    some (st, (some a0))
  else
    rec 1 st a0 x1 x2 x3 (0 : Int32)
def af_X28_be_B20 (n : Nat) (S : Nat → Nat) (rec : Nat → aS → Nat → Int32 → Int32 → Int32 → Int32 → Option (aS × (Option Nat))) (st : aS) (a0 : Nat) (x1 : Int32) (x2 : Int32) (x3 : Int32) (x4 : Int32) : Option (aS × (Option Nat)) :=
  if x2 ≤ x4 then
    rec 0 st a0 x1 x2 (x3 + (1 : Int32)) (0 : Int32)
  else
    (gR st a0 27 0).bind fun r_2 =>
    (r_2).bind fun a_3 =>
    (lR st a_3 9 x3).bind fun r_4 =>
    (r_4).bind fun a_5 =>
    (wD st a_5 x4 FP.dconst0).bind fun st_6 =>
    rec 1 st_6 a0 x1 x2 x3 (x4 + (1 : Int32))
def af_X28_be_S12 (n : Nat) (S : Nat → Nat) : Nat → Nat → aS → Nat → Int32 → Int32 → Int32 → Int32 → Option (aS × (Option Nat))
  | 0, _, _, _, _, _, _, _ => none
  | k + 1, lb, st, a0, x1, x2, x3, x4 => if lb = 0 then af_X28_be_B12 n S (af_X28_be_S12 n S k) st a0 x1 x2 x3 x4 else af_X28_be_B20 n S (af_X28_be_S12 n S k) st a0 x1 x2 x3 x4
def af_X28_be (n : Nat) (S : Nat → Nat) (st : aS) (a0 : Nat) (p1 : Int32) (p2 : Int32) : Option (aS × (Option Nat)) :=
  (pF st a0 27 1 (.int p1)).bind fun st_1 =>
  (pF st_1 a0 27 2 (.int p2)).bind fun st_2 =>
  af_X28_be_S12 n S n 0 st_2 a0 p1 p2 (0 : Int32) (0 : Int32)
/-! BasicMachine$Dim.run(LBasicMachine;LBasicMachine$Line;)LBasicMachine$Line; -/
def af_X24_run_L28 (n : Nat) (S : Nat → Nat) (st : aS) (a0 : Nat) (x1 : Option Nat) : Option (aS × ((Option Nat) ⊕ Nat)) :=
  (x1).bind fun a_1 =>
  (gR st a_1 0 6).bind fun r_2 =>
  (gI st a0 23 0).bind fun v_3 =>
  (r_2).bind fun a_4 =>
  (lR st a_4 4 v_3).bind fun r_5 =>
  (gI st a0 23 1).bind fun v_6 =>
  (gI st a0 23 2).bind fun v_7 =>
  (r_5).bind fun a_8 =>
  (gC st a_8 27).bind fun u_11 =>
  cb (af_X28_be n S st a_8 v_6 v_7) fun st_9 r_10 =>
  some (st_9, .inl (none : Option Nat))
def af_X24_run (n : Nat) (S : Nat → Nat) (st : aS) (a0 : Nat) (p1 : Option Nat) (p2 : Option Nat) : Option (aS × ((Option Nat) ⊕ Nat)) :=
  (p1).bind fun a_1 =>
  (gR st a_1 0 6).bind fun r_2 =>
  (gI st a0 23 0).bind fun v_3 =>
  (r_2).bind fun a_4 =>
  (lR st a_4 4 v_3).bind fun r_5 =>
  if r_5 = none then
    (gR st a_1 0 6).bind fun r_7 =>
    (gI st a0 23 0).bind fun v_8 =>
    (nO st 27 [.null, .int 0, .int 0] 3).bind fun st_9 =>
    cb (af_X28_init n S st_9 st.1) fun st_10 u_11 =>
    (r_7).bind fun a_12 =>
    (gC st_10 st.1 27).bind fun u_14 =>
    (wR st_10 a_12 4 v_8 (some st.1)).bind fun st_13 =>
    af_X24_run_L28 n S st_13 a0 (some a_1)
  else
    af_X24_run_L28 n S st a0 (some a_1)
/-! BasicMachine$Define.s()I -/
def af_X25_s (n : Nat) (S : Nat → Nat) (st : aS) (a0 : Nat) : Option (aS × (Int32)) :=
  (gI st a0 24 1).bind fun v_1 =>
  some (st, v_1)
/-! BasicMachine$Define.body()LBasicMachine$Expression; -/
def af_X25_body (n : Nat) (S : Nat → Nat) (st : aS) (a0 : Nat) : Option (aS × (Option Nat)) :=
  (gR st a0 24 2).bind fun r_1 =>
  some (st, r_1)
/-! BasicMachine.leave()V -/
def af_X1_leave (n : Nat) (S : Nat → Nat) (st : aS) (a0 : Nat) : Option (aS × Unit) :=
  (gI st a0 0 9).bind fun v_1 =>
  (pF st a0 0 9 (.int (v_1 - (1 : Int32)))).bind fun st_2 =>
  (gR st_2 a0 0 5).bind fun r_3 =>
  (gR st_2 a0 0 10).bind fun r_4 =>
  (gI st_2 a0 0 9).bind fun v_5 =>
  (r_4).bind fun a_6 =>
  (lI st_2 a_6 1 v_5).bind fun v_7 =>
  (gR st_2 a0 0 11).bind fun r_8 =>
  (gI st_2 a0 0 9).bind fun v_9 =>
  (r_8).bind fun a_10 =>
  (lD st_2 a_10 v_9).bind fun v_11 =>
  (r_3).bind fun a_12 =>
  (wD st_2 a_12 v_7 v_11).bind fun st_13 =>
  some (st_13, ())
/-! BasicMachine$Call.value(LBasicMachine;)D -/
def af_X8_value (n : Nat) (S : Nat → Nat) (rv : aS → Nat → Option Nat → Option (aS × (UInt64 ⊕ Nat))) (st : aS) (a0 : Nat) (p1 : Option Nat) : Option (aS × ((UInt64) ⊕ Nat)) :=
  (p1).bind fun a_1 =>
  (gR st a_1 0 8).bind fun r_2 =>
  (gI st a0 7 0).bind fun v_3 =>
  (r_2).bind fun a_4 =>
  (lR st a_4 5 v_3).bind fun r_5 =>
  if r_5 = none then
    aTw st 2
  else
    (gR st a0 7 1).bind fun r_7 =>
    (r_7).bind fun a_8 =>
    xb (rv st a_8 (some a_1)) fun st_9 v_10 =>
    (gI st_9 a_1 0 9).bind fun v_11 =>
    if v_11 = (3 : Int32) then
      aTw st_9 1
    else
      (gR st_9 a_1 0 10).bind fun r_13 =>
      (gI st_9 a_1 0 9).bind fun v_14 =>
      (r_5).bind fun a_15 =>
      (gC st_9 a_15 24).bind fun u_18 =>
      cb (af_X25_s n S st_9 a_15) fun st_16 v_17 =>
      (r_13).bind fun a_19 =>
      (wI st_16 a_19 1 v_14 v_17).bind fun st_20 =>
      (gR st_20 a_1 0 11).bind fun r_21 =>
      (gI st_20 a_1 0 9).bind fun v_22 =>
      (gR st_20 a_1 0 5).bind fun r_23 =>
      (gC st_20 a_15 24).bind fun u_26 =>
      cb (af_X25_s n S st_20 a_15) fun st_24 v_25 =>
      (r_23).bind fun a_27 =>
      (lD st_24 a_27 v_25).bind fun v_28 =>
      (r_21).bind fun a_29 =>
      (wD st_24 a_29 v_22 v_28).bind fun st_30 =>
      (gR st_30 a_1 0 5).bind fun r_31 =>
      (gC st_30 a_15 24).bind fun u_34 =>
      cb (af_X25_s n S st_30 a_15) fun st_32 v_33 =>
      (r_31).bind fun a_35 =>
      (wD st_32 a_35 v_33 v_10).bind fun st_36 =>
      (gI st_36 a_1 0 9).bind fun v_37 =>
      (pF st_36 a_1 0 9 (.int (v_37 + (1 : Int32)))).bind fun st_38 =>
      (gC st_38 a_15 24).bind fun u_41 =>
      cb (af_X25_body n S st_38 a_15) fun st_39 r_40 =>
      (r_40).bind fun a_42 =>
      xb (rv st_39 a_42 (some a_1)) fun st_43 v_44 =>
      (gC st_43 a_1 0).bind fun u_47 =>
      cb (af_X1_leave n S st_43 a_1) fun st_45 u_46 =>
      some (st_45, .inl v_44)
/-! BasicMachine$Matrix.check(JJ)V -/
def af_X28_check (n : Nat) (S : Nat → Nat) (st : aS) (a0 : Nat) (p1 : Int64) (p3 : Int64) : Option (aS × (Unit ⊕ Nat)) :=
  if (lg_cmp p1 (1 : Int64)) < 0 then
    aTw st 4
  else
    (gI st a0 27 1).bind fun v_2 =>
    if 0 < (lg_cmp p1 v_2.toInt64) then
      aTw st 4
    else
      if (lg_cmp p3 (1 : Int64)) < 0 then
        aTw st 4
      else
        (gI st a0 27 2).bind fun v_5 =>
        if (lg_cmp p3 v_5.toInt64) ≤ 0 then
          some (st, .inl ())
        else
          aTw st 4
/-! BasicMachine$Matrix.at(JJ)D -/
def af_X28_at (n : Nat) (S : Nat → Nat) (st : aS) (a0 : Nat) (p1 : Int64) (p3 : Int64) : Option (aS × ((UInt64) ⊕ Nat)) :=
  (gC st a0 27).bind fun u_3 =>
  xb (af_X28_check n S st a0 p1 p3) fun st_1 u_2 =>
  (gR st_1 a0 27 0).bind fun r_4 =>
  (r_4).bind fun a_5 =>
  (lR st_1 a_5 9 (p1.toInt32 - (1 : Int32))).bind fun r_6 =>
  (r_6).bind fun a_7 =>
  (lD st_1 a_7 (p3.toInt32 - (1 : Int32))).bind fun v_8 =>
  some (st_1, .inl v_8)
/-! BasicMachine$Element.value(LBasicMachine;)D -/
def af_X11_value (n : Nat) (S : Nat → Nat) (rv : aS → Nat → Option Nat → Option (aS × (UInt64 ⊕ Nat))) (st : aS) (a0 : Nat) (p1 : Option Nat) : Option (aS × ((UInt64) ⊕ Nat)) :=
  (gR st a0 10 1).bind fun r_1 =>
  (r_1).bind fun a_2 =>
  xb (rv st a_2 p1) fun st_3 v_4 =>
  cb (af_X1_whole n S st_3 v_4) fun st_5 v_6 =>
  (gR st_5 a0 10 2).bind fun r_7 =>
  (r_7).bind fun a_8 =>
  xb (rv st_5 a_8 p1) fun st_9 v_10 =>
  cb (af_X1_whole n S st_9 v_10) fun st_11 v_12 =>
  (gI st_11 a0 10 0).bind fun v_13 =>
  (p1).bind fun a_14 =>
  (gC st_11 a_14 0).bind fun u_17 =>
  xb (af_X1_matrix n S st_11 a_14 v_13) fun st_15 r_16 =>
  (r_16).bind fun a_18 =>
  (gC st_15 a_18 27).bind fun u_21 =>
  xb (af_X28_at n S st_15 a_18 v_6 v_12) fun st_19 v_20 =>
  some (st_19, .inl v_20)
/-! BasicMachine$Numeral.value(LBasicMachine;)D -/
def af_X6_value (n : Nat) (S : Nat → Nat) (rv : aS → Nat → Option Nat → Option (aS × (UInt64 ⊕ Nat))) (st : aS) (a0 : Nat) (p1 : Option Nat) : Option (aS × ((UInt64) ⊕ Nat)) :=
  (gD st a0 5 0).bind fun v_1 =>
  some (st, .inl v_1)
/-! BasicMachine$Pair.divided(DD)D -/
def af_X10_divided (n : Nat) (S : Nat → Nat) (st : aS) (p0 : UInt64) (p2 : UInt64) : Option (aS × ((UInt64) ⊕ Nat)) :=
  if (Op.cmpValue (FP.dcmp p2 FP.dconst0) .l) = 0 then
    aTw st 3
  else
    (nN (FP.ddiv p0 p2)).bind fun v_2 =>
    xb (af_X1_checked n S st v_2) fun st_3 v_4 =>
    some (st_3, .inl v_4)
/-! BasicMachine$Pair.power(DD)D -/
def af_X10_power_B54 (n : Nat) (S : Nat → Nat) (rec : aS → UInt64 → UInt64 → UInt64 → UInt64 → Int32 → Option (aS × ((UInt64) ⊕ Nat))) (st : aS) (x0 : UInt64) (x2 : UInt64) (x4 : UInt64) (x6 : UInt64) (x8 : Int32) : Option (aS × ((UInt64) ⊕ Nat)) :=
  if 0 ≤ (Op.cmpValue (FP.dcmp (FP.i2d x8) x6) .g) then
    if 0 ≤ (Op.cmpValue (FP.dcmp x2 FP.dconst0) .g) then
      some (st, .inl x4)
    else
      xb (af_X10_divided n S st FP.dconst1 x4) fun st_3 v_4 =>
      some (st_3, .inl v_4)
  else
    (nN (FP.dmul x4 x0)).bind fun v_5 =>
    xb (af_X1_checked n S st v_5) fun st_6 v_7 =>
    rec st_6 x0 x2 v_7 x6 (x8 + (1 : Int32))
def af_X10_power_S54 (n : Nat) (S : Nat → Nat) : Nat → aS → UInt64 → UInt64 → UInt64 → UInt64 → Int32 → Option (aS × ((UInt64) ⊕ Nat))
  | 0, _, _, _, _, _, _ => none
  | k + 1, st, x0, x2, x4, x6, x8 => af_X10_power_B54 n S (af_X10_power_S54 n S k) st x0 x2 x4 x6 x8
def af_X10_power_L49 (n : Nat) (S : Nat → Nat) (st : aS) (x0 : UInt64) (x2 : UInt64) (x4 : UInt64) (z49_0 : UInt64) : Option (aS × ((UInt64) ⊕ Nat)) :=
  af_X10_power_S54 n S n st x0 x2 x4 z49_0 (0 : Int32)
def af_X10_power (n : Nat) (S : Nat → Nat) (st : aS) (p0 : UInt64) (p2 : UInt64) : Option (aS × ((UInt64) ⊕ Nat)) :=
  if (Op.cmpValue (FP.dcmp p2 (13849694754071117824 : UInt64)) .g) < 0 then
    aTw st 3
  else
    if 0 < (Op.cmpValue (FP.dcmp p2 (4626322717216342016 : UInt64)) .l) then
      aTw st 3
    else
      cb (af_X1_whole n S st p2) fun st_3 v_4 =>
      if (Op.cmpValue (FP.dcmp p2 (FP.l2d v_4)) .l) = 0 then
        if 0 ≤ (Op.cmpValue (FP.dcmp p2 FP.dconst0) .g) then
          af_X10_power_L49 n S st_3 p0 p2 FP.dconst1 p2
        else
          af_X10_power_L49 n S st_3 p0 p2 FP.dconst1 (FP.dneg p2)
      else
        aTw st_3 3
/-! BasicMachine$Pair.value(LBasicMachine;)D -/
def af_X10_value_L95 (n : Nat) (S : Nat → Nat) (rv : aS → Nat → Option Nat → Option (aS × (UInt64 ⊕ Nat))) (st : aS) (a0 : Nat) (x2 : UInt64) (x4 : UInt64) : Option (aS × ((UInt64) ⊕ Nat)) :=
  xb (af_X10_power n S st x2 x4) fun st_1 v_2 =>
  some (st_1, .inl v_2)
def af_X10_value (n : Nat) (S : Nat → Nat) (rv : aS → Nat → Option Nat → Option (aS × (UInt64 ⊕ Nat))) (st : aS) (a0 : Nat) (p1 : Option Nat) : Option (aS × ((UInt64) ⊕ Nat)) :=
  (gR st a0 9 1).bind fun r_1 =>
  (r_1).bind fun a_2 =>
  xb (rv st a_2 p1) fun st_3 v_4 =>
  (gR st_3 a0 9 2).bind fun r_5 =>
  (r_5).bind fun a_6 =>
  xb (rv st_3 a_6 p1) fun st_7 v_8 =>
  (gI st_7 a0 9 0).bind fun v_9 =>
  if v_9 = (42 : Int32) then
    (nN (FP.dmul v_4 v_8)).bind fun v_11 =>
    xb (af_X1_checked n S st_7 v_11) fun st_12 v_13 =>
    some (st_12, .inl v_13)
  else
  if v_9 = (43 : Int32) then
    (nN (FP.dadd v_4 v_8)).bind fun v_15 =>
    xb (af_X1_checked n S st_7 v_15) fun st_16 v_17 =>
    some (st_16, .inl v_17)
  else
  if v_9 = (44 : Int32) then
    af_X10_value_L95 n S rv st_7 a0 v_4 v_8
  else
  if v_9 = (45 : Int32) then
    (nN (FP.dsub v_4 v_8)).bind fun v_20 =>
    xb (af_X1_checked n S st_7 v_20) fun st_21 v_22 =>
    some (st_21, .inl v_22)
  else
  if v_9 = (46 : Int32) then
    af_X10_value_L95 n S rv st_7 a0 v_4 v_8
  else
  if v_9 = (47 : Int32) then
    xb (af_X10_divided n S st_7 v_4 v_8) fun st_25 v_26 =>
    some (st_25, .inl v_26)
  else
  af_X10_value_L95 n S rv st_7 a0 v_4 v_8
/-! BasicMachine$Single.floor(D)D -/
def af_X7_floor (n : Nat) (S : Nat → Nat) (st : aS) (p0 : UInt64) : Option (aS × (UInt64)) :=
  cb (af_X1_whole n S st p0) fun st_1 v_2 =>
  (nm (FP.l2d v_2)).bind fun x2_3 =>
  if (Op.cmpValue (FP.dcmp x2_3 p0) .l) ≤ 0 then
    some (st_1, x2_3)
  else
    (nN (FP.dsub x2_3 FP.dconst1)).bind fun v_5 =>
    some (st_1, v_5)
/-! BasicMachine$Single.value(LBasicMachine;)D -/
def af_X7_value (n : Nat) (S : Nat → Nat) (rv : aS → Nat → Option Nat → Option (aS × (UInt64 ⊕ Nat))) (st : aS) (a0 : Nat) (p1 : Option Nat) : Option (aS × ((UInt64) ⊕ Nat)) :=
  (gR st a0 6 1).bind fun r_1 =>
  (r_1).bind fun a_2 =>
  xb (rv st a_2 p1) fun st_3 v_4 =>
  (gI st_3 a0 6 0).bind fun v_5 =>
  if v_5 = (45 : Int32) then
    some (st_3, .inl (FP.dneg v_4))
  else
  if v_5 = (65 : Int32) then
    if 0 ≤ (Op.cmpValue (FP.dcmp v_4 FP.dconst0) .g) then
      some (st_3, .inl v_4)
    else
      some (st_3, .inl (FP.dneg v_4))
  else
  if v_5 = (73 : Int32) then
    cb (af_X7_floor n S st_3 v_4) fun st_10 v_11 =>
    some (st_10, .inl v_11)
  else
  if (Op.cmpValue (FP.dcmp v_4 FP.dconst0) .l) ≤ 0 then
    if 0 ≤ (Op.cmpValue (FP.dcmp v_4 FP.dconst0) .g) then
      some (st_3, .inl FP.dconst0)
    else
      some (st_3, .inl (13830554455654793216 : UInt64))
  else
    some (st_3, .inl FP.dconst1)
/-! BasicMachine$Variable.value(LBasicMachine;)D -/
def af_X9_value (n : Nat) (S : Nat → Nat) (rv : aS → Nat → Option Nat → Option (aS × (UInt64 ⊕ Nat))) (st : aS) (a0 : Nat) (p1 : Option Nat) : Option (aS × ((UInt64) ⊕ Nat)) :=
  (p1).bind fun a_1 =>
  (gR st a_1 0 5).bind fun r_2 =>
  (gI st a0 8 0).bind fun v_3 =>
  (r_2).bind fun a_4 =>
  (lD st a_4 v_3).bind fun v_5 =>
  some (st, .inl v_5)
/-! dispatch.value -/
def af_value (n : Nat) (S : Nat → Nat) : Nat → aS → Nat → Option Nat → Option (aS × (UInt64 ⊕ Nat))
  | 0, _, _, _ => none
  | d + 1, st, a, r => (aCi st a).bind fun c => if c = 7 then af_X8_value n S (af_value n S d) st a r else if c = 10 then af_X11_value n S (af_value n S d) st a r else if c = 5 then af_X6_value n S (af_value n S d) st a r else if c = 9 then af_X10_value n S (af_value n S d) st a r else if c = 6 then af_X7_value n S (af_value n S d) st a r else if c = 8 then af_X9_value n S (af_value n S d) st a r else none
/-! BasicMachine$Loop.over(DDD)Z -/
def af_X29_over (n : Nat) (S : Nat → Nat) (st : aS) (p0 : UInt64) (p2 : UInt64) (p4 : UInt64) : Option (aS × (Int32)) :=
  if 0 ≤ (Op.cmpValue (FP.dcmp p4 FP.dconst0) .g) then
    if (Op.cmpValue (FP.dcmp p0 p2) .l) ≤ 0 then
      some (st, (0 : Int32))
    else
      some (st, (1 : Int32))
  else
    if 0 ≤ (Op.cmpValue (FP.dcmp p0 p2) .g) then
      some (st, (0 : Int32))
    else
      some (st, (1 : Int32))
/-! BasicMachine$Loop.<init>(IDDLBasicMachine$Line;)V -/
def af_X29_init (n : Nat) (S : Nat → Nat) (st : aS) (a0 : Nat) (p1 : Int32) (p2 : UInt64) (p4 : UInt64) (p6 : Option Nat) : Option (aS × Unit) :=
  cb (af_J15_init n S st a0) fun st_1 u_2 =>
  (pF st_1 a0 28 0 (.int p1)).bind fun st_3 =>
  (pF st_3 a0 28 1 (.double p2)).bind fun st_4 =>
  (pF st_4 a0 28 2 (.double p4)).bind fun st_5 =>
  (pF st_5 a0 28 3 (va_rf p6)).bind fun st_6 =>
  some (st_6, ())
/-! BasicMachine$For.run(LBasicMachine;LBasicMachine$Line;)LBasicMachine$Line; -/
def af_X19_run_L67 (n : Nat) (S : Nat → Nat) (st : aS) (a0 : Nat) (x1 : Option Nat) (x2 : Option Nat) (x3 : UInt64) (x5 : UInt64) (x7 : UInt64) : Option (aS × ((Option Nat) ⊕ Nat)) :=
  (x1).bind fun a_1 =>
  (gR st a_1 0 5).bind fun r_2 =>
  (gI st a0 18 0).bind fun v_3 =>
  (r_2).bind fun a_4 =>
  (wD st a_4 v_3 x3).bind fun st_5 =>
  cb (af_X29_over n S st_5 x3 x5 x7) fun st_6 v_7 =>
  if v_7 = 0 then
    (gI st_6 a_1 0 15).bind fun v_9 =>
    if v_9 = (6 : Int32) then
      aTw st_6 1
    else
      (gR st_6 a_1 0 14).bind fun r_11 =>
      (gI st_6 a_1 0 15).bind fun v_12 =>
      (nO st_6 28 [.int 0, .double 0, .double 0, .null] 4).bind fun st_13 =>
      (gI st_13 a0 18 0).bind fun v_14 =>
      cb (af_X29_init n S st_13 st_6.1 v_14 x5 x7 x2) fun st_15 u_16 =>
      (r_11).bind fun a_17 =>
      (gC st_15 st_6.1 28).bind fun u_19 =>
      (wR st_15 a_17 7 v_12 (some st_6.1)).bind fun st_18 =>
      (gI st_18 a_1 0 15).bind fun v_20 =>
      (pF st_18 a_1 0 15 (.int (v_20 + (1 : Int32)))).bind fun st_21 =>
      some (st_21, .inl (none : Option Nat))
  else
    (gI st_6 a0 18 0).bind fun v_22 =>
    (gC st_6 a_1 0).bind fun u_25 =>
    xb (af_X1_nextOf n S st_6 a_1 v_22 x2) fun st_23 r_24 =>
    (gC st_23 a_1 0).bind fun u_28 =>
    cb (af_X1_after n S st_23 a_1 r_24) fun st_26 r_27 =>
    some (st_26, .inl r_27)
def af_X19_run_L44 (n : Nat) (S : Nat → Nat) (st : aS) (a0 : Nat) (x1 : Option Nat) (x2 : Option Nat) (x3 : UInt64) (x5 : UInt64) (z44_0 : UInt64) : Option (aS × ((Option Nat) ⊕ Nat)) :=
  (gI st a0 18 0).bind fun v_1 =>
  (x1).bind fun a_2 =>
  (gC st a_2 0).bind fun u_5 =>
  cb (af_X1_loop n S st a_2 v_1) fun st_3 v_4 =>
  if v_4 < 0 then
    af_X19_run_L67 n S st_3 a0 (some a_2) x2 x3 x5 z44_0
  else
    (pF st_3 a_2 0 15 (.int v_4)).bind fun st_7 =>
    af_X19_run_L67 n S st_7 a0 (some a_2) x2 x3 x5 z44_0
def af_X19_run (n : Nat) (S : Nat → Nat) (st : aS) (a0 : Nat) (p1 : Option Nat) (p2 : Option Nat) : Option (aS × ((Option Nat) ⊕ Nat)) :=
  (gR st a0 18 1).bind fun r_1 =>
  (r_1).bind fun a_2 =>
  xb (af_value n S dV st a_2 p1) fun st_3 v_4 =>
  (gR st_3 a0 18 2).bind fun r_5 =>
  (r_5).bind fun a_6 =>
  xb (af_value n S dV st_3 a_6 p1) fun st_7 v_8 =>
  (gR st_7 a0 18 3).bind fun r_9 =>
  if r_9 = none then
    af_X19_run_L44 n S st_7 a0 p1 p2 v_4 v_8 FP.dconst1
  else
    (gR st_7 a0 18 3).bind fun r_11 =>
    (r_11).bind fun a_12 =>
    xb (af_value n S dV st_7 a_12 p1) fun st_13 v_14 =>
    af_X19_run_L44 n S st_13 a0 p1 p2 v_4 v_8 v_14
/-! BasicMachine$Gosub.run(LBasicMachine;LBasicMachine$Line;)LBasicMachine$Line; -/
def af_X17_run (n : Nat) (S : Nat → Nat) (st : aS) (a0 : Nat) (p1 : Option Nat) (p2 : Option Nat) : Option (aS × ((Option Nat) ⊕ Nat)) :=
  (p1).bind fun a_1 =>
  (gI st a_1 0 13).bind fun v_2 =>
  if v_2 = (8 : Int32) then
    aTw st 1
  else
    (gI st a0 16 0).bind fun v_4 =>
    (gC st a_1 0).bind fun u_7 =>
    xb (af_X1_line n S st a_1 v_4) fun st_5 r_6 =>
    (gR st_5 a_1 0 12).bind fun r_8 =>
    (gI st_5 a_1 0 13).bind fun v_9 =>
    (r_8).bind fun a_10 =>
    (p2).bind fun a_12 =>
    (gC st_5 a_12 3).bind fun u_13 =>
    (wR st_5 a_10 6 v_9 (some a_12)).bind fun st_11 =>
    (gI st_11 a_1 0 13).bind fun v_14 =>
    (pF st_11 a_1 0 13 (.int (v_14 + (1 : Int32)))).bind fun st_15 =>
    some (st_15, .inl r_6)
/-! BasicMachine$Goto.run(LBasicMachine;LBasicMachine$Line;)LBasicMachine$Line; -/
def af_X15_run (n : Nat) (S : Nat → Nat) (st : aS) (a0 : Nat) (p1 : Option Nat) (p2 : Option Nat) : Option (aS × ((Option Nat) ⊕ Nat)) :=
  (gI st a0 14 0).bind fun v_1 =>
  (p1).bind fun a_2 =>
  (gC st a_2 0).bind fun u_5 =>
  xb (af_X1_line n S st a_2 v_1) fun st_3 r_4 =>
  some (st_3, .inl r_4)
/-! BasicMachine$If.run(LBasicMachine;LBasicMachine$Line;)LBasicMachine$Line; -/
def af_X14_run_L46 (n : Nat) (S : Nat → Nat) (st : aS) (a0 : Nat) (x1 : Option Nat) (z46_0 : Int32) : Option (aS × ((Option Nat) ⊕ Nat)) :=
  (gI st a0 13 1).bind fun v_1 =>
  if (v_1 &&& z46_0) = 0 then
    some (st, .inl (none : Option Nat))
  else
    (gI st a0 13 3).bind fun v_3 =>
    (x1).bind fun a_4 =>
    (gC st a_4 0).bind fun u_7 =>
    xb (af_X1_line n S st a_4 v_3) fun st_5 r_6 =>
    some (st_5, .inl r_6)
def af_X14_run (n : Nat) (S : Nat → Nat) (st : aS) (a0 : Nat) (p1 : Option Nat) (p2 : Option Nat) : Option (aS × ((Option Nat) ⊕ Nat)) :=
  (gR st a0 13 0).bind fun r_1 =>
  (r_1).bind fun a_2 =>
  xb (af_value n S dV st a_2 p1) fun st_3 v_4 =>
  (gR st_3 a0 13 2).bind fun r_5 =>
  (r_5).bind fun a_6 =>
  xb (af_value n S dV st_3 a_6 p1) fun st_7 v_8 =>
  if 0 ≤ (Op.cmpValue (FP.dcmp v_4 v_8) .g) then
    if (Op.cmpValue (FP.dcmp v_4 v_8) .l) = 0 then
      af_X14_run_L46 n S st_7 a0 p1 (2 : Int32)
    else
      af_X14_run_L46 n S st_7 a0 p1 (4 : Int32)
  else
    af_X14_run_L46 n S st_7 a0 p1 (1 : Int32)
/-! BasicMachine$Element.i()LBasicMachine$Expression; -/
def af_X11_i (n : Nat) (S : Nat → Nat) (st : aS) (a0 : Nat) : Option (aS × (Option Nat)) :=
  (gR st a0 10 1).bind fun r_1 =>
  some (st, r_1)
/-! BasicMachine$Element.j()LBasicMachine$Expression; -/
def af_X11_j (n : Nat) (S : Nat → Nat) (st : aS) (a0 : Nat) : Option (aS × (Option Nat)) :=
  (gR st a0 10 2).bind fun r_1 =>
  some (st, r_1)
/-! BasicMachine$Element.matrix()I -/
def af_X11_matrix (n : Nat) (S : Nat → Nat) (st : aS) (a0 : Nat) : Option (aS × (Int32)) :=
  (gI st a0 10 0).bind fun v_1 =>
  some (st, v_1)
/-! BasicMachine$Place.find(LBasicMachine;)J -/
def af_X5_find (n : Nat) (S : Nat → Nat) (st : aS) (a0 : Nat) (p1 : Option Nat) : Option (aS × ((Int64) ⊕ Nat)) :=
  (gR st a0 4 1).bind fun r_1 =>
  if r_1 = none then
    some (st, .inl (0 : Int64))
  else
    (gR st a0 4 1).bind fun r_3 =>
    (r_3).bind fun a_4 =>
    (gC st a_4 10).bind fun u_7 =>
    cb (af_X11_i n S st a_4) fun st_5 r_6 =>
    (r_6).bind fun a_8 =>
    xb (af_value n S dV st_5 a_8 p1) fun st_9 v_10 =>
    cb (af_X1_whole n S st_9 v_10) fun st_11 v_12 =>
    (gR st_11 a0 4 1).bind fun r_13 =>
    (r_13).bind fun a_14 =>
    (gC st_11 a_14 10).bind fun u_17 =>
    cb (af_X11_j n S st_11 a_14) fun st_15 r_16 =>
    (r_16).bind fun a_18 =>
    xb (af_value n S dV st_15 a_18 p1) fun st_19 v_20 =>
    cb (af_X1_whole n S st_19 v_20) fun st_21 v_22 =>
    (gR st_21 a0 4 1).bind fun r_23 =>
    (r_23).bind fun a_24 =>
    (gC st_21 a_24 10).bind fun u_27 =>
    cb (af_X11_matrix n S st_21 a_24) fun st_25 v_26 =>
    (p1).bind fun a_28 =>
    (gC st_25 a_28 0).bind fun u_31 =>
    xb (af_X1_matrix n S st_25 a_28 v_26) fun st_29 r_30 =>
    (r_30).bind fun a_32 =>
    (gC st_29 a_32 27).bind fun u_35 =>
    xb (af_X28_check n S st_29 a_32 v_12 v_22) fun st_33 u_34 =>
    some (st_33, .inl (((8 : Int64) * v_12) + v_22))
/-! BasicMachine$Variable.s()I -/
def af_X9_s (n : Nat) (S : Nat → Nat) (st : aS) (a0 : Nat) : Option (aS × (Int32)) :=
  (gI st a0 8 0).bind fun v_1 =>
  some (st, v_1)
/-! BasicMachine$Place.put(LBasicMachine;JD)V -/
def af_X5_put (n : Nat) (S : Nat → Nat) (st : aS) (a0 : Nat) (p1 : Option Nat) (p2 : Int64) (p4 : UInt64) : Option (aS × Unit) :=
  (gR st a0 4 1).bind fun r_1 =>
  if r_1 = none then
    (p1).bind fun a_18 =>
    (gR st a_18 0 5).bind fun r_19 =>
    (gR st a0 4 0).bind fun r_20 =>
    (r_20).bind fun a_21 =>
    (gC st a_21 8).bind fun u_24 =>
    cb (af_X9_s n S st a_21) fun st_22 v_23 =>
    (r_19).bind fun a_25 =>
    (wD st_22 a_25 v_23 p4).bind fun st_26 =>
    some (st_26, ())
  else
    (p1).bind fun a_3 =>
    (gR st a_3 0 6).bind fun r_4 =>
    (gR st a0 4 1).bind fun r_5 =>
    (r_5).bind fun a_6 =>
    (gC st a_6 10).bind fun u_9 =>
    cb (af_X11_matrix n S st a_6) fun st_7 v_8 =>
    (r_4).bind fun a_10 =>
    (lR st_7 a_10 4 v_8).bind fun r_11 =>
    (r_11).bind fun a_12 =>
    (gR st_7 a_12 27 0).bind fun r_13 =>
    (r_13).bind fun a_14 =>
    (lR st_7 a_14 9 ((p2 / (8 : Int64)).toInt32 - (1 : Int32))).bind fun r_15 =>
    (r_15).bind fun a_16 =>
    (wD st_7 a_16 ((p2 - p2 / (8 : Int64) * (8 : Int64)).toInt32 - (1 : Int32)) p4).bind fun st_17 =>
    some (st_17, ())
/-! BasicMachine$Let.run(LBasicMachine;LBasicMachine$Line;)LBasicMachine$Line; -/
def af_X12_run (n : Nat) (S : Nat → Nat) (st : aS) (a0 : Nat) (p1 : Option Nat) (p2 : Option Nat) : Option (aS × ((Option Nat) ⊕ Nat)) :=
  (gR st a0 11 0).bind fun r_1 =>
  (r_1).bind fun a_2 =>
  (gC st a_2 4).bind fun u_5 =>
  xb (af_X5_find n S st a_2 p1) fun st_3 v_4 =>
  (gR st_3 a0 11 0).bind fun r_6 =>
  (gR st_3 a0 11 1).bind fun r_7 =>
  (r_7).bind fun a_8 =>
  xb (af_value n S dV st_3 a_8 p1) fun st_9 v_10 =>
  (r_6).bind fun a_11 =>
  (gC st_9 a_11 4).bind fun u_14 =>
  cb (af_X5_put n S st_9 a_11 p1 v_4 v_10) fun st_12 u_13 =>
  some (st_12, .inl (none : Option Nat))
/-! BasicMachine$Matrix.sameSize(LBasicMachine$Matrix;)Z -/
def af_X28_sameSize (n : Nat) (S : Nat → Nat) (st : aS) (a0 : Nat) (p1 : Option Nat) : Option (aS × (Int32)) :=
  (gI st a0 27 1).bind fun v_1 =>
  (p1).bind fun a_2 =>
  (gI st a_2 27 1).bind fun v_3 =>
  if v_1 = v_3 then
    (gI st a0 27 2).bind fun v_5 =>
    (gI st a_2 27 2).bind fun v_6 =>
    if v_5 = v_6 then
      some (st, (1 : Int32))
    else
      some (st, (0 : Int32))
  else
    some (st, (0 : Int32))
/-! BasicMachine$Mat.cell(LBasicMachine$Matrix;LBasicMachine$Matrix;DII)D -/
def af_X26_cell_B212 (n : Nat) (S : Nat → Nat) (rec : aS → Nat → Option Nat → Option Nat → Int32 → Int32 → UInt64 → Int32 → Option (aS × ((UInt64) ⊕ Nat))) (st : aS) (a0 : Nat) (x1 : Option Nat) (x2 : Option Nat) (x5 : Int32) (x6 : Int32) (x7 : UInt64) (x9 : Int32) : Option (aS × ((UInt64) ⊕ Nat)) :=
  (x1).bind fun a_1 =>
  (gI st a_1 27 2).bind fun v_2 =>
  if v_2 ≤ x9 then
    some (st, .inl x7)
  else
    (gR st a_1 27 0).bind fun r_4 =>
    (r_4).bind fun a_5 =>
    (lR st a_5 9 x5).bind fun r_6 =>
    (r_6).bind fun a_7 =>
    (lD st a_7 x9).bind fun v_8 =>
    (x2).bind fun a_9 =>
    (gR st a_9 27 0).bind fun r_10 =>
    (r_10).bind fun a_11 =>
    (lR st a_11 9 x9).bind fun r_12 =>
    (r_12).bind fun a_13 =>
    (lD st a_13 x6).bind fun v_14 =>
    (nN (FP.dmul v_8 v_14)).bind fun v_15 =>
    xb (af_X1_checked n S st v_15) fun st_16 v_17 =>
    (nN (FP.dadd x7 v_17)).bind fun v_18 =>
    xb (af_X1_checked n S st_16 v_18) fun st_19 v_20 =>
    rec st_19 a0 (some a_1) (some a_9) x5 x6 v_20 (x9 + (1 : Int32))
def af_X26_cell_S212 (n : Nat) (S : Nat → Nat) : Nat → aS → Nat → Option Nat → Option Nat → Int32 → Int32 → UInt64 → Int32 → Option (aS × ((UInt64) ⊕ Nat))
  | 0, _, _, _, _, _, _, _, _ => none
  | k + 1, st, a0, x1, x2, x5, x6, x7, x9 => af_X26_cell_B212 n S (af_X26_cell_S212 n S k) st a0 x1 x2 x5 x6 x7 x9
def af_X26_cell (n : Nat) (S : Nat → Nat) (st : aS) (a0 : Nat) (p1 : Option Nat) (p2 : Option Nat) (p3 : UInt64) (p5 : Int32) (p6 : Int32) : Option (aS × ((UInt64) ⊕ Nat)) :=
  (gI st a0 25 1).bind fun v_1 =>
  if v_1 = (43 : Int32) then
    (p1).bind fun a_3 =>
    (gR st a_3 27 0).bind fun r_4 =>
    (r_4).bind fun a_5 =>
    (lR st a_5 9 p5).bind fun r_6 =>
    (r_6).bind fun a_7 =>
    (lD st a_7 p6).bind fun v_8 =>
    (p2).bind fun a_9 =>
    (gR st a_9 27 0).bind fun r_10 =>
    (r_10).bind fun a_11 =>
    (lR st a_11 9 p5).bind fun r_12 =>
    (r_12).bind fun a_13 =>
    (lD st a_13 p6).bind fun v_14 =>
    (nN (FP.dadd v_8 v_14)).bind fun v_15 =>
    xb (af_X1_checked n S st v_15) fun st_16 v_17 =>
    some (st_16, .inl v_17)
  else
  if v_1 = (45 : Int32) then
    (p1).bind fun a_19 =>
    (gR st a_19 27 0).bind fun r_20 =>
    (r_20).bind fun a_21 =>
    (lR st a_21 9 p5).bind fun r_22 =>
    (r_22).bind fun a_23 =>
    (lD st a_23 p6).bind fun v_24 =>
    (p2).bind fun a_25 =>
    (gR st a_25 27 0).bind fun r_26 =>
    (r_26).bind fun a_27 =>
    (lR st a_27 9 p5).bind fun r_28 =>
    (r_28).bind fun a_29 =>
    (lD st a_29 p6).bind fun v_30 =>
    (nN (FP.dsub v_24 v_30)).bind fun v_31 =>
    xb (af_X1_checked n S st v_31) fun st_32 v_33 =>
    some (st_32, .inl v_33)
  else
  if v_1 = (61 : Int32) then
    (p1).bind fun a_35 =>
    (gR st a_35 27 0).bind fun r_36 =>
    (r_36).bind fun a_37 =>
    (lR st a_37 9 p5).bind fun r_38 =>
    (r_38).bind fun a_39 =>
    (lD st a_39 p6).bind fun v_40 =>
    some (st, .inl v_40)
  else
  if v_1 = (67 : Int32) then
    some (st, .inl FP.dconst1)
  else
  if v_1 = (73 : Int32) then
    if p5 = p6 then
      some (st, .inl FP.dconst1)
    else
      some (st, .inl FP.dconst0)
  else
  if v_1 = (83 : Int32) then
    (p1).bind fun a_45 =>
    (gR st a_45 27 0).bind fun r_46 =>
    (r_46).bind fun a_47 =>
    (lR st a_47 9 p5).bind fun r_48 =>
    (r_48).bind fun a_49 =>
    (lD st a_49 p6).bind fun v_50 =>
    (nN (FP.dmul p3 v_50)).bind fun v_51 =>
    xb (af_X1_checked n S st v_51) fun st_52 v_53 =>
    some (st_52, .inl v_53)
  else
  if v_1 = (84 : Int32) then
    (p1).bind fun a_55 =>
    (gR st a_55 27 0).bind fun r_56 =>
    (r_56).bind fun a_57 =>
    (lR st a_57 9 p6).bind fun r_58 =>
    (r_58).bind fun a_59 =>
    (lD st a_59 p5).bind fun v_60 =>
    some (st, .inl v_60)
  else
  if v_1 = (90 : Int32) then
    some (st, .inl FP.dconst0)
  else
  (p1).bind fun a_62 =>
  (gR st a_62 27 0).bind fun r_63 =>
  (r_63).bind fun a_64 =>
  (lR st a_64 9 p5).bind fun r_65 =>
  (r_65).bind fun a_66 =>
  (lD st a_66 (0 : Int32)).bind fun v_67 =>
  (p2).bind fun a_68 =>
  (gR st a_68 27 0).bind fun r_69 =>
  (r_69).bind fun a_70 =>
  (lR st a_70 9 (0 : Int32)).bind fun r_71 =>
  (r_71).bind fun a_72 =>
  (lD st a_72 p6).bind fun v_73 =>
  (nN (FP.dmul v_67 v_73)).bind fun v_74 =>
  xb (af_X1_checked n S st v_74) fun st_75 v_76 =>
  af_X26_cell_S212 n S n st_75 a0 (some a_62) (some a_68) p5 p6 v_76 (1 : Int32)
/-! BasicMachine$Mat.worked(LBasicMachine;LBasicMachine$Matrix;LBasicMachine$Matrix;D)LBasicMachine$Matrix; -/
def af_X26_worked_B162 (n : Nat) (S : Nat → Nat) (rec : Nat → aS → Nat → Option Nat → Option Nat → UInt64 → Option Nat → Int32 → Int32 → Option (aS × ((Option Nat) ⊕ Nat))) (st : aS) (a0 : Nat) (x2 : Option Nat) (x3 : Option Nat) (x4 : UInt64) (x7 : Option Nat) (x8 : Int32) (x9 : Int32) : Option (aS × ((Option Nat) ⊕ Nat)) :=
  (x7).bind fun a_1 =>
  (gI st a_1 27 1).bind fun v_2 =>
  if v_2 ≤ x8 then
    some (st, .inl (some a_1))
  else
    rec 1 st a0 x2 x3 x4 (some a_1) x8 (0 : Int32)
def af_X26_worked_B175 (n : Nat) (S : Nat → Nat) (rec : Nat → aS → Nat → Option Nat → Option Nat → UInt64 → Option Nat → Int32 → Int32 → Option (aS × ((Option Nat) ⊕ Nat))) (st : aS) (a0 : Nat) (x2 : Option Nat) (x3 : Option Nat) (x4 : UInt64) (x7 : Option Nat) (x8 : Int32) (x9 : Int32) : Option (aS × ((Option Nat) ⊕ Nat)) :=
  (x7).bind fun a_1 =>
  (gI st a_1 27 2).bind fun v_2 =>
  if v_2 ≤ x9 then
    rec 0 st a0 x2 x3 x4 (some a_1) (x8 + (1 : Int32)) (0 : Int32)
  else
    (gR st a_1 27 0).bind fun r_4 =>
    (r_4).bind fun a_5 =>
    (lR st a_5 9 x8).bind fun r_6 =>
    (gC st a0 25).bind fun u_9 =>
    xb (af_X26_cell n S st a0 x2 x3 x4 x8 x9) fun st_7 v_8 =>
    (r_6).bind fun a_10 =>
    (wD st_7 a_10 x9 v_8).bind fun st_11 =>
    rec 1 st_11 a0 x2 x3 x4 (some a_1) x8 (x9 + (1 : Int32))
def af_X26_worked_S162 (n : Nat) (S : Nat → Nat) : Nat → Nat → aS → Nat → Option Nat → Option Nat → UInt64 → Option Nat → Int32 → Int32 → Option (aS × ((Option Nat) ⊕ Nat))
  | 0, _, _, _, _, _, _, _, _, _ => none
  | k + 1, lb, st, a0, x2, x3, x4, x7, x8, x9 => if lb = 0 then af_X26_worked_B162 n S (af_X26_worked_S162 n S k) st a0 x2 x3 x4 x7 x8 x9 else af_X26_worked_B175 n S (af_X26_worked_S162 n S k) st a0 x2 x3 x4 x7 x8 x9
def af_X26_worked_L154 (n : Nat) (S : Nat → Nat) (st : aS) (a0 : Nat) (x2 : Option Nat) (x3 : Option Nat) (x4 : UInt64) (z154_0 : Option Nat) (z154_1 : Int32) (z154_2 : Int32) : Option (aS × ((Option Nat) ⊕ Nat)) :=
  (z154_0).bind fun a_1 =>
  (gC st a_1 27).bind fun u_4 =>
  cb (af_X28_be n S st a_1 z154_1 z154_2) fun st_2 r_3 =>
  af_X26_worked_S162 n S n 0 st_2 a0 x2 x3 x4 r_3 (0 : Int32) (0 : Int32)
def af_X26_worked_L118 (n : Nat) (S : Nat → Nat) (st : aS) (a0 : Nat) (x2 : Option Nat) (x3 : Option Nat) (x4 : UInt64) (z118_0 : Option Nat) (z118_1 : Int32) : Option (aS × ((Option Nat) ⊕ Nat)) :=
  (gI st a0 25 1).bind fun v_1 =>
  if v_1 = (84 : Int32) then
    (x2).bind fun a_9 =>
    (gI st a_9 27 1).bind fun v_10 =>
    af_X26_worked_L154 n S st a0 (some a_9) x3 x4 z118_0 z118_1 v_10
  else
    (gI st a0 25 1).bind fun v_3 =>
    if v_3 = (42 : Int32) then
      (x3).bind fun a_7 =>
      (gI st a_7 27 2).bind fun v_8 =>
      af_X26_worked_L154 n S st a0 x2 (some a_7) x4 z118_0 z118_1 v_8
    else
      (x2).bind fun a_5 =>
      (gI st a_5 27 2).bind fun v_6 =>
      af_X26_worked_L154 n S st a0 (some a_5) x3 x4 z118_0 z118_1 v_6
def af_X26_worked_L94 (n : Nat) (S : Nat → Nat) (st : aS) (a0 : Nat) (x1 : Option Nat) (x2 : Option Nat) (x3 : Option Nat) (x4 : UInt64) : Option (aS × ((Option Nat) ⊕ Nat)) :=
  (x1).bind fun a_1 =>
  (gR st a_1 0 7).bind fun r_2 =>
  (gI st a0 25 1).bind fun v_3 =>
  if v_3 = (84 : Int32) then
    (x2).bind fun a_7 =>
    (gI st a_7 27 2).bind fun v_8 =>
    af_X26_worked_L118 n S st a0 (some a_7) x3 x4 r_2 v_8
  else
    (x2).bind fun a_5 =>
    (gI st a_5 27 1).bind fun v_6 =>
    af_X26_worked_L118 n S st a0 (some a_5) x3 x4 r_2 v_6
def af_X26_worked_L61 (n : Nat) (S : Nat → Nat) (st : aS) (a0 : Nat) (x1 : Option Nat) (x2 : Option Nat) (x3 : Option Nat) (x4 : UInt64) (z61_0 : Int32) : Option (aS × ((Option Nat) ⊕ Nat)) :=
  if z61_0 = 0 then
    aTw st 5
  else
    (x1).bind fun a_2 =>
    (gR st a_2 0 7).bind fun r_3 =>
    if r_3 = none then
      (nO st 27 [.null, .int 0, .int 0] 3).bind fun st_5 =>
      cb (af_X28_init n S st_5 st.1) fun st_6 u_7 =>
      (pF st_6 a_2 0 7 (va_rf (some st.1))).bind fun st_8 =>
      af_X26_worked_L94 n S st_8 a0 (some a_2) x2 x3 x4
    else
      af_X26_worked_L94 n S st a0 (some a_2) x2 x3 x4
def af_X26_worked (n : Nat) (S : Nat → Nat) (st : aS) (a0 : Nat) (p1 : Option Nat) (p2 : Option Nat) (p3 : Option Nat) (p4 : UInt64) : Option (aS × ((Option Nat) ⊕ Nat)) :=
  (gI st a0 25 1).bind fun v_1 =>
  if v_1 = (42 : Int32) then
    (p2).bind fun a_13 =>
    (gI st a_13 27 2).bind fun v_14 =>
    (p3).bind fun a_15 =>
    (gI st a_15 27 1).bind fun v_16 =>
    if v_14 = v_16 then
      af_X26_worked_L61 n S st a0 p1 (some a_13) (some a_15) p4 (1 : Int32)
    else
      af_X26_worked_L61 n S st a0 p1 (some a_13) (some a_15) p4 (0 : Int32)
  else
    (gI st a0 25 1).bind fun v_3 =>
    if v_3 = (73 : Int32) then
      (p2).bind fun a_9 =>
      (gI st a_9 27 1).bind fun v_10 =>
      (gI st a_9 27 2).bind fun v_11 =>
      if v_10 = v_11 then
        af_X26_worked_L61 n S st a0 p1 (some a_9) p3 p4 (1 : Int32)
      else
        af_X26_worked_L61 n S st a0 p1 (some a_9) p3 p4 (0 : Int32)
    else
      (p2).bind fun a_5 =>
      (gC st a_5 27).bind fun u_8 =>
      cb (af_X28_sameSize n S st a_5 p3) fun st_6 v_7 =>
      af_X26_worked_L61 n S st_6 a0 p1 (some a_5) p3 p4 v_7
/-! BasicMachine$Mat.run(LBasicMachine;LBasicMachine$Line;)LBasicMachine$Line; -/
def af_X26_run_L51 (n : Nat) (S : Nat → Nat) (st : aS) (a0 : Nat) (x1 : Option Nat) (x3 : Option Nat) (x4 : Option Nat) (z51_0 : UInt64) : Option (aS × ((Option Nat) ⊕ Nat)) :=
  (gC st a0 25).bind fun u_3 =>
  xb (af_X26_worked n S st a0 x1 x3 x4 z51_0) fun st_1 r_2 =>
  (x1).bind fun a_4 =>
  (gR st_1 a_4 0 6).bind fun r_5 =>
  (gI st_1 a0 25 0).bind fun v_6 =>
  (r_5).bind fun a_7 =>
  (lR st_1 a_7 4 v_6).bind fun r_8 =>
  (pF st_1 a_4 0 7 (va_rf r_8)).bind fun st_9 =>
  (gR st_9 a_4 0 6).bind fun r_10 =>
  (gI st_9 a0 25 0).bind fun v_11 =>
  (r_10).bind fun a_12 =>
  (r_2).bind fun a_14 =>
  (gC st_9 a_14 27).bind fun u_15 =>
  (wR st_9 a_12 4 v_11 (some a_14)).bind fun st_13 =>
  some (st_13, .inl (none : Option Nat))
def af_X26_run_L28 (n : Nat) (S : Nat → Nat) (st : aS) (a0 : Nat) (x1 : Option Nat) (x3 : Option Nat) (z28_0 : Option Nat) : Option (aS × ((Option Nat) ⊕ Nat)) :=
  (gR st a0 25 4).bind fun r_1 =>
  if r_1 = none then
    af_X26_run_L51 n S st a0 x1 x3 z28_0 FP.dconst1
  else
    (gR st a0 25 4).bind fun r_3 =>
    (r_3).bind fun a_4 =>
    xb (af_value n S dV st a_4 x1) fun st_5 v_6 =>
    af_X26_run_L51 n S st_5 a0 x1 x3 z28_0 v_6
def af_X26_run (n : Nat) (S : Nat → Nat) (st : aS) (a0 : Nat) (p1 : Option Nat) (p2 : Option Nat) : Option (aS × ((Option Nat) ⊕ Nat)) :=
  (gI st a0 25 2).bind fun v_1 =>
  (p1).bind fun a_2 =>
  (gC st a_2 0).bind fun u_5 =>
  xb (af_X1_known n S st a_2 v_1) fun st_3 r_4 =>
  (gI st_3 a0 25 3).bind fun v_6 =>
  if 0 ≤ v_6 then
    (gI st_3 a0 25 3).bind fun v_8 =>
    (gC st_3 a_2 0).bind fun u_11 =>
    xb (af_X1_known n S st_3 a_2 v_8) fun st_9 r_10 =>
    af_X26_run_L28 n S st_9 a0 (some a_2) r_4 r_10
  else
    af_X26_run_L28 n S st_3 a0 (some a_2) r_4 r_4
/-! BasicMachine$Loop.step()D -/
def af_X29_step (n : Nat) (S : Nat → Nat) (st : aS) (a0 : Nat) : Option (aS × (UInt64)) :=
  (gD st a0 28 2).bind fun v_1 =>
  some (st, v_1)
/-! BasicMachine$Loop.limit()D -/
def af_X29_limit (n : Nat) (S : Nat → Nat) (st : aS) (a0 : Nat) : Option (aS × (UInt64)) :=
  (gD st a0 28 1).bind fun v_1 =>
  some (st, v_1)
/-! BasicMachine$Loop.from()LBasicMachine$Line; -/
def af_X29_from (n : Nat) (S : Nat → Nat) (st : aS) (a0 : Nat) : Option (aS × (Option Nat)) :=
  (gR st a0 28 3).bind fun r_1 =>
  some (st, r_1)
/-! BasicMachine$Next.run(LBasicMachine;LBasicMachine$Line;)LBasicMachine$Line; -/
def af_X20_run (n : Nat) (S : Nat → Nat) (st : aS) (a0 : Nat) (p1 : Option Nat) (p2 : Option Nat) : Option (aS × ((Option Nat) ⊕ Nat)) :=
  (gI st a0 19 0).bind fun v_1 =>
  (p1).bind fun a_2 =>
  (gC st a_2 0).bind fun u_5 =>
  cb (af_X1_loop n S st a_2 v_1) fun st_3 v_4 =>
  if 0 ≤ v_4 then
    (pF st_3 a_2 0 15 (.int (v_4 + (1 : Int32)))).bind fun st_7 =>
    (gR st_7 a_2 0 14).bind fun r_8 =>
    (r_8).bind fun a_9 =>
    (lR st_7 a_9 7 v_4).bind fun r_10 =>
    (gR st_7 a_2 0 5).bind fun r_11 =>
    (gI st_7 a0 19 0).bind fun v_12 =>
    (gR st_7 a_2 0 5).bind fun r_13 =>
    (gI st_7 a0 19 0).bind fun v_14 =>
    (r_13).bind fun a_15 =>
    (lD st_7 a_15 v_14).bind fun v_16 =>
    (r_10).bind fun a_17 =>
    (gC st_7 a_17 28).bind fun u_20 =>
    cb (af_X29_step n S st_7 a_17) fun st_18 v_19 =>
    (nN (FP.dadd v_16 v_19)).bind fun v_21 =>
    xb (af_X1_checked n S st_18 v_21) fun st_22 v_23 =>
    (r_11).bind fun a_24 =>
    (wD st_22 a_24 v_12 v_23).bind fun st_25 =>
    (gR st_25 a_2 0 5).bind fun r_26 =>
    (gI st_25 a0 19 0).bind fun v_27 =>
    (r_26).bind fun a_28 =>
    (lD st_25 a_28 v_27).bind fun v_29 =>
    (gC st_25 a_17 28).bind fun u_32 =>
    cb (af_X29_limit n S st_25 a_17) fun st_30 v_31 =>
    (gC st_30 a_17 28).bind fun u_35 =>
    cb (af_X29_step n S st_30 a_17) fun st_33 v_34 =>
    cb (af_X29_over n S st_33 v_29 v_31 v_34) fun st_36 v_37 =>
    if v_37 = 0 then
      (gC st_36 a_17 28).bind fun u_42 =>
      cb (af_X29_from n S st_36 a_17) fun st_40 r_41 =>
      (gC st_40 a_2 0).bind fun u_45 =>
      cb (af_X1_after n S st_40 a_2 r_41) fun st_43 r_44 =>
      some (st_43, .inl r_44)
    else
      (pF st_36 a_2 0 15 (.int v_4)).bind fun st_39 =>
      some (st_39, .inl (none : Option Nat))
  else
    aTw st_3 1
/-! BasicMachine$Nothing.run(LBasicMachine;LBasicMachine$Line;)LBasicMachine$Line; -/
def af_X27_run (n : Nat) (S : Nat → Nat) (st : aS) (a0 : Nat) (p1 : Option Nat) (p2 : Option Nat) : Option (aS × ((Option Nat) ⊕ Nat)) :=
  (gI st a0 26 0).bind fun v_1 =>
  if v_1 = 0 then
    some (st, .inl (none : Option Nat))
  else
    (p1).bind fun a_3 =>
    (pF st a_3 0 20 (.int (1 : Int32))).bind fun st_4 =>
    some (st_4, .inl (none : Option Nat))
/-! BasicMachine$On.run(LBasicMachine;LBasicMachine$Line;)LBasicMachine$Line; -/
def af_X16_run (n : Nat) (S : Nat → Nat) (st : aS) (a0 : Nat) (p1 : Option Nat) (p2 : Option Nat) : Option (aS × ((Option Nat) ⊕ Nat)) :=
  (gR st a0 15 0).bind fun r_1 =>
  (r_1).bind fun a_2 =>
  xb (af_value n S dV st a_2 p1) fun st_3 v_4 =>
  cb (af_X1_whole n S st_3 v_4) fun st_5 v_6 =>
  if (lg_cmp v_6 (1 : Int64)) < 0 then
    aTw st_5 0
  else
    (gR st_5 a0 15 1).bind fun r_8 =>
    (r_8).bind fun a_9 =>
    (aLen st_5 a_9).bind fun v_10 =>
    if (lg_cmp v_6 v_10.toInt64) ≤ 0 then
      (gR st_5 a0 15 1).bind fun r_12 =>
      (r_12).bind fun a_13 =>
      (lI st_5 a_13 1 (v_6.toInt32 - (1 : Int32))).bind fun v_14 =>
      (p1).bind fun a_15 =>
      (gC st_5 a_15 0).bind fun u_18 =>
      xb (af_X1_line n S st_5 a_15 v_14) fun st_16 r_17 =>
      some (st_16, .inl r_17)
    else
      aTw st_5 0
/-! BasicMachine$Print.run(LBasicMachine;LBasicMachine$Line;)LBasicMachine$Line; -/
def af_X13_run_L30 (n : Nat) (S : Nat → Nat) (st : aS) (a0 : Nat) (x1 : Option Nat) : Option (aS × ((Option Nat) ⊕ Nat)) :=
  (x1).bind fun a_1 =>
  (gI st a_1 0 17).bind fun v_2 =>
  (pF st a_1 0 17 (.int (v_2 + (1 : Int32)))).bind fun st_3 =>
  some (st_3, .inl (none : Option Nat))
def af_X13_run (n : Nat) (S : Nat → Nat) (st : aS) (a0 : Nat) (p1 : Option Nat) (p2 : Option Nat) : Option (aS × ((Option Nat) ⊕ Nat)) :=
  (gR st a0 12 0).bind fun r_1 =>
  (r_1).bind fun a_2 =>
  xb (af_value n S dV st a_2 p1) fun st_3 v_4 =>
  (p1).bind fun a_5 =>
  (gI st_3 a_5 0 17).bind fun v_6 =>
  if (40 : Int32) ≤ v_6 then
    af_X13_run_L30 n S st_3 a0 (some a_5)
  else
    (gR st_3 a_5 0 16).bind fun r_8 =>
    (gI st_3 a_5 0 17).bind fun v_9 =>
    (r_8).bind fun a_10 =>
    (wD st_3 a_10 v_9 v_4).bind fun st_11 =>
    af_X13_run_L30 n S st_11 a0 (some a_5)
/-! BasicMachine$Read.run(LBasicMachine;LBasicMachine$Line;)LBasicMachine$Line; -/
def af_X21_run (n : Nat) (S : Nat → Nat) (st : aS) (a0 : Nat) (p1 : Option Nat) (p2 : Option Nat) : Option (aS × ((Option Nat) ⊕ Nat)) :=
  (gR st a0 20 0).bind fun r_1 =>
  (r_1).bind fun a_2 =>
  (gC st a_2 4).bind fun u_5 =>
  xb (af_X5_find n S st a_2 p1) fun st_3 v_4 =>
  (gR st_3 a0 20 0).bind fun r_6 =>
  (p1).bind fun a_7 =>
  (gC st_3 a_7 0).bind fun u_10 =>
  xb (af_X1_read n S st_3 a_7) fun st_8 v_9 =>
  (r_6).bind fun a_11 =>
  (gC st_8 a_11 4).bind fun u_14 =>
  cb (af_X5_put n S st_8 a_11 (some a_7) v_4 v_9) fun st_12 u_13 =>
  some (st_12, .inl (none : Option Nat))
/-! BasicMachine$Restore.run(LBasicMachine;LBasicMachine$Line;)LBasicMachine$Line; -/
def af_X23_run (n : Nat) (S : Nat → Nat) (st : aS) (a0 : Nat) (p1 : Option Nat) (p2 : Option Nat) : Option (aS × ((Option Nat) ⊕ Nat)) :=
  (p1).bind fun a_1 =>
  (pF st a_1 0 18 (.int (0 : Int32))).bind fun st_2 =>
  some (st_2, .inl (none : Option Nat))
/-! BasicMachine$Return.run(LBasicMachine;LBasicMachine$Line;)LBasicMachine$Line; -/
def af_X18_run (n : Nat) (S : Nat → Nat) (st : aS) (a0 : Nat) (p1 : Option Nat) (p2 : Option Nat) : Option (aS × ((Option Nat) ⊕ Nat)) :=
  (p1).bind fun a_1 =>
  (gI st a_1 0 13).bind fun v_2 =>
  if v_2 = 0 then
    aTw st 1
  else
    (gI st a_1 0 13).bind fun v_4 =>
    (pF st a_1 0 13 (.int (v_4 - (1 : Int32)))).bind fun st_5 =>
    (gR st_5 a_1 0 12).bind fun r_6 =>
    (gI st_5 a_1 0 13).bind fun v_7 =>
    (r_6).bind fun a_8 =>
    (lR st_5 a_8 6 v_7).bind fun r_9 =>
    (gC st_5 a_1 0).bind fun u_12 =>
    cb (af_X1_after n S st_5 a_1 r_9) fun st_10 r_11 =>
    some (st_10, .inl r_11)
/-! dispatch.run -/
def af_run (n : Nat) (S : Nat → Nat) (st : aS) (a : Nat) (r1 r2 : Option Nat) : Option (aS × (Option Nat ⊕ Nat)) :=
  (aCi st a).bind fun c => if c = 21 then af_X22_run n S st a r1 r2 else if c = 24 then af_X25_run n S st a r1 r2 else if c = 23 then af_X24_run n S st a r1 r2 else if c = 18 then af_X19_run n S st a r1 r2 else if c = 16 then af_X17_run n S st a r1 r2 else if c = 14 then af_X15_run n S st a r1 r2 else if c = 13 then af_X14_run n S st a r1 r2 else if c = 11 then af_X12_run n S st a r1 r2 else if c = 25 then af_X26_run n S st a r1 r2 else if c = 19 then af_X20_run n S st a r1 r2 else if c = 26 then af_X27_run n S st a r1 r2 else if c = 15 then af_X16_run n S st a r1 r2 else if c = 12 then af_X13_run n S st a r1 r2 else if c = 20 then af_X21_run n S st a r1 r2 else if c = 22 then af_X23_run n S st a r1 r2 else if c = 17 then af_X18_run n S st a r1 r2 else none
/-! BasicMachine.go()V -/
def af_X1_go_B5 (n : Nat) (S : Nat → Nat) (rec : Nat → aS → Nat → Option Nat → Option Nat → Option Nat → Option (aS × (Unit ⊕ Nat))) (st : aS) (a0 : Nat) (x1 : Option Nat) (x2 : Option Nat) (z80_0 : Option Nat) : Option (aS × (Unit ⊕ Nat)) :=
  (gI st a0 0 20).bind fun v_1 =>
  if v_1 = 0 then
    (gI st a0 0 21).bind fun v_3 =>
    if v_3 = (300 : Int32) then
      aTw st 1
    else
      (gI st a0 0 21).bind fun v_5 =>
      (pF st a0 0 21 (.int (v_5 + (1 : Int32)))).bind fun st_6 =>
      (x1).bind fun a_7 =>
      (gI st_6 a_7 3 0).bind fun v_8 =>
      (pF st_6 a0 0 22 (.int v_8)).bind fun st_9 =>
      (gR st_9 a_7 3 1).bind fun r_10 =>
      (r_10).bind fun a_11 =>
      xb (af_run n S st_9 a_11 (some a0) (some a_7)) fun st_12 r_13 =>
      if r_13 = none then
        (gI st_12 a0 0 20).bind fun v_15 =>
        if v_15 = 0 then
          (gC st_12 a0 0).bind fun u_19 =>
          cb (af_X1_after n S st_12 a0 (some a_7)) fun st_17 r_18 =>
          rec 2 st_17 a0 (none : Option Nat) (none : Option Nat) r_18
        else
          rec 1 st_12 a0 (none : Option Nat) r_13 (none : Option Nat)
      else
        rec 1 st_12 a0 (none : Option Nat) r_13 (none : Option Nat)
  else
    some (st, .inl ())
def af_X1_go_B71 (n : Nat) (S : Nat → Nat) (rec : Nat → aS → Nat → Option Nat → Option Nat → Option Nat → Option (aS × (Unit ⊕ Nat))) (st : aS) (a0 : Nat) (x1 : Option Nat) (x2 : Option Nat) (z80_0 : Option Nat) : Option (aS × (Unit ⊕ Nat)) :=
  rec 2 st a0 (none : Option Nat) (none : Option Nat) x2
def af_X1_go_B80 (n : Nat) (S : Nat → Nat) (rec : Nat → aS → Nat → Option Nat → Option Nat → Option Nat → Option (aS × (Unit ⊕ Nat))) (st : aS) (a0 : Nat) (x1 : Option Nat) (x2 : Option Nat) (z80_0 : Option Nat) : Option (aS × (Unit ⊕ Nat)) :=
  rec 0 st a0 z80_0 (none : Option Nat) (none : Option Nat)
def af_X1_go_S5 (n : Nat) (S : Nat → Nat) : Nat → Nat → aS → Nat → Option Nat → Option Nat → Option Nat → Option (aS × (Unit ⊕ Nat))
  | 0, _, _, _, _, _, _ => none
  | k + 1, lb, st, a0, x1, x2, z80_0 => if lb = 0 then af_X1_go_B5 n S (af_X1_go_S5 n S k) st a0 x1 x2 z80_0 else if lb = 1 then af_X1_go_B71 n S (af_X1_go_S5 n S k) st a0 x1 x2 z80_0 else af_X1_go_B80 n S (af_X1_go_S5 n S k) st a0 x1 x2 z80_0
def af_X1_go (n : Nat) (S : Nat → Nat) (st : aS) (a0 : Nat) : Option (aS × (Unit ⊕ Nat)) :=
  (gR st a0 0 3).bind fun r_1 =>
  af_X1_go_S5 n S n 0 st a0 r_1 (none : Option Nat) (none : Option Nat)
/-! BasicMachine.settle()V -/
def af_X1_settle_B14 (n : Nat) (S : Nat → Nat) (rec : Nat → aS → Nat → Option Nat → Option (aS × Unit)) (st : aS) (a0 : Nat) (x1 : Option Nat) : Option (aS × Unit) :=
  if x1 = none then
    some (st, ())
  else
    (x1).bind fun a_2 =>
    (gR st a_2 3 1).bind fun r_3 =>
    (iO st r_3 21).bind fun v_4 =>
    if v_4 = 0 then
      rec 1 st a0 (some a_2)
    else
      (gI st a0 0 19).bind fun v_6 =>
      (gR st a_2 3 1).bind fun r_7 =>
      (r_7).bind fun a_8 =>
      (gC st a_8 21).bind fun u_9 =>
      (gC st a_8 21).bind fun u_12 =>
      cb (af_X22_values n S st a_8) fun st_10 r_11 =>
      (r_11).bind fun a_13 =>
      (aLen st_10 a_13).bind fun v_14 =>
      (pF st_10 a0 0 19 (.int (v_6 + v_14))).bind fun st_15 =>
      rec 1 st_15 a0 (some a_2)
def af_X1_settle_B48 (n : Nat) (S : Nat → Nat) (rec : Nat → aS → Nat → Option Nat → Option (aS × Unit)) (st : aS) (a0 : Nat) (x1 : Option Nat) : Option (aS × Unit) :=
  (x1).bind fun a_1 =>
  (gR st a_1 3 2).bind fun r_2 =>
  rec 0 st a0 r_2
def af_X1_settle_S14 (n : Nat) (S : Nat → Nat) : Nat → Nat → aS → Nat → Option Nat → Option (aS × Unit)
  | 0, _, _, _, _ => none
  | k + 1, lb, st, a0, x1 => if lb = 0 then af_X1_settle_B14 n S (af_X1_settle_S14 n S k) st a0 x1 else af_X1_settle_B48 n S (af_X1_settle_S14 n S k) st a0 x1
def af_X1_settle (n : Nat) (S : Nat → Nat) (st : aS) (a0 : Nat) : Option (aS × Unit) :=
  (gI st a0 0 18).bind fun v_1 =>
  (pF st a0 0 19 (.int (-v_1))).bind fun st_2 =>
  (gR st_2 a0 0 3).bind fun r_3 =>
  af_X1_settle_S14 n S n 0 st_2 a0 r_3
/-! BasicMachine.failed()V -/
def af_X1_failed_B10 (n : Nat) (S : Nat → Nat) (rec : aS → Nat → Option (aS × Unit)) (st : aS) (a0 : Nat) : Option (aS × Unit) :=
  (gI st a0 0 9).bind fun v_1 =>
  if v_1 ≤ 0 then
    (gC st a0 0).bind fun u_5 =>
    cb (af_X1_settle n S st a0) fun st_3 u_4 =>
    some (st_3, ())
  else
    (gC st a0 0).bind fun u_8 =>
    cb (af_X1_leave n S st a0) fun st_6 u_7 =>
    rec st_6 a0
def af_X1_failed_S10 (n : Nat) (S : Nat → Nat) : Nat → aS → Nat → Option (aS × Unit)
  | 0, _, _ => none
  | k + 1, st, a0 => af_X1_failed_B10 n S (af_X1_failed_S10 n S k) st a0
def af_X1_failed (n : Nat) (S : Nat → Nat) (st : aS) (a0 : Nat) : Option (aS × Unit) :=
  (gI st a0 0 23).bind fun v_1 =>
  (pF st a0 0 23 (.int (v_1 + (1 : Int32)))).bind fun st_2 =>
  af_X1_failed_S10 n S n st_2 a0
/-! BasicMachine.run()I -/
def af_X1_run (n : Nat) (S : Nat → Nat) (st : aS) (a0 : Nat) : Option (aS × ((Int32) ⊕ Nat)) :=
  (gC st a0 0).bind fun u_3 =>
  cb (af_X1_begin n S st a0) fun st_1 u_2 =>
  (gC st_1 a0 0).bind fun u_6 =>
  xc (af_X1_go n S st_1 a0) (fun st_4 u_5 =>
    (gC st_4 a0 0).bind fun u_33 =>
    cb (af_X1_settle n S st_4 a0) fun st_31 u_32 =>
    (gI st_31 a0 0 21).bind fun v_34 =>
    some (st_31, .inl v_34)
  ) (fun st_4 k9 =>
    if k9 = 0 then
      (gC st_4 a0 0).bind fun u_10 =>
      cb (af_X1_failed n S st_4 a0) fun st_8 u_9 =>
      aTw st_8 0
    else
    if k9 = 1 then
      (gC st_4 a0 0).bind fun u_14 =>
      cb (af_X1_failed n S st_4 a0) fun st_12 u_13 =>
      aTw st_12 1
    else
    if k9 = 2 then
      (gC st_4 a0 0).bind fun u_18 =>
      cb (af_X1_failed n S st_4 a0) fun st_16 u_17 =>
      aTw st_16 2
    else
    if k9 = 3 then
      (gC st_4 a0 0).bind fun u_22 =>
      cb (af_X1_failed n S st_4 a0) fun st_20 u_21 =>
      aTw st_20 3
    else
    if k9 = 4 then
      (gC st_4 a0 0).bind fun u_26 =>
      cb (af_X1_failed n S st_4 a0) fun st_24 u_25 =>
      aTw st_24 4
    else
    if k9 = 5 then
      (gC st_4 a0 0).bind fun u_30 =>
      cb (af_X1_failed n S st_4 a0) fun st_28 u_29 =>
      aTw st_28 5
    else
    none
  )
/-! BasicMachine.printed(I)D -/
def af_X1_printed (n : Nat) (S : Nat → Nat) (st : aS) (a0 : Nat) (p1 : Int32) : Option (aS × ((UInt64) ⊕ Nat)) :=
  if p1 < 0 then
    aTw st 2
  else
    (gI st a0 0 17).bind fun v_2 =>
    if v_2 ≤ p1 then
      aTw st 2
    else
      if p1 < (40 : Int32) then
        (gR st a0 0 16).bind fun r_5 =>
        (r_5).bind fun a_6 =>
        (lD st a_6 p1).bind fun v_7 =>
        some (st, .inl v_7)
      else
        aTw st 2
/-! BasicMachine.variable(I)D -/
def af_X1_variable_L30 (n : Nat) (S : Nat → Nat) (st : aS) (a0 : Nat) (x1 : Int32) : Option (aS × ((UInt64) ⊕ Nat)) :=
  (gR st a0 0 5).bind fun r_1 =>
  (r_1).bind fun a_2 =>
  (lD st a_2 x1).bind fun v_3 =>
  some (st, .inl v_3)
def af_X1_variable (n : Nat) (S : Nat → Nat) (st : aS) (a0 : Nat) (p1 : Int32) : Option (aS × ((UInt64) ⊕ Nat)) :=
  if p1 < 0 then
    aTw st 0
  else
    if (25 : Int32) < p1 then
      aTw st 0
    else
      if p1 < (15 : Int32) then
        af_X1_variable_L30 n S st a0 p1
      else
        if (17 : Int32) < p1 then
          af_X1_variable_L30 n S st a0 p1
        else
          aTw st 0
/-! BasicMachine.element(III)D -/
def af_X1_element (n : Nat) (S : Nat → Nat) (st : aS) (a0 : Nat) (p1 : Int32) (p2 : Int32) (p3 : Int32) : Option (aS × ((UInt64) ⊕ Nat)) :=
  if p1 < 0 then
    aTw st 0
  else
    if p1 ≤ (2 : Int32) then
      (gC st a0 0).bind fun u_5 =>
      xb (af_X1_matrix n S st a0 p1) fun st_3 r_4 =>
      (r_4).bind fun a_6 =>
      (gC st_3 a_6 27).bind fun u_9 =>
      xb (af_X28_at n S st_3 a_6 p2.toInt64 p3.toInt64) fun st_7 v_8 =>
      some (st_7, .inl v_8)
    else
      aTw st 0
/-! BasicMachine.at()I -/
def af_X1_at (n : Nat) (S : Nat → Nat) (st : aS) (a0 : Nat) : Option (aS × (Int32)) :=
  (gI st a0 0 22).bind fun v_1 =>
  some (st, v_1)
/-! BasicMachine.greatest()I -/
def af_X1_greatest_B7 (n : Nat) (S : Nat → Nat) (rec : aS → Nat → Int32 → Option Nat → Option (aS × (Int32))) (st : aS) (a0 : Nat) (x1 : Int32) (x2 : Option Nat) : Option (aS × (Int32)) :=
  if x2 = none then
    some (st, x1)
  else
    (x2).bind fun a_2 =>
    (gI st a_2 3 0).bind fun v_3 =>
    (gR st a_2 3 2).bind fun r_4 =>
    rec st a0 v_3 r_4
def af_X1_greatest_S7 (n : Nat) (S : Nat → Nat) : Nat → aS → Nat → Int32 → Option Nat → Option (aS × (Int32))
  | 0, _, _, _, _ => none
  | k + 1, st, a0, x1, x2 => af_X1_greatest_B7 n S (af_X1_greatest_S7 n S k) st a0 x1 x2
def af_X1_greatest (n : Nat) (S : Nat → Nat) (st : aS) (a0 : Nat) : Option (aS × (Int32)) :=
  (gR st a0 0 3).bind fun r_1 =>
  af_X1_greatest_S7 n S n st a0 (-1 : Int32) r_1
/-! BasicMachine.count(I)I -/
def af_X1_count (n : Nat) (S : Nat → Nat) (st : aS) (a0 : Nat) (p1 : Int32) : Option (aS × (Int32)) :=
  if p1 = (0 : Int32) then
    (gI st a0 0 1).bind fun v_2 =>
    some (st, v_2)
  else
  if p1 = (1 : Int32) then
    (gI st a0 0 4).bind fun v_4 =>
    some (st, v_4)
  else
  if p1 = (2 : Int32) then
    (gI st a0 0 21).bind fun v_6 =>
    some (st, v_6)
  else
  if p1 = (3 : Int32) then
    (gI st a0 0 17).bind fun v_8 =>
    some (st, v_8)
  else
  if p1 = (4 : Int32) then
    (gI st a0 0 15).bind fun v_10 =>
    some (st, v_10)
  else
  if p1 = (5 : Int32) then
    (gI st a0 0 13).bind fun v_12 =>
    some (st, v_12)
  else
  if p1 = (6 : Int32) then
    (gI st a0 0 19).bind fun v_14 =>
    some (st, v_14)
  else
  if p1 = (7 : Int32) then
    (gI st a0 0 23).bind fun v_16 =>
    some (st, v_16)
  else
  if p1 = (8 : Int32) then
    (gR st a0 0 3).bind fun r_18 =>
    if r_18 = none then
      some (st, (-1 : Int32))
    else
      (gR st a0 0 3).bind fun r_20 =>
      (r_20).bind fun a_21 =>
      (gI st a_21 3 0).bind fun v_22 =>
      some (st, v_22)
  else
  if p1 = (9 : Int32) then
    (gC st a0 0).bind fun u_26 =>
    cb (af_X1_greatest n S st a0) fun st_24 v_25 =>
    some (st_24, v_25)
  else
  some (st, (-1 : Int32))
/-! BasicMachineModel.<init>()V -/
def af_X2_init (n : Nat) (S : Nat → Nat) (st : aS) (a0 : Nat) : Option (aS × Unit) :=
  (pF st a0 1 0 (.int (0 : Int32))).bind fun st_1 =>
  (pF st_1 a0 1 1 (.int (0 : Int32))).bind fun st_2 =>
  (pF st_2 a0 1 2 (.int (0 : Int32))).bind fun st_3 =>
  (pF st_3 a0 1 3 (.int (-1 : Int32))).bind fun st_4 =>
  (pF st_4 a0 1 4 (.int (0 : Int32))).bind fun st_5 =>
  (pF st_5 a0 1 5 (.int (0 : Int32))).bind fun st_6 =>
  (pF st_6 a0 1 6 (.int (0 : Int32))).bind fun st_7 =>
  (pF st_7 a0 1 7 (.int (0 : Int32))).bind fun st_8 =>
  (nA st_8 0 (60 : Int32) (.inl (fun _ => 0))).bind fun st_9 =>
  (pF st_9 a0 1 8 (va_rf (some st_8.1))).bind fun st_10 =>
  (nA st_10 0 (60 : Int32) (.inl (fun _ => 0))).bind fun st_11 =>
  (pF st_11 a0 1 9 (va_rf (some st_10.1))).bind fun st_12 =>
  (nA st_12 1 (25 : Int32) (.inl (fun _ => 0))).bind fun st_13 =>
  (pF st_13 a0 1 10 (va_rf (some st_12.1))).bind fun st_14 =>
  (nA st_14 1 (25 : Int32) (.inl (fun _ => 0))).bind fun st_15 =>
  (pF st_15 a0 1 11 (va_rf (some st_14.1))).bind fun st_16 =>
  (nA st_16 1 (200 : Int32) (.inl (fun _ => 0))).bind fun st_17 =>
  (pF st_17 a0 1 12 (va_rf (some st_16.1))).bind fun st_18 =>
  (nA st_18 1 (100 : Int32) (.inl (fun _ => 0))).bind fun st_19 =>
  (pF st_19 a0 1 13 (va_rf (some st_18.1))).bind fun st_20 =>
  (nA st_20 1 (4000 : Int32) (.inl (fun _ => 0))).bind fun st_21 =>
  (pF st_21 a0 1 14 (va_rf (some st_20.1))).bind fun st_22 =>
  (nA st_22 1 (64 : Int32) (.inl (fun _ => 0))).bind fun st_23 =>
  (pF st_23 a0 1 15 (va_rf (some st_22.1))).bind fun st_24 =>
  (pF st_24 a0 1 16 (.int (0 : Int32))).bind fun st_25 =>
  (pF st_25 a0 1 17 (.int (-1 : Int32))).bind fun st_26 =>
  (pF st_26 a0 1 18 (.int (0 : Int32))).bind fun st_27 =>
  (pF st_27 a0 1 19 (.int (0 : Int32))).bind fun st_28 =>
  (pF st_28 a0 1 20 (.int (0 : Int32))).bind fun st_29 =>
  (pF st_29 a0 1 21 (.int (0 : Int32))).bind fun st_30 =>
  (pF st_30 a0 1 22 (.int (0 : Int32))).bind fun st_31 =>
  (pF st_31 a0 1 23 (.int (0 : Int32))).bind fun st_32 =>
  (pF st_32 a0 1 24 (.int (0 : Int32))).bind fun st_33 =>
  (pF st_33 a0 1 25 (.int (0 : Int32))).bind fun st_34 =>
  (pF st_34 a0 1 26 (.int (0 : Int32))).bind fun st_35 =>
  (pF st_35 a0 1 27 (.int (0 : Int32))).bind fun st_36 =>
  (nA st_36 2 (40 : Int32) (.inr (.inr (.inr (.inl (fun _ => 0)))))).bind fun st_37 =>
  (pF st_37 a0 1 28 (va_rf (some st_36.1))).bind fun st_38 =>
  (nA st_38 2 (26 : Int32) (.inr (.inr (.inr (.inl (fun _ => 0)))))).bind fun st_39 =>
  (pF st_39 a0 1 29 (va_rf (some st_38.1))).bind fun st_40 =>
  (nA st_40 2 (200 : Int32) (.inr (.inr (.inr (.inl (fun _ => 0)))))).bind fun st_41 =>
  (pF st_41 a0 1 30 (va_rf (some st_40.1))).bind fun st_42 =>
  (nA st_42 2 (144 : Int32) (.inr (.inr (.inr (.inl (fun _ => 0)))))).bind fun st_43 =>
  (pF st_43 a0 1 31 (va_rf (some st_42.1))).bind fun st_44 =>
  (nA st_44 2 (6 : Int32) (.inr (.inr (.inr (.inl (fun _ => 0)))))).bind fun st_45 =>
  (pF st_45 a0 1 32 (va_rf (some st_44.1))).bind fun st_46 =>
  (nA st_46 2 (6 : Int32) (.inr (.inr (.inr (.inl (fun _ => 0)))))).bind fun st_47 =>
  (pF st_47 a0 1 33 (va_rf (some st_46.1))).bind fun st_48 =>
  (nA st_48 2 (4 : Int32) (.inr (.inr (.inr (.inl (fun _ => 0)))))).bind fun st_49 =>
  (pF st_49 a0 1 34 (va_rf (some st_48.1))).bind fun st_50 =>
  (nA st_50 2 (108 : Int32) (.inr (.inr (.inr (.inl (fun _ => 0)))))).bind fun st_51 =>
  (pF st_51 a0 1 35 (va_rf (some st_50.1))).bind fun st_52 =>
  (nA st_52 2 (36 : Int32) (.inr (.inr (.inr (.inl (fun _ => 0)))))).bind fun st_53 =>
  (pF st_53 a0 1 36 (va_rf (some st_52.1))).bind fun st_54 =>
  (nA st_54 1 (3 : Int32) (.inl (fun _ => 0))).bind fun st_55 =>
  (pF st_55 a0 1 37 (va_rf (some st_54.1))).bind fun st_56 =>
  (nA st_56 1 (3 : Int32) (.inl (fun _ => 0))).bind fun st_57 =>
  (pF st_57 a0 1 38 (va_rf (some st_56.1))).bind fun st_58 =>
  (nA st_58 1 (3 : Int32) (.inl (fun _ => 0))).bind fun st_59 =>
  (pF st_59 a0 1 39 (va_rf (some st_58.1))).bind fun st_60 =>
  (nA st_60 1 (8 : Int32) (.inl (fun _ => 0))).bind fun st_61 =>
  (pF st_61 a0 1 40 (va_rf (some st_60.1))).bind fun st_62 =>
  (nA st_62 1 (6 : Int32) (.inl (fun _ => 0))).bind fun st_63 =>
  (pF st_63 a0 1 41 (va_rf (some st_62.1))).bind fun st_64 =>
  (nA st_64 1 (6 : Int32) (.inl (fun _ => 0))).bind fun st_65 =>
  (pF st_65 a0 1 42 (va_rf (some st_64.1))).bind fun st_66 =>
  (nA st_66 1 (4 : Int32) (.inl (fun _ => 0))).bind fun st_67 =>
  (pF st_67 a0 1 43 (va_rf (some st_66.1))).bind fun st_68 =>
  (nA st_68 1 (4 : Int32) (.inl (fun _ => 0))).bind fun st_69 =>
  (pF st_69 a0 1 44 (va_rf (some st_68.1))).bind fun st_70 =>
  some (st_70, ())
/-! BasicMachineLaw.type(LBasicMachine;I[J)I -/
def af_X0_type (n : Nat) (S : Nat → Nat) (st : aS) (p0 : Option Nat) (p1 : Int32) (p2 : Option Nat) : Option (aS × (Int32)) :=
  (p0).bind fun a_1 =>
  (gC st a_1 0).bind fun u_4 =>
  xc (af_X1_type n S st a_1 p1) (fun st_2 v_3 =>
    (p2).bind fun a_7 =>
    (wL st_2 a_7 (0 : Int32) v_3.toInt64).bind fun st_8 =>
    some (st_8, (0 : Int32))
  ) (fun st_2 k9 =>
    if k9 = 0 then
      some (st_2, (1 : Int32))
    else
    if k9 = 1 then
      some (st_2, (2 : Int32))
    else
    none
  )
/-! BasicMachineLaw.enter(LBasicMachine;[J)I -/
def af_X0_enter (n : Nat) (S : Nat → Nat) (st : aS) (p0 : Option Nat) (p1 : Option Nat) : Option (aS × (Int32)) :=
  (p0).bind fun a_1 =>
  (gC st a_1 0).bind fun u_4 =>
  xc (af_X1_enter n S st a_1) (fun st_2 v_3 =>
    (p1).bind fun a_8 =>
    (wL st_2 a_8 (0 : Int32) v_3.toInt64).bind fun st_9 =>
    some (st_9, (0 : Int32))
  ) (fun st_2 k9 =>
    if k9 = 0 then
      some (st_2, (1 : Int32))
    else
    if k9 = 2 then
      some (st_2, (2 : Int32))
    else
    if k9 = 1 then
      some (st_2, (3 : Int32))
    else
    none
  )
/-! BasicMachineLaw.run(LBasicMachine;[J)I -/
def af_X0_run (n : Nat) (S : Nat → Nat) (st : aS) (p0 : Option Nat) (p1 : Option Nat) : Option (aS × (Int32)) :=
  (p0).bind fun a_1 =>
  (gC st a_1 0).bind fun u_4 =>
  xc (af_X1_run n S st a_1) (fun st_2 v_3 =>
    (p1).bind fun a_11 =>
    (wL st_2 a_11 (0 : Int32) v_3.toInt64).bind fun st_12 =>
    some (st_12, (0 : Int32))
  ) (fun st_2 k9 =>
    if k9 = 0 then
      some (st_2, (1 : Int32))
    else
    if k9 = 1 then
      some (st_2, (2 : Int32))
    else
    if k9 = 2 then
      some (st_2, (3 : Int32))
    else
    if k9 = 3 then
      some (st_2, (4 : Int32))
    else
    if k9 = 4 then
      some (st_2, (5 : Int32))
    else
    if k9 = 5 then
      some (st_2, (6 : Int32))
    else
    none
  )
/-! BasicMachineLaw.printed(LBasicMachine;I[D)I -/
def af_X0_printed (n : Nat) (S : Nat → Nat) (st : aS) (p0 : Option Nat) (p1 : Int32) (p2 : Option Nat) : Option (aS × (Int32)) :=
  (p0).bind fun a_1 =>
  (gC st a_1 0).bind fun u_4 =>
  xc (af_X1_printed n S st a_1 p1) (fun st_2 v_3 =>
    (p2).bind fun a_6 =>
    (wD st_2 a_6 (0 : Int32) v_3).bind fun st_7 =>
    some (st_7, (0 : Int32))
  ) (fun st_2 k9 =>
    if k9 = 2 then
      some (st_2, (1 : Int32))
    else
    none
  )
/-! BasicMachineLaw.variable(LBasicMachine;I[D)I -/
def af_X0_variable (n : Nat) (S : Nat → Nat) (st : aS) (p0 : Option Nat) (p1 : Int32) (p2 : Option Nat) : Option (aS × (Int32)) :=
  (p0).bind fun a_1 =>
  (gC st a_1 0).bind fun u_4 =>
  xc (af_X1_variable n S st a_1 p1) (fun st_2 v_3 =>
    (p2).bind fun a_6 =>
    (wD st_2 a_6 (0 : Int32) v_3).bind fun st_7 =>
    some (st_7, (0 : Int32))
  ) (fun st_2 k9 =>
    if k9 = 0 then
      some (st_2, (1 : Int32))
    else
    none
  )
/-! BasicMachineLaw.element(LBasicMachine;III[D)I -/
def af_X0_element (n : Nat) (S : Nat → Nat) (st : aS) (p0 : Option Nat) (p1 : Int32) (p2 : Int32) (p3 : Int32) (p4 : Option Nat) : Option (aS × (Int32)) :=
  (p0).bind fun a_1 =>
  (gC st a_1 0).bind fun u_4 =>
  xc (af_X1_element n S st a_1 p1 p2 p3) (fun st_2 v_3 =>
    (p4).bind fun a_7 =>
    (wD st_2 a_7 (0 : Int32) v_3).bind fun st_8 =>
    some (st_8, (0 : Int32))
  ) (fun st_2 k9 =>
    if k9 = 0 then
      some (st_2, (1 : Int32))
    else
    if k9 = 4 then
      some (st_2, (2 : Int32))
    else
    none
  )
