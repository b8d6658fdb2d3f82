/-! the pure functions of the model (printed by genb.py) -/
/-! BasicMachineModel.thrown()I -/
def bf_thrown (n : Nat) (st : bS) : Option (bS × Int32) :=
  some (st, (st.1 0))
/-! BasicMachineModel.refuse(I)I -/
def bf_refuse (n : Nat) (st : bS) (a1 : Int32) : Option (bS × Int32) :=
  (ptI st 0 a1).bind fun st_1 =>
  some (st_1, (0 : Int32))
/-! BasicMachineModel.fine(I)I -/
def bf_fine (n : Nat) (st : bS) (a1 : Int32) : Option (bS × Int32) :=
  (ptI st 0 (0 : Int32)).bind fun st_1 =>
  some (st_1, a1)
/-! BasicMachineModel.type(I)I -/
def bf_type_L10 (n : Nat) (st : bS) : Option (bS × Int32) :=
  (bf_refuse n st (1 : Int32)).bind fun q_1 =>
  some (q_1.1, q_1.2)
def bf_type (n : Nat) (st : bS) (a1 : Int32) : Option (bS × Int32) :=
  if a1 < 0 then
    bf_type_L10 n st
  else
    if a1 ≤ (127 : Int32) then
      if (st.1 1) = (60 : Int32) then
        (bf_refuse n st (2 : Int32)).bind fun q_7 =>
        some (q_7.1, q_7.2)
      else
        (stC st 8 (st.1 1) (a1.toUInt32 % 65536).toInt32).bind fun st_4 =>
        (ptI st_4 1 ((st_4.1 1) + (1 : Int32))).bind fun st_5 =>
        (bf_fine n st_5 (st_5.1 1)).bind fun q_6 =>
        some (q_6.1, q_6.2)
    else
      bf_type_L10 n st
/-! BasicMachineModel.look()I -/
def bf_look (n : Nat) (st : bS) : Option (bS × Int32) :=
  if (st.1 2) ≤ (st.1 4) then
    some (st, (0 : Int32))
  else
    (ldA st 9 (st.1 4)).bind fun v_2 =>
    some (st, v_2)
/-! BasicMachineModel.lookAt(I)I -/
def bf_lookAt (n : Nat) (st : bS) (a1 : Int32) : Option (bS × Int32) :=
  if (st.1 2) ≤ ((st.1 4) + a1) then
    some (st, (0 : Int32))
  else
    (ldA st 9 ((st.1 4) + a1)).bind fun v_2 =>
    some (st, v_2)
/-! BasicMachineModel.take(I)Z -/
def bf_take (n : Nat) (st : bS) (a1 : Int32) : Option (bS × Int32) :=
  if (st.1 7) = 0 then
    (bf_look n st ).bind fun q_2 =>
    if q_2.2 = a1 then
      (ptI q_2.1 4 ((q_2.1.1 4) + (1 : Int32))).bind fun st_4 =>
      some (st_4, (1 : Int32))
    else
      some (q_2.1, (0 : Int32))
  else
    some (st, (0 : Int32))
/-! BasicMachineModel.need(I)V -/
def bf_need (n : Nat) (st : bS) (a1 : Int32) : Option (bS × Unit) :=
  (bf_take n st a1).bind fun q_1 =>
  if q_1.2 = 0 then
    (ptI q_1.1 7 (1 : Int32)).bind fun st_3 =>
    some (st_3, ())
  else
    some (q_1.1, ())
/-! BasicMachineModel.isDigit()Z -/
def bf_isDigit (n : Nat) (st : bS) : Option (bS × Int32) :=
  (bf_look n st ).bind fun q_1 =>
  if q_1.2 < (48 : Int32) then
    some (q_1.1, (0 : Int32))
  else
    (bf_look n q_1.1 ).bind fun q_3 =>
    if (57 : Int32) < q_3.2 then
      some (q_3.1, (0 : Int32))
    else
      some (q_3.1, (1 : Int32))
/-! BasicMachineModel.word(I)J -/
def bf_word (n : Nat) (st : bS) (a1 : Int32) : Option (bS × Int64) :=
  if a1 = (0 : Int32) then
    some (st, (4998484 : Int64))
  else
  if a1 = (1 : Int32) then
    some (st, (344977919572 : Int64))
  else
  if a1 = (2 : Int32) then
    some (st, (18758 : Int64))
  else
  if a1 = (3 : Int32) then
    some (st, (1196381263 : Int64))
  else
  if a1 = (4 : Int32) then
    some (st, (20302 : Int64))
  else
  if a1 = (5 : Int32) then
    some (st, (306273539394 : Int64))
  else
  if a1 = (6 : Int32) then
    some (st, (90457721098830 : Int64))
  else
  if a1 = (7 : Int32) then
    some (st, (4607826 : Int64))
  else
  if a1 = (8 : Int32) then
    some (st, (1313167444 : Int64))
  else
  if a1 = (9 : Int32) then
    some (st, (1380270404 : Int64))
  else
  if a1 = (10 : Int32) then
    some (st, (1145132097 : Int64))
  else
  if a1 = (11 : Int32) then
    some (st, (23157172289360453 : Int64))
  else
  if a1 = (12 : Int32) then
    some (st, (4475213 : Int64))
  else
  if a1 = (13 : Int32) then
    some (st, (4474182 : Int64))
  else
  if a1 = (14 : Int32) then
    some (st, (5062996 : Int64))
  else
  if a1 = (15 : Int32) then
    some (st, (5391693 : Int64))
  else
  if a1 = (16 : Int32) then
    some (st, (4542020 : Int64))
  else
  if a1 = (17 : Int32) then
    some (st, (1414022478 : Int64))
  else
  if a1 = (18 : Int32) then
    some (st, (21583 : Int64))
  else
  if a1 = (19 : Int32) then
    some (st, (1398031696 : Int64))
  else
  if a1 = (20 : Int32) then
    some (st, (5915986 : Int64))
  else
  if a1 = (21 : Int32) then
    some (st, (4411214 : Int64))
  else
  if a1 = (22 : Int32) then
    some (st, (4801614 : Int64))
  else
  if a1 = (23 : Int32) then
    some (st, (5526094 : Int64))
  else
  if a1 = (24 : Int32) then
    some (st, (4276819 : Int64))
  else
  if a1 = (25 : Int32) then
    some (st, (4804180 : Int64))
  else
  if a1 = (26 : Int32) then
    some (st, (5457742 : Int64))
  else
  some (st, (17998 : Int64))
/-! BasicMachineModel.letters(J)I -/
def bf_letters_B5 (n : Nat) (rec : bS → Int32 → Int64 → Option (bS × Int32)) (st : bS) (x3 : Int32) (x4 : Int64) : Option (bS × Int32) :=
  if (lg_cmp x4 (0 : Int64)) = 0 then
    some (st, x3)
  else
    (nm (x4 >>> ((8 : Int32).toInt64 &&& 63))).bind fun x4_2 =>
    rec st (x3 + (1 : Int32)) x4_2
def bf_letters_S5 (n : Nat) : Nat → bS → Int32 → Int64 → Option (bS × Int32)
  | 0, _, _, _ => none
  | k + 1, st, x3, x4 => bf_letters_B5 n (bf_letters_S5 n k) st x3 x4
def bf_letters (n : Nat) (st : bS) (a1 : Int64) : Option (bS × Int32) :=
  bf_letters_S5 n n st (0 : Int32) a1
/-! BasicMachineModel.begins(II)Z -/
def bf_begins_B24 (n : Nat) (rec : bS → Int32 → Int64 → Int32 → Int32 → Option (bS × Int32)) (st : bS) (x2 : Int32) (x3 : Int64) (x5 : Int32) (x6 : Int32) : Option (bS × Int32) :=
  if x2 ≤ x6 then
    some (st, (1 : Int32))
  else
    (bf_lookAt n st x6).bind fun q_2 =>
    if (lg_cmp ((x3 >>> (((8 : Int32) * ((x5 - (1 : Int32)) - x6)).toInt64 &&& 63)) &&& (255 : Int64)) q_2.2.toInt64) = 0 then
      rec q_2.1 x2 x3 x5 (x6 + (1 : Int32))
    else
      some (q_2.1, (0 : Int32))
def bf_begins_S24 (n : Nat) : Nat → bS → Int32 → Int64 → Int32 → Int32 → Option (bS × Int32)
  | 0, _, _, _, _, _ => none
  | k + 1, st, x2, x3, x5, x6 => bf_begins_B24 n (bf_begins_S24 n k) st x2 x3 x5 x6
def bf_begins (n : Nat) (st : bS) (a1 : Int32) (a2 : Int32) : Option (bS × Int32) :=
  (bf_word n st a1).bind fun q_1 =>
  (bf_letters n q_1.1 q_1.2).bind fun q_2 =>
  if a2 ≤ q_2.2 then
    bf_begins_S24 n n q_2.1 a2 q_1.2 q_2.2 (0 : Int32)
  else
    some (q_2.1, (0 : Int32))
/-! BasicMachineModel.takeWord(II)I -/
def bf_takeWord_B2 (n : Nat) (rec : Nat → bS → Int32 → Int32 → Int32 → Int32 → Int32 → Option (bS × Int32)) (st : bS) (x1 : Int32) (x2 : Int32) (x3 : Int32) (x4 : Int32) (x5 : Int32) : Option (bS × Int32) :=
  if (st.1 7) = 0 then
    rec 1 st x1 x2 x3 (0 : Int32) x1
  else
    some (st, (-1 : Int32))
def bf_takeWord_B15 (n : Nat) (rec : Nat → bS → Int32 → Int32 → Int32 → Int32 → Int32 → Option (bS × Int32)) (st : bS) (x1 : Int32) (x2 : Int32) (x3 : Int32) (x4 : Int32) (x5 : Int32) : Option (bS × Int32) :=
  if x2 < x5 then
    if x4 = 0 then
      (ptI st 4 ((st.1 4) + (x3 - (1 : Int32)))).bind fun st_3 =>
      (ptI st_3 7 (1 : Int32)).bind fun st_4 =>
      rec 3 st_4 x1 x2 x3 (0 : Int32) (0 : Int32)
    else
      rec 3 st x1 x2 x3 (0 : Int32) (0 : Int32)
  else
    (bf_begins n st x5 x3).bind fun q_5 =>
    if q_5.2 = 0 then
      rec 2 q_5.1 x1 x2 x3 x4 x5
    else
      (bf_word n q_5.1 x5).bind fun q_7 =>
      (bf_letters n q_7.1 q_7.2).bind fun q_8 =>
      if q_8.2 = x3 then
        (ptI q_8.1 4 ((q_8.1.1 4) + x3)).bind fun st_10 =>
        some (st_10, x5)
      else
        rec 2 q_8.1 x1 x2 x3 (1 : Int32) x5
def bf_takeWord_B64 (n : Nat) (rec : Nat → bS → Int32 → Int32 → Int32 → Int32 → Int32 → Option (bS × Int32)) (st : bS) (x1 : Int32) (x2 : Int32) (x3 : Int32) (x4 : Int32) (x5 : Int32) : Option (bS × Int32) :=
  rec 1 st x1 x2 x3 x4 (x5 + (1 : Int32))
def bf_takeWord_B92 (n : Nat) (rec : Nat → bS → Int32 → Int32 → Int32 → Int32 → Int32 → Option (bS × Int32)) (st : bS) (x1 : Int32) (x2 : Int32) (x3 : Int32) (x4 : Int32) (x5 : Int32) : Option (bS × Int32) :=
  rec 0 st x1 x2 (x3 + (1 : Int32)) (0 : Int32) (0 : Int32)
def bf_takeWord_S2 (n : Nat) : Nat → Nat → bS → Int32 → Int32 → Int32 → Int32 → Int32 → Option (bS × Int32)
  | 0, _, _, _, _, _, _, _ => none
  | k + 1, lb, st, x1, x2, x3, x4, x5 => if lb = 0 then bf_takeWord_B2 n (bf_takeWord_S2 n k) st x1 x2 x3 x4 x5 else if lb = 1 then bf_takeWord_B15 n (bf_takeWord_S2 n k) st x1 x2 x3 x4 x5 else if lb = 2 then bf_takeWord_B64 n (bf_takeWord_S2 n k) st x1 x2 x3 x4 x5 else bf_takeWord_B92 n (bf_takeWord_S2 n k) st x1 x2 x3 x4 x5
def bf_takeWord (n : Nat) (st : bS) (a1 : Int32) (a2 : Int32) : Option (bS × Int32) :=
  bf_takeWord_S2 n n 0 st a1 a2 (1 : Int32) (0 : Int32) (0 : Int32)
/-! BasicMachineModel.lineNumber()I -/
def bf_lineNumber_L72 (n : Nat) (st : bS) (x1 : Int32) : Option (bS × Int32) :=
  if x1 = 0 then
    (ptI st 7 (1 : Int32)).bind fun st_2 =>
    some (st_2, x1)
  else
    some (st, x1)
def bf_lineNumber_B13 (n : Nat) (rec : Nat → bS → Int32 → Int32 → Option (bS × Int32)) (st : bS) (x1 : Int32) (x2 : Int32) : Option (bS × Int32) :=
  if (3 : Int32) ≤ x2 then
    bf_lineNumber_L72 n st x1
  else
    (bf_isDigit n st ).bind fun q_2 =>
    if q_2.2 = 0 then
      bf_lineNumber_L72 n q_2.1 x1
    else
      if x2 = (2 : Int32) then
        if x1 = 0 then
          (bf_look n q_2.1 ).bind fun q_6 =>
          if q_6.2 = (48 : Int32) then
            bf_lineNumber_L72 n q_6.1 x1
          else
            rec 1 q_6.1 x1 x2
        else
          rec 1 q_2.1 x1 x2
      else
        rec 1 q_2.1 x1 x2
def bf_lineNumber_B43 (n : Nat) (rec : Nat → bS → Int32 → Int32 → Option (bS × Int32)) (st : bS) (x1 : Int32) (x2 : Int32) : Option (bS × Int32) :=
  (bf_look n st ).bind fun q_1 =>
  (nm (((x1 * (10 : Int32)) + q_1.2) - (48 : Int32))).bind fun x1_2 =>
  (ptI q_1.1 4 ((q_1.1.1 4) + (1 : Int32))).bind fun st_3 =>
  rec 0 st_3 x1_2 (x2 + (1 : Int32))
def bf_lineNumber_S13 (n : Nat) : Nat → Nat → bS → Int32 → Int32 → Option (bS × Int32)
  | 0, _, _, _, _ => none
  | k + 1, lb, st, x1, x2 => if lb = 0 then bf_lineNumber_B13 n (bf_lineNumber_S13 n k) st x1 x2 else bf_lineNumber_B43 n (bf_lineNumber_S13 n k) st x1 x2
def bf_lineNumber (n : Nat) (st : bS) : Option (bS × Int32) :=
  if (st.1 7) = 0 then
    bf_lineNumber_S13 n n 0 st (0 : Int32) (0 : Int32)
  else
    some (st, (0 : Int32))
/-! BasicMachineModel.make(I)V -/
def bf_make (n : Nat) (st : bS) (a1 : Int32) : Option (bS × Unit) :=
  (stA st 14 ((3840 : Int32) + (st.1 6)) a1).bind fun st_1 =>
  (ptI st_1 6 ((st_1.1 6) + (1 : Int32))).bind fun st_2 =>
  some (st_2, ())
/-! BasicMachineModel.isMatrix(I)Z -/
def bf_isMatrix (n : Nat) (st : bS) (a1 : Int32) : Option (bS × Int32) :=
  if a1 < (80 : Int32) then
    some (st, (0 : Int32))
  else
    if (82 : Int32) < a1 then
      some (st, (0 : Int32))
    else
      some (st, (1 : Int32))
/-! BasicMachineModel.variable()I -/
def bf_variable_L32 (n : Nat) (st : bS) : Option (bS × Int32) :=
  (ptI st 7 (1 : Int32)).bind fun st_1 =>
  some (st_1, (0 : Int32))
def bf_variable (n : Nat) (st : bS) : Option (bS × Int32) :=
  (bf_look n st ).bind fun q_1 =>
  if (q_1.1.1 7) = 0 then
    if q_1.2 < (65 : Int32) then
      bf_variable_L32 n q_1.1
    else
      if (90 : Int32) < q_1.2 then
        bf_variable_L32 n q_1.1
      else
        (bf_isMatrix n q_1.1 q_1.2).bind fun q_5 =>
        if q_5.2 = 0 then
          (ptI q_5.1 4 ((q_5.1.1 4) + (1 : Int32))).bind fun st_7 =>
          some (st_7, (q_1.2 - (65 : Int32)))
        else
          bf_variable_L32 n q_5.1
  else
    bf_variable_L32 n q_1.1
/-! BasicMachineModel.matrix()I -/
def bf_matrix_L20 (n : Nat) (st : bS) : Option (bS × Int32) :=
  (ptI st 7 (1 : Int32)).bind fun st_1 =>
  some (st_1, (0 : Int32))
def bf_matrix (n : Nat) (st : bS) : Option (bS × Int32) :=
  (bf_look n st ).bind fun q_1 =>
  if (q_1.1.1 7) = 0 then
    (bf_isMatrix n q_1.1 q_1.2).bind fun q_3 =>
    if q_3.2 = 0 then
      bf_matrix_L20 n q_3.1
    else
      (ptI q_3.1 4 ((q_3.1.1 4) + (1 : Int32))).bind fun st_5 =>
      some (st_5, (q_1.2 - (80 : Int32)))
  else
    bf_matrix_L20 n q_1.1
/-! BasicMachineModel.numeral()V -/
def bf_numeral_L136 (n : Nat) (st : bS) (x1 : Int32) (x3 : Int32) : Option (bS × Unit) :=
  (bf_make n st (0 : Int32)).bind fun q_1 =>
  (bf_make n q_1.1 x1).bind fun q_2 =>
  (bf_make n q_2.1 x3).bind fun q_3 =>
  some (q_3.1, ())
def bf_numeral_B88 (n : Nat) (rec : bS → Int32 → Int32 → Option (bS × Unit)) (st : bS) (x1 : Int32) (x3 : Int32) : Option (bS × Unit) :=
  if (st.1 7) = 0 then
    (bf_isDigit n st ).bind fun q_2 =>
    if q_2.2 = 0 then
      bf_numeral_L136 n q_2.1 x1 x3
    else
      if (3 : Int32) ≤ x3 then
        bf_numeral_L136 n q_2.1 x1 x3
      else
        (bf_look n q_2.1 ).bind fun q_5 =>
        (nm (((x1 * (10 : Int32)) + q_5.2) - (48 : Int32))).bind fun x1_6 =>
        (ptI q_5.1 4 ((q_5.1.1 4) + (1 : Int32))).bind fun st_7 =>
        rec st_7 x1_6 (x3 + (1 : Int32))
  else
    bf_numeral_L136 n st x1 x3
def bf_numeral_S88 (n : Nat) : Nat → bS → Int32 → Int32 → Option (bS × Unit)
  | 0, _, _, _ => none
  | k + 1, st, x1, x3 => bf_numeral_B88 n (bf_numeral_S88 n k) st x1 x3
def bf_numeral_L67 (n : Nat) (st : bS) (x1 : Int32) (x3 : Int32) : Option (bS × Unit) :=
  (bf_take n st (46 : Int32)).bind fun q_1 =>
  if q_1.2 = 0 then
    bf_numeral_L136 n q_1.1 x1 x3
  else
    (bf_isDigit n q_1.1 ).bind fun q_3 =>
    if q_3.2 = 0 then
      (ptI q_3.1 7 (1 : Int32)).bind fun st_5 =>
      bf_numeral_S88 n n st_5 x1 x3
    else
      bf_numeral_S88 n n q_3.1 x1 x3
def bf_numeral_B18 (n : Nat) (rec : bS → Int32 → Int32 → Int32 → Option (bS × Unit)) (st : bS) (x1 : Int32) (x2 : Int32) (x3 : Int32) : Option (bS × Unit) :=
  if (st.1 7) = 0 then
    (bf_isDigit n st ).bind fun q_2 =>
    if q_2.2 = 0 then
      bf_numeral_L67 n q_2.1 x1 x3
    else
      if (6 : Int32) ≤ x2 then
        bf_numeral_L67 n q_2.1 x1 x3
      else
        (bf_look n q_2.1 ).bind fun q_5 =>
        (nm (((x1 * (10 : Int32)) + q_5.2) - (48 : Int32))).bind fun x1_6 =>
        (ptI q_5.1 4 ((q_5.1.1 4) + (1 : Int32))).bind fun st_7 =>
        rec st_7 x1_6 (x2 + (1 : Int32)) x3
  else
    bf_numeral_L67 n st x1 x3
def bf_numeral_S18 (n : Nat) : Nat → bS → Int32 → Int32 → Int32 → Option (bS × Unit)
  | 0, _, _, _, _ => none
  | k + 1, st, x1, x2, x3 => bf_numeral_B18 n (bf_numeral_S18 n k) st x1 x2 x3
def bf_numeral (n : Nat) (st : bS) : Option (bS × Unit) :=
  (bf_isDigit n st ).bind fun q_1 =>
  if q_1.2 = 0 then
    (ptI q_1.1 7 (1 : Int32)).bind fun st_3 =>
    bf_numeral_S18 n n st_3 (0 : Int32) (0 : Int32) (0 : Int32)
  else
    bf_numeral_S18 n n q_1.1 (0 : Int32) (0 : Int32) (0 : Int32)
/-! BasicMachineModel.bracket()V -/
def bf_bracket_L14 (n : Nat) (st : bS) : Option (bS × Unit) :=
  (bf_need n st (40 : Int32)).bind fun q_1 =>
  if (q_1.1.1 7) = 0 then
    (ptI q_1.1 5 ((q_1.1.1 5) + (1 : Int32))).bind fun st_3 =>
    some (st_3, ())
  else
    some (q_1.1, ())
def bf_bracket (n : Nat) (st : bS) : Option (bS × Unit) :=
  if (st.1 5) = (6 : Int32) then
    (ptI st 7 (1 : Int32)).bind fun st_2 =>
    bf_bracket_L14 n st_2
  else
    bf_bracket_L14 n st
/-! BasicMachineModel.shut()V -/
def bf_shut (n : Nat) (st : bS) : Option (bS × Unit) :=
  (bf_need n st (41 : Int32)).bind fun q_1 =>
  if (q_1.1.1 7) = 0 then
    (ptI q_1.1 5 ((q_1.1.1 5) - (1 : Int32))).bind fun st_3 =>
    some (st_3, ())
  else
    some (q_1.1, ())
/-! BasicMachineModel.rank(I)I -/
def bf_rank_L31 (n : Nat) (st : bS) : Option (bS × Int32) :=
  some (st, (2 : Int32))
def bf_rank (n : Nat) (st : bS) (a1 : Int32) : Option (bS × Int32) :=
  if a1 ≤ (99 : Int32) then
    if a1 = (7 : Int32) then
      some (st, (3 : Int32))
    else
      if a1 = (5 : Int32) then
        bf_rank_L31 n st
      else
        if a1 = (6 : Int32) then
          bf_rank_L31 n st
        else
          some (st, (1 : Int32))
  else
    some (st, (0 : Int32))
/-! BasicMachineModel.settle(II)I -/
def bf_settle_B2 (n : Nat) (rec : bS → Int32 → Int32 → Option (bS × Int32)) (st : bS) (x2 : Int32) (x3 : Int32) : Option (bS × Int32) :=
  if x3 ≤ 0 then
    some (st, x3)
  else
    (ldA st 15 (x3 - (1 : Int32))).bind fun v_2 =>
    if (100 : Int32) ≤ v_2 then
      some (st, x3)
    else
      (ldA st 15 (x3 - (1 : Int32))).bind fun v_4 =>
      (bf_rank n st v_4).bind fun q_5 =>
      if q_5.2 < x2 then
        some (q_5.1, x3)
      else
        (ldA q_5.1 15 (x3 - (1 : Int32))).bind fun v_7 =>
        (bf_make n q_5.1 v_7).bind fun q_8 =>
        rec q_8.1 x2 (x3 + (-1 : Int32))
def bf_settle_S2 (n : Nat) : Nat → bS → Int32 → Int32 → Option (bS × Int32)
  | 0, _, _, _ => none
  | k + 1, st, x2, x3 => bf_settle_B2 n (bf_settle_S2 n k) st x2 x3
def bf_settle (n : Nat) (st : bS) (a1 : Int32) (a2 : Int32) : Option (bS × Int32) :=
  bf_settle_S2 n n st a2 a1
/-! BasicMachineModel.partMark(ZZ)I -/
def bf_partMark_L203 (n : Nat) (st : bS) : Option (bS × Int32) :=
  (bf_takeWord n st (26 : Int32) (26 : Int32)).bind fun q_1 =>
  some (q_1.1, (103 : Int32))
def bf_partMark_L281 (n : Nat) (st : bS) (x6 : Int32) : Option (bS × Int32) :=
  (bf_make n st (12 : Int32)).bind fun q_1 =>
  (bf_make n q_1.1 (x6 - (65 : Int32))).bind fun q_2 =>
  some (q_2.1, (((104 : Int32) + x6) - (65 : Int32)))
def bf_partMark_L305 (n : Nat) (st : bS) : Option (bS × Int32) :=
  (bf_variable n st ).bind fun q_1 =>
  (bf_make n q_1.1 (1 : Int32)).bind fun q_2 =>
  (bf_make n q_2.1 q_1.2).bind fun q_3 =>
  some (q_3.1, (0 : Int32))
def bf_partMark_L263 (n : Nat) (st : bS) (x6 : Int32) : Option (bS × Int32) :=
  (ptI st 7 (1 : Int32)).bind fun st_1 =>
  bf_partMark_L281 n st_1 x6
def bf_partMark_L215 (n : Nat) (st : bS) (x3 : Int32) (x4 : Int32) (x5 : Int32) : Option (bS × Int32) :=
  if x5 = 0 then
    bf_partMark_L305 n st
  else
    if x3 = (70 : Int32) then
      if x4 = (78 : Int32) then
        (ptI st 4 ((st.1 4) + (2 : Int32))).bind fun st_4 =>
        (bf_look n st_4 ).bind fun q_5 =>
        if q_5.2 < (65 : Int32) then
          bf_partMark_L263 n q_5.1 q_5.2
        else
          if q_5.2 ≤ (67 : Int32) then
            (ptI q_5.1 4 ((q_5.1.1 4) + (1 : Int32))).bind fun st_8 =>
            bf_partMark_L281 n st_8 q_5.2
          else
            bf_partMark_L263 n q_5.1 q_5.2
      else
        bf_partMark_L305 n st
    else
      bf_partMark_L305 n st
def bf_partMark_L167 (n : Nat) (st : bS) (x1 : Int32) (x2 : Int32) (x3 : Int32) (x4 : Int32) (x5 : Int32) : Option (bS × Int32) :=
  if x5 = 0 then
    bf_partMark_L215 n st x3 x4 x5
  else
    if x3 = (83 : Int32) then
      if x4 = (71 : Int32) then
        if x1 = 0 then
          bf_partMark_L203 n st
        else
          if x2 = 0 then
            bf_partMark_L203 n st
          else
            (bf_lookAt n st (2 : Int32)).bind fun q_6 =>
            if q_6.2 = (79 : Int32) then
              bf_partMark_L215 n q_6.1 x3 x4 x5
            else
              bf_partMark_L203 n q_6.1
      else
        bf_partMark_L215 n st x3 x4 x5
    else
      bf_partMark_L215 n st x3 x4 x5
def bf_partMark_L137 (n : Nat) (st : bS) (x1 : Int32) (x2 : Int32) (x3 : Int32) (x4 : Int32) (x5 : Int32) : Option (bS × Int32) :=
  if x5 = 0 then
    bf_partMark_L167 n st x1 x2 x3 x4 x5
  else
    if x3 = (73 : Int32) then
      if x4 = (78 : Int32) then
        (bf_takeWord n st (25 : Int32) (25 : Int32)).bind fun q_4 =>
        some (q_4.1, (102 : Int32))
      else
        bf_partMark_L167 n st x1 x2 x3 x4 x5
    else
      bf_partMark_L167 n st x1 x2 x3 x4 x5
def bf_partMark_L107 (n : Nat) (st : bS) (x1 : Int32) (x2 : Int32) (x3 : Int32) (x4 : Int32) (x5 : Int32) : Option (bS × Int32) :=
  if x5 = 0 then
    bf_partMark_L137 n st x1 x2 x3 x4 x5
  else
    if x3 = (65 : Int32) then
      if x4 = (66 : Int32) then
        (bf_takeWord n st (24 : Int32) (24 : Int32)).bind fun q_4 =>
        some (q_4.1, (101 : Int32))
      else
        bf_partMark_L137 n st x1 x2 x3 x4 x5
    else
      bf_partMark_L137 n st x1 x2 x3 x4 x5
def bf_partMark_L54 (n : Nat) (st : bS) (x1 : Int32) (x2 : Int32) (x3 : Int32) (x4 : Int32) (x5 : Int32) : Option (bS × Int32) :=
  if x3 = (40 : Int32) then
    some (st, (100 : Int32))
  else
    (bf_isMatrix n st x3).bind fun q_2 =>
    if q_2.2 = 0 then
      if x3 < (48 : Int32) then
        bf_partMark_L107 n q_2.1 x1 x2 x3 x4 x5
      else
        if (57 : Int32) < x3 then
          bf_partMark_L107 n q_2.1 x1 x2 x3 x4 x5
        else
          (bf_numeral n q_2.1 ).bind fun q_6 =>
          some (q_6.1, (0 : Int32))
    else
      (ptI q_2.1 4 ((q_2.1.1 4) + (1 : Int32))).bind fun st_7 =>
      some (st_7, (((110 : Int32) + x3) - (80 : Int32)))
def bf_partMark_L47 (n : Nat) (st : bS) : Option (bS × Int32) :=
  (ptI st 7 (1 : Int32)).bind fun st_1 =>
  some (st_1, (0 : Int32))
def bf_partMark_L26 (n : Nat) (st : bS) (x1 : Int32) (x2 : Int32) (x3 : Int32) (x4 : Int32) (z26_0 : Int32) : Option (bS × Int32) :=
  if z26_0 = 0 then
    if x3 = (40 : Int32) then
      bf_partMark_L47 n st
    else
      (bf_isMatrix n st x3).bind fun q_3 =>
      if q_3.2 = 0 then
        bf_partMark_L54 n q_3.1 x1 x2 x3 x4 z26_0
      else
        bf_partMark_L47 n q_3.1
  else
    bf_partMark_L54 n st x1 x2 x3 x4 z26_0
def bf_partMark (n : Nat) (st : bS) (a1 : Int32) (a2 : Int32) : Option (bS × Int32) :=
  (bf_look n st ).bind fun q_1 =>
  (bf_lookAt n q_1.1 (1 : Int32)).bind fun q_2 =>
  if (6 : Int32) ≤ (q_2.1.1 5) then
    bf_partMark_L26 n q_2.1 a1 a2 q_1.2 q_2.2 (0 : Int32)
  else
    bf_partMark_L26 n q_2.1 a1 a2 q_1.2 q_2.2 (1 : Int32)
/-! BasicMachineModel.closeMark(I)V -/
def bf_closeMark (n : Nat) (st : bS) (a1 : Int32) : Option (bS × Unit) :=
  if a1 = (100 : Int32) then
    some (st, ())
  else
    if (104 : Int32) ≤ a1 then
      if (110 : Int32) ≤ a1 then
        (bf_make n st (2 : Int32)).bind fun q_4 =>
        (bf_make n q_4.1 (a1 - (120 : Int32))).bind fun q_5 =>
        some (q_5.1, ())
      else
        (bf_make n st (13 : Int32)).bind fun q_6 =>
        (bf_make n q_6.1 (a1 - (104 : Int32))).bind fun q_7 =>
        some (q_7.1, ())
    else
      (bf_make n st (((9 : Int32) + a1) - (101 : Int32))).bind fun q_8 =>
      some (q_8.1, ())
/-! BasicMachineModel.operator(I)I -/
def bf_operator (n : Nat) (st : bS) (a1 : Int32) : Option (bS × Int32) :=
  if a1 = (43 : Int32) then
    some (st, (3 : Int32))
  else
    if a1 = (45 : Int32) then
      some (st, (4 : Int32))
    else
      if a1 = (42 : Int32) then
        some (st, (5 : Int32))
      else
        if a1 = (47 : Int32) then
          some (st, (6 : Int32))
        else
          if a1 = (94 : Int32) then
            some (st, (7 : Int32))
          else
            some (st, (0 : Int32))
/-! BasicMachineModel.expression(Z)I -/
def bf_expression_L318 (n : Nat) (st : bS) (x2 : Int32) (x3 : Int32) : Option (bS × Int32) :=
  (bf_settle n st x3 (1 : Int32)).bind fun q_1 =>
  (bf_make n q_1.1 (14 : Int32)).bind fun q_2 =>
  some (q_2.1, x2)
def bf_expression_L278 (n : Nat) (st : bS) (x2 : Int32) (x3 : Int32) : Option (bS × Int32) :=
  (ptI st 7 (1 : Int32)).bind fun st_1 =>
  bf_expression_L318 n st_1 x2 x3
def bf_expression_B16 (n : Nat) (rec : Nat → bS → Int32 → Int32 → Int32 → Int32 → Int32 → Int32 → Int32 → Int32 → Int32 → Int32 → Option (bS × Int32)) (st : bS) (x1 : Int32) (x2 : Int32) (x3 : Int32) (x4 : Int32) (x5 : Int32) (x6 : Int32) (x7 : Int32) (x9 : Int32) (z88_1 : Int32) (z88_2 : Int32) : Option (bS × Int32) :=
  if (st.1 7) = 0 then
    (bf_look n st ).bind fun q_2 =>
    if x5 = 0 then
      (bf_operator n q_2.1 q_2.2).bind fun q_4 =>
      if q_4.2 ≤ 0 then
        if x4 = 0 then
          bf_expression_L318 n q_4.1 x2 x3
        else
          (bf_settle n q_4.1 x3 (1 : Int32)).bind fun q_7 =>
          (ldA q_7.1 15 (q_7.2 - (1 : Int32))).bind fun v_8 =>
          if q_2.2 = (44 : Int32) then
            if v_8 ≤ (109 : Int32) then
              rec 3 q_7.1 x1 x2 q_7.2 x4 x5 x6 q_2.2 v_8 (0 : Int32) (0 : Int32)
            else
              if (120 : Int32) ≤ v_8 then
                rec 3 q_7.1 x1 x2 q_7.2 x4 x5 x6 q_2.2 v_8 (0 : Int32) (0 : Int32)
              else
                (stA q_7.1 15 (q_7.2 - (1 : Int32)) (v_8 + (10 : Int32))).bind fun st_12 =>
                rec 5 st_12 x1 x2 q_7.2 x4 (1 : Int32) (1 : Int32) (0 : Int32) (0 : Int32) (0 : Int32) (0 : Int32)
          else
            rec 3 q_7.1 x1 x2 q_7.2 x4 x5 x6 q_2.2 v_8 (0 : Int32) (0 : Int32)
      else
        (bf_rank n q_4.1 q_4.2).bind fun q_13 =>
        (bf_settle n q_13.1 x3 q_13.2).bind fun q_14 =>
        (stA q_14.1 15 q_14.2 q_4.2).bind fun st_15 =>
        (ptI st_15 4 ((st_15.1 4) + (1 : Int32))).bind fun st_16 =>
        rec 0 st_16 x1 x2 (q_14.2 + (1 : Int32)) x4 (1 : Int32) x6 (0 : Int32) (0 : Int32) (0 : Int32) (0 : Int32)
    else
      if x6 = 0 then
        rec 1 q_2.1 x1 x2 x3 x4 x5 (0 : Int32) (0 : Int32) (0 : Int32) (0 : Int32) (0 : Int32)
      else
        if q_2.2 = (45 : Int32) then
          (ptI q_2.1 4 ((q_2.1.1 4) + (1 : Int32))).bind fun st_19 =>
          (stA st_19 15 x3 (8 : Int32)).bind fun st_20 =>
          rec 0 st_20 x1 x2 (x3 + (1 : Int32)) x4 x5 (0 : Int32) (0 : Int32) (0 : Int32) (0 : Int32) (0 : Int32)
        else
          rec 1 q_2.1 x1 x2 x3 x4 x5 (0 : Int32) (0 : Int32) (0 : Int32) (0 : Int32) (0 : Int32)
  else
    bf_expression_L318 n st x2 x3
def bf_expression_B73 (n : Nat) (rec : Nat → bS → Int32 → Int32 → Int32 → Int32 → Int32 → Int32 → Int32 → Int32 → Int32 → Int32 → Option (bS × Int32)) (st : bS) (x1 : Int32) (x2 : Int32) (x3 : Int32) (x4 : Int32) (x5 : Int32) (x6 : Int32) (x7 : Int32) (x9 : Int32) (z88_1 : Int32) (z88_2 : Int32) : Option (bS × Int32) :=
  if x4 = 0 then
    rec 2 st x1 x2 x3 x4 x5 (0 : Int32) (0 : Int32) (0 : Int32) x1 (1 : Int32)
  else
    rec 2 st x1 x2 x3 x4 x5 (0 : Int32) (0 : Int32) (0 : Int32) x1 (0 : Int32)
def bf_expression_B88 (n : Nat) (rec : Nat → bS → Int32 → Int32 → Int32 → Int32 → Int32 → Int32 → Int32 → Int32 → Int32 → Int32 → Option (bS × Int32)) (st : bS) (x1 : Int32) (x2 : Int32) (x3 : Int32) (x4 : Int32) (x5 : Int32) (x6 : Int32) (x7 : Int32) (x9 : Int32) (z88_1 : Int32) (z88_2 : Int32) : Option (bS × Int32) :=
  (bf_partMark n st z88_1 z88_2).bind fun q_1 =>
  if q_1.2 = 0 then
    rec 0 q_1.1 x1 x2 x3 x4 (0 : Int32) x6 (0 : Int32) (0 : Int32) (0 : Int32) (0 : Int32)
  else
    (bf_bracket n q_1.1 ).bind fun q_3 =>
    (stA q_3.1 15 x3 q_1.2).bind fun st_4 =>
    rec 0 st_4 x1 x2 (x3 + (1 : Int32)) (x4 + (1 : Int32)) x5 (1 : Int32) (0 : Int32) (0 : Int32) (0 : Int32) (0 : Int32)
def bf_expression_B232 (n : Nat) (rec : Nat → bS → Int32 → Int32 → Int32 → Int32 → Int32 → Int32 → Int32 → Int32 → Int32 → Int32 → Option (bS × Int32)) (st : bS) (x1 : Int32) (x2 : Int32) (x3 : Int32) (x4 : Int32) (x5 : Int32) (x6 : Int32) (x7 : Int32) (x9 : Int32) (z88_1 : Int32) (z88_2 : Int32) : Option (bS × Int32) :=
  if x7 = (41 : Int32) then
    if x9 < (110 : Int32) then
      rec 4 st x1 x2 x3 x4 x5 x6 (0 : Int32) x9 (0 : Int32) (0 : Int32)
    else
      if x9 ≤ (119 : Int32) then
        bf_expression_L278 n st x2 x3
      else
        rec 4 st x1 x2 x3 x4 x5 x6 (0 : Int32) x9 (0 : Int32) (0 : Int32)
  else
    bf_expression_L278 n st x2 x3
def bf_expression_B253 (n : Nat) (rec : Nat → bS → Int32 → Int32 → Int32 → Int32 → Int32 → Int32 → Int32 → Int32 → Int32 → Int32 → Option (bS × Int32)) (st : bS) (x1 : Int32) (x2 : Int32) (x3 : Int32) (x4 : Int32) (x5 : Int32) (x6 : Int32) (x7 : Int32) (x9 : Int32) (z88_1 : Int32) (z88_2 : Int32) : Option (bS × Int32) :=
  (bf_closeMark n st x9).bind fun q_1 =>
  (ptI q_1.1 5 ((q_1.1.1 5) - (1 : Int32))).bind fun st_2 =>
  rec 5 st_2 x1 x2 (x3 + (-1 : Int32)) (x4 + (-1 : Int32)) x5 x6 (0 : Int32) (0 : Int32) (0 : Int32) (0 : Int32)
def bf_expression_B286 (n : Nat) (rec : Nat → bS → Int32 → Int32 → Int32 → Int32 → Int32 → Int32 → Int32 → Int32 → Int32 → Int32 → Option (bS × Int32)) (st : bS) (x1 : Int32) (x2 : Int32) (x3 : Int32) (x4 : Int32) (x5 : Int32) (x6 : Int32) (x7 : Int32) (x9 : Int32) (z88_1 : Int32) (z88_2 : Int32) : Option (bS × Int32) :=
  (ptI st 4 ((st.1 4) + (1 : Int32))).bind fun st_1 =>
  rec 0 st_1 x1 x2 x3 x4 x5 x6 (0 : Int32) (0 : Int32) (0 : Int32) (0 : Int32)
def bf_expression_S16 (n : Nat) : Nat → Nat → bS → Int32 → Int32 → Int32 → Int32 → Int32 → Int32 → Int32 → Int32 → Int32 → Int32 → Option (bS × Int32)
  | 0, _, _, _, _, _, _, _, _, _, _, _, _ => none
  | k + 1, lb, st, x1, x2, x3, x4, x5, x6, x7, x9, z88_1, z88_2 => if lb = 0 then bf_expression_B16 n (bf_expression_S16 n k) st x1 x2 x3 x4 x5 x6 x7 x9 z88_1 z88_2 else if lb = 1 then bf_expression_B73 n (bf_expression_S16 n k) st x1 x2 x3 x4 x5 x6 x7 x9 z88_1 z88_2 else if lb = 2 then bf_expression_B88 n (bf_expression_S16 n k) st x1 x2 x3 x4 x5 x6 x7 x9 z88_1 z88_2 else if lb = 3 then bf_expression_B232 n (bf_expression_S16 n k) st x1 x2 x3 x4 x5 x6 x7 x9 z88_1 z88_2 else if lb = 4 then bf_expression_B253 n (bf_expression_S16 n k) st x1 x2 x3 x4 x5 x6 x7 x9 z88_1 z88_2 else bf_expression_B286 n (bf_expression_S16 n k) st x1 x2 x3 x4 x5 x6 x7 x9 z88_1 z88_2
def bf_expression (n : Nat) (st : bS) (a1 : Int32) : Option (bS × Int32) :=
  (nm (st.1 6)).bind fun x2_1 =>
  bf_expression_S16 n n 0 st a1 x2_1 (0 : Int32) (0 : Int32) (1 : Int32) (1 : Int32) (0 : Int32) (0 : Int32) (0 : Int32) (0 : Int32)
/-! BasicMachineModel.setArg(II)V -/
def bf_setArg (n : Nat) (st : bS) (a1 : Int32) (a2 : Int32) : Option (bS × Unit) :=
  (stA st 12 ((192 : Int32) + a1) a2).bind fun st_1 =>
  some (st_1, ())
/-! BasicMachineModel.setExpr(II)V -/
def bf_setExpr (n : Nat) (st : bS) (a1 : Int32) (a2 : Int32) : Option (bS × Unit) :=
  (stA st 13 ((96 : Int32) + a1) a2).bind fun st_1 =>
  some (st_1, ())
/-! BasicMachineModel.target()V -/
def bf_target (n : Nat) (st : bS) : Option (bS × Unit) :=
  (bf_look n st ).bind fun q_1 =>
  (bf_isMatrix n q_1.1 q_1.2).bind fun q_2 =>
  if q_2.2 = 0 then
    (bf_variable n q_2.1 ).bind fun q_13 =>
    (bf_setArg n q_13.1 (0 : Int32) q_13.2).bind fun q_14 =>
    some (q_14.1, ())
  else
    (bf_matrix n q_2.1 ).bind fun q_4 =>
    (bf_setArg n q_4.1 (0 : Int32) ((26 : Int32) + q_4.2)).bind fun q_5 =>
    (bf_bracket n q_5.1 ).bind fun q_6 =>
    (bf_expression n q_6.1 (0 : Int32)).bind fun q_7 =>
    (bf_setExpr n q_7.1 (0 : Int32) q_7.2).bind fun q_8 =>
    (bf_need n q_8.1 (44 : Int32)).bind fun q_9 =>
    (bf_expression n q_9.1 (0 : Int32)).bind fun q_10 =>
    (bf_setExpr n q_10.1 (1 : Int32) q_10.2).bind fun q_11 =>
    (bf_shut n q_11.1 ).bind fun q_12 =>
    some (q_12.1, ())
/-! BasicMachineModel.condition()V -/
def bf_condition_L99 (n : Nat) (st : bS) (x1 : Int32) : Option (bS × Unit) :=
  (bf_setArg n st (1 : Int32) x1).bind fun q_1 =>
  (bf_expression n q_1.1 (0 : Int32)).bind fun q_2 =>
  (bf_setExpr n q_2.1 (1 : Int32) q_2.2).bind fun q_3 =>
  (bf_takeWord n q_3.1 (17 : Int32) (17 : Int32)).bind fun q_4 =>
  (bf_lineNumber n q_4.1 ).bind fun q_5 =>
  (bf_setArg n q_5.1 (0 : Int32) q_5.2).bind fun q_6 =>
  some (q_6.1, ())
def bf_condition_L89 (n : Nat) (st : bS) (z89_0 : Int32) : Option (bS × Unit) :=
  if 0 ≤ z89_0 then
    bf_condition_L99 n st z89_0
  else
    (ptI st 7 (1 : Int32)).bind fun st_2 =>
    bf_condition_L99 n st_2 z89_0
def bf_condition (n : Nat) (st : bS) : Option (bS × Unit) :=
  (bf_expression n st (0 : Int32)).bind fun q_1 =>
  (bf_setExpr n q_1.1 (0 : Int32) q_1.2).bind fun q_2 =>
  (bf_take n q_2.1 (61 : Int32)).bind fun q_3 =>
  if q_3.2 = 0 then
    (bf_take n q_3.1 (60 : Int32)).bind fun q_5 =>
    if q_5.2 = 0 then
      (bf_take n q_5.1 (62 : Int32)).bind fun q_7 =>
      if q_7.2 = 0 then
        bf_condition_L89 n q_7.1 (-1 : Int32)
      else
        (bf_take n q_7.1 (61 : Int32)).bind fun q_9 =>
        if q_9.2 = 0 then
          bf_condition_L89 n q_9.1 (2 : Int32)
        else
          bf_condition_L89 n q_9.1 (4 : Int32)
    else
      (bf_take n q_5.1 (61 : Int32)).bind fun q_11 =>
      if q_11.2 = 0 then
        (bf_take n q_11.1 (62 : Int32)).bind fun q_13 =>
        if q_13.2 = 0 then
          bf_condition_L89 n q_13.1 (1 : Int32)
        else
          bf_condition_L89 n q_13.1 (5 : Int32)
      else
        bf_condition_L89 n q_11.1 (3 : Int32)
  else
    bf_condition_L89 n q_3.1 (0 : Int32)
/-! BasicMachineModel.choice()V -/
def bf_choice_L60 (n : Nat) (st : bS) (x1 : Int32) : Option (bS × Unit) :=
  (bf_setArg n st (0 : Int32) x1).bind fun q_1 =>
  some (q_1.1, ())
def bf_choice_B19 (n : Nat) (rec : bS → Int32 → Option (bS × Unit)) (st : bS) (x1 : Int32) : Option (bS × Unit) :=
  if (st.1 7) = 0 then
    if (4 : Int32) ≤ x1 then
      bf_choice_L60 n st x1
    else
      (bf_lineNumber n st ).bind fun q_3 =>
      (bf_setArg n q_3.1 (x1 + (1 : Int32)) q_3.2).bind fun q_4 =>
      if (x1 + (1 : Int32)) = (4 : Int32) then
        bf_choice_L60 n q_4.1 (x1 + (1 : Int32))
      else
        (bf_take n q_4.1 (44 : Int32)).bind fun q_6 =>
        if q_6.2 = 0 then
          bf_choice_L60 n q_6.1 (x1 + (1 : Int32))
        else
          rec q_6.1 (x1 + (1 : Int32))
  else
    bf_choice_L60 n st x1
def bf_choice_S19 (n : Nat) : Nat → bS → Int32 → Option (bS × Unit)
  | 0, _, _ => none
  | k + 1, st, x1 => bf_choice_B19 n (bf_choice_S19 n k) st x1
def bf_choice (n : Nat) (st : bS) : Option (bS × Unit) :=
  (bf_expression n st (1 : Int32)).bind fun q_1 =>
  (bf_setExpr n q_1.1 (0 : Int32) q_1.2).bind fun q_2 =>
  (bf_takeWord n q_2.1 (3 : Int32) (3 : Int32)).bind fun q_3 =>
  bf_choice_S19 n n q_3.1 (0 : Int32)
/-! BasicMachineModel.loop()V -/
def bf_loop (n : Nat) (st : bS) : Option (bS × Unit) :=
  (bf_variable n st ).bind fun q_1 =>
  (bf_setArg n q_1.1 (0 : Int32) q_1.2).bind fun q_2 =>
  (bf_need n q_2.1 (61 : Int32)).bind fun q_3 =>
  (bf_expression n q_3.1 (0 : Int32)).bind fun q_4 =>
  (bf_setExpr n q_4.1 (0 : Int32) q_4.2).bind fun q_5 =>
  (bf_takeWord n q_5.1 (18 : Int32) (18 : Int32)).bind fun q_6 =>
  (bf_expression n q_6.1 (0 : Int32)).bind fun q_7 =>
  (bf_setExpr n q_7.1 (1 : Int32) q_7.2).bind fun q_8 =>
  (bf_setArg n q_8.1 (1 : Int32) (0 : Int32)).bind fun q_9 =>
  if (q_9.1.1 7) = 0 then
    (bf_look n q_9.1 ).bind fun q_11 =>
    if q_11.2 = (83 : Int32) then
      (bf_takeWord n q_11.1 (19 : Int32) (19 : Int32)).bind fun q_13 =>
      (bf_setArg n q_13.1 (1 : Int32) (1 : Int32)).bind fun q_14 =>
      (bf_expression n q_14.1 (0 : Int32)).bind fun q_15 =>
      (bf_setExpr n q_15.1 (2 : Int32) q_15.2).bind fun q_16 =>
      some (q_16.1, ())
    else
      some (q_11.1, ())
  else
    some (q_9.1, ())
/-! BasicMachineModel.numbers()V -/
def bf_numbers_L67 (n : Nat) (st : bS) (x1 : Int32) : Option (bS × Unit) :=
  (bf_setArg n st (0 : Int32) x1).bind fun q_1 =>
  some (q_1.1, ())
def bf_numbers_B11 (n : Nat) (rec : Nat → bS → Int32 → Int32 → Option (bS × Unit)) (st : bS) (x1 : Int32) (z39_1 : Int32) : Option (bS × Unit) :=
  if (st.1 7) = 0 then
    if (6 : Int32) ≤ x1 then
      bf_numbers_L67 n st x1
    else
      (bf_take n st (45 : Int32)).bind fun q_3 =>
      if q_3.2 = 0 then
        rec 1 q_3.1 x1 (0 : Int32)
      else
        rec 1 q_3.1 x1 (1 : Int32)
  else
    bf_numbers_L67 n st x1
def bf_numbers_B39 (n : Nat) (rec : Nat → bS → Int32 → Int32 → Option (bS × Unit)) (st : bS) (x1 : Int32) (z39_1 : Int32) : Option (bS × Unit) :=
  (bf_make n st z39_1).bind fun q_1 =>
  (bf_numeral n q_1.1 ).bind fun q_2 =>
  if (x1 + (1 : Int32)) = (6 : Int32) then
    bf_numbers_L67 n q_2.1 (x1 + (1 : Int32))
  else
    (bf_take n q_2.1 (44 : Int32)).bind fun q_4 =>
    if q_4.2 = 0 then
      bf_numbers_L67 n q_4.1 (x1 + (1 : Int32))
    else
      rec 0 q_4.1 (x1 + (1 : Int32)) (0 : Int32)
def bf_numbers_S11 (n : Nat) : Nat → Nat → bS → Int32 → Int32 → Option (bS × Unit)
  | 0, _, _, _, _ => none
  | k + 1, lb, st, x1, z39_1 => if lb = 0 then bf_numbers_B11 n (bf_numbers_S11 n k) st x1 z39_1 else bf_numbers_B39 n (bf_numbers_S11 n k) st x1 z39_1
def bf_numbers (n : Nat) (st : bS) : Option (bS × Unit) :=
  (bf_setExpr n st (0 : Int32) (st.1 6)).bind fun q_1 =>
  bf_numbers_S11 n n 0 q_1.1 (0 : Int32) (0 : Int32)
/-! BasicMachineModel.oneToSix()I -/
def bf_oneToSix_L24 (n : Nat) (st : bS) : Option (bS × Int32) :=
  (ptI st 7 (1 : Int32)).bind fun st_1 =>
  some (st_1, (0 : Int32))
def bf_oneToSix (n : Nat) (st : bS) : Option (bS × Int32) :=
  (bf_look n st ).bind fun q_1 =>
  if (q_1.1.1 7) = 0 then
    if q_1.2 < (49 : Int32) then
      bf_oneToSix_L24 n q_1.1
    else
      if q_1.2 ≤ (54 : Int32) then
        (ptI q_1.1 4 ((q_1.1.1 4) + (1 : Int32))).bind fun st_5 =>
        some (st_5, (q_1.2 - (48 : Int32)))
      else
        bf_oneToSix_L24 n q_1.1
  else
    bf_oneToSix_L24 n q_1.1
/-! BasicMachineModel.dim()V -/
def bf_dim (n : Nat) (st : bS) : Option (bS × Unit) :=
  (bf_matrix n st ).bind fun q_1 =>
  (bf_setArg n q_1.1 (0 : Int32) q_1.2).bind fun q_2 =>
  (bf_need n q_2.1 (40 : Int32)).bind fun q_3 =>
  (bf_oneToSix n q_3.1 ).bind fun q_4 =>
  (bf_setArg n q_4.1 (1 : Int32) q_4.2).bind fun q_5 =>
  (bf_need n q_5.1 (44 : Int32)).bind fun q_6 =>
  (bf_oneToSix n q_6.1 ).bind fun q_7 =>
  (bf_setArg n q_7.1 (2 : Int32) q_7.2).bind fun q_8 =>
  (bf_need n q_8.1 (41 : Int32)).bind fun q_9 =>
  some (q_9.1, ())
/-! BasicMachineModel.def()V -/
def bf_def_L51 (n : Nat) (st : bS) (x1 : Int32) : Option (bS × Unit) :=
  (bf_setArg n st (0 : Int32) (x1 - (65 : Int32))).bind fun q_1 =>
  (bf_need n q_1.1 (40 : Int32)).bind fun q_2 =>
  (bf_variable n q_2.1 ).bind fun q_3 =>
  (bf_setArg n q_3.1 (1 : Int32) q_3.2).bind fun q_4 =>
  (bf_need n q_4.1 (41 : Int32)).bind fun q_5 =>
  (bf_need n q_5.1 (61 : Int32)).bind fun q_6 =>
  (bf_expression n q_6.1 (0 : Int32)).bind fun q_7 =>
  (bf_setExpr n q_7.1 (0 : Int32) q_7.2).bind fun q_8 =>
  some (q_8.1, ())
def bf_def_L26 (n : Nat) (st : bS) (x1 : Int32) : Option (bS × Unit) :=
  (ptI st 7 (1 : Int32)).bind fun st_1 =>
  bf_def_L51 n st_1 x1
def bf_def (n : Nat) (st : bS) : Option (bS × Unit) :=
  (bf_takeWord n st (27 : Int32) (27 : Int32)).bind fun q_1 =>
  (bf_look n q_1.1 ).bind fun q_2 =>
  if q_2.2 < (65 : Int32) then
    bf_def_L26 n q_2.1 q_2.2
  else
    if q_2.2 ≤ (67 : Int32) then
      if (q_2.1.1 7) = 0 then
        (ptI q_2.1 4 ((q_2.1.1 4) + (1 : Int32))).bind fun st_6 =>
        bf_def_L51 n st_6 q_2.2
      else
        bf_def_L51 n q_2.1 q_2.2
    else
      bf_def_L26 n q_2.1 q_2.2
/-! BasicMachineModel.mat()V -/
def bf_mat_L138 (n : Nat) (st : bS) (z138_1 : Int32) (z138_2 : Int32) : Option (bS × Unit) :=
  (bf_setArg n st z138_1 z138_2).bind fun q_1 =>
  (ldA q_1.1 12 (193 : Int32)).bind fun v_2 =>
  if v_2 ≤ (5 : Int32) then
    some (q_1.1, ())
  else
    (bf_matrix n q_1.1 ).bind fun q_4 =>
    (bf_setArg n q_4.1 (3 : Int32) q_4.2).bind fun q_5 =>
    some (q_5.1, ())
def bf_mat (n : Nat) (st : bS) : Option (bS × Unit) :=
  (bf_matrix n st ).bind fun q_1 =>
  (bf_setArg n q_1.1 (0 : Int32) q_1.2).bind fun q_2 =>
  (bf_need n q_2.1 (61 : Int32)).bind fun q_3 =>
  (bf_look n q_3.1 ).bind fun q_4 =>
  if (q_4.1.1 7) = 0 then
    if q_4.2 = (40 : Int32) then
      (bf_bracket n q_4.1 ).bind fun q_25 =>
      (bf_expression n q_25.1 (0 : Int32)).bind fun q_26 =>
      (bf_setExpr n q_26.1 (0 : Int32) q_26.2).bind fun q_27 =>
      (bf_shut n q_27.1 ).bind fun q_28 =>
      (bf_need n q_28.1 (42 : Int32)).bind fun q_29 =>
      (bf_setArg n q_29.1 (1 : Int32) (4 : Int32)).bind fun q_30 =>
      (bf_matrix n q_30.1 ).bind fun q_31 =>
      (bf_setArg n q_31.1 (2 : Int32) q_31.2).bind fun q_32 =>
      some (q_32.1, ())
    else
      (bf_isMatrix n q_4.1 q_4.2).bind fun q_7 =>
      if q_7.2 = 0 then
        (bf_takeWord n q_7.1 (20 : Int32) (23 : Int32)).bind fun q_9 =>
        (bf_setArg n q_9.1 (1 : Int32) (q_9.2 - (20 : Int32))).bind fun q_10 =>
        (ldA q_10.1 12 (193 : Int32)).bind fun v_11 =>
        if v_11 = (3 : Int32) then
          (bf_need n q_10.1 (40 : Int32)).bind fun q_13 =>
          (bf_matrix n q_13.1 ).bind fun q_14 =>
          (bf_setArg n q_14.1 (2 : Int32) q_14.2).bind fun q_15 =>
          (bf_need n q_15.1 (41 : Int32)).bind fun q_16 =>
          some (q_16.1, ())
        else
          some (q_10.1, ())
      else
        (bf_matrix n q_7.1 ).bind fun q_17 =>
        (bf_setArg n q_17.1 (2 : Int32) q_17.2).bind fun q_18 =>
        (bf_take n q_18.1 (43 : Int32)).bind fun q_19 =>
        if q_19.2 = 0 then
          (bf_take n q_19.1 (45 : Int32)).bind fun q_21 =>
          if q_21.2 = 0 then
            (bf_take n q_21.1 (42 : Int32)).bind fun q_23 =>
            if q_23.2 = 0 then
              bf_mat_L138 n q_23.1 (1 : Int32) (5 : Int32)
            else
              bf_mat_L138 n q_23.1 (1 : Int32) (8 : Int32)
          else
            bf_mat_L138 n q_21.1 (1 : Int32) (7 : Int32)
        else
          bf_mat_L138 n q_19.1 (1 : Int32) (6 : Int32)
  else
    some (q_4.1, ())
/-! BasicMachineModel.statement()V -/
def bf_statement_L189 (n : Nat) (st : bS) : Option (bS × Unit) :=
  if (st.1 2) ≤ (st.1 4) then
    some (st, ())
  else
    (ptI st 7 (1 : Int32)).bind fun st_2 =>
    some (st_2, ())
def bf_statement_L175 (n : Nat) (st : bS) (x1 : Int32) : Option (bS × Unit) :=
  if x1 = (15 : Int32) then
    (ptI st 4 (st.1 2)).bind fun st_2 =>
    bf_statement_L189 n st_2
  else
    bf_statement_L189 n st
def bf_statement_L165 (n : Nat) (st : bS) (x1 : Int32) : Option (bS × Unit) :=
  if x1 = (14 : Int32) then
    (bf_mat n st ).bind fun q_2 =>
    bf_statement_L175 n q_2.1 x1
  else
    bf_statement_L175 n st x1
def bf_statement_L155 (n : Nat) (st : bS) (x1 : Int32) : Option (bS × Unit) :=
  if x1 = (13 : Int32) then
    (bf_def n st ).bind fun q_2 =>
    bf_statement_L165 n q_2.1 x1
  else
    bf_statement_L165 n st x1
def bf_statement_L145 (n : Nat) (st : bS) (x1 : Int32) : Option (bS × Unit) :=
  if x1 = (12 : Int32) then
    (bf_dim n st ).bind fun q_2 =>
    bf_statement_L155 n q_2.1 x1
  else
    bf_statement_L155 n st x1
def bf_statement_L135 (n : Nat) (st : bS) (x1 : Int32) : Option (bS × Unit) :=
  if x1 = (10 : Int32) then
    (bf_numbers n st ).bind fun q_2 =>
    bf_statement_L145 n q_2.1 x1
  else
    bf_statement_L145 n st x1
def bf_statement_L125 (n : Nat) (st : bS) (x1 : Int32) : Option (bS × Unit) :=
  if x1 = (9 : Int32) then
    (bf_target n st ).bind fun q_2 =>
    bf_statement_L135 n q_2.1 x1
  else
    bf_statement_L135 n st x1
def bf_statement_L110 (n : Nat) (st : bS) (x1 : Int32) : Option (bS × Unit) :=
  if x1 = (8 : Int32) then
    (bf_variable n st ).bind fun q_2 =>
    (bf_setArg n q_2.1 (0 : Int32) q_2.2).bind fun q_3 =>
    bf_statement_L125 n q_3.1 x1
  else
    bf_statement_L125 n st x1
def bf_statement_L100 (n : Nat) (st : bS) (x1 : Int32) : Option (bS × Unit) :=
  if x1 = (7 : Int32) then
    (bf_loop n st ).bind fun q_2 =>
    bf_statement_L110 n q_2.1 x1
  else
    bf_statement_L110 n st x1
def bf_statement_L91 (n : Nat) (st : bS) (x1 : Int32) : Option (bS × Unit) :=
  if x1 = (4 : Int32) then
    (bf_choice n st ).bind fun q_2 =>
    bf_statement_L100 n q_2.1 x1
  else
    bf_statement_L100 n st x1
def bf_statement_L82 (n : Nat) (st : bS) (x1 : Int32) : Option (bS × Unit) :=
  (bf_lineNumber n st ).bind fun q_1 =>
  (bf_setArg n q_1.1 (0 : Int32) q_1.2).bind fun q_2 =>
  bf_statement_L91 n q_2.1 x1
def bf_statement_L72 (n : Nat) (st : bS) (x1 : Int32) : Option (bS × Unit) :=
  if x1 = (3 : Int32) then
    bf_statement_L82 n st x1
  else
    if x1 = (5 : Int32) then
      bf_statement_L82 n st x1
    else
      bf_statement_L91 n st x1
def bf_statement_L63 (n : Nat) (st : bS) (x1 : Int32) : Option (bS × Unit) :=
  if x1 = (2 : Int32) then
    (bf_condition n st ).bind fun q_2 =>
    bf_statement_L72 n q_2.1 x1
  else
    bf_statement_L72 n st x1
def bf_statement_L48 (n : Nat) (st : bS) (x1 : Int32) : Option (bS × Unit) :=
  if x1 = (1 : Int32) then
    (bf_expression n st (0 : Int32)).bind fun q_2 =>
    (bf_setExpr n q_2.1 (0 : Int32) q_2.2).bind fun q_3 =>
    bf_statement_L63 n q_3.1 x1
  else
    bf_statement_L63 n st x1
def bf_statement (n : Nat) (st : bS) : Option (bS × Unit) :=
  (bf_takeWord n st (0 : Int32) (16 : Int32)).bind fun q_1 =>
  (stA q_1.1 11 (24 : Int32) q_1.2).bind fun st_2 =>
  if (st_2.1 7) = 0 then
    if q_1.2 = 0 then
      (bf_target n st_2 ).bind fun q_5 =>
      (bf_need n q_5.1 (61 : Int32)).bind fun q_6 =>
      (bf_expression n q_6.1 (0 : Int32)).bind fun q_7 =>
      (bf_setExpr n q_7.1 (2 : Int32) q_7.2).bind fun q_8 =>
      bf_statement_L48 n q_8.1 q_1.2
    else
      bf_statement_L48 n st_2 q_1.2
  else
    some (st_2, ())
/-! BasicMachineModel.slotOf(I)I -/
def bf_slotOf_B2 (n : Nat) (rec : bS → Int32 → Int32 → Option (bS × Int32)) (st : bS) (x1 : Int32) (x2 : Int32) : Option (bS × Int32) :=
  if (24 : Int32) ≤ x2 then
    some (st, (-1 : Int32))
  else
    (ldA st 10 x2).bind fun v_2 =>
    if v_2 = x1 then
      some (st, x2)
    else
      rec st x1 (x2 + (1 : Int32))
def bf_slotOf_S2 (n : Nat) : Nat → bS → Int32 → Int32 → Option (bS × Int32)
  | 0, _, _, _ => none
  | k + 1, st, x1, x2 => bf_slotOf_B2 n (bf_slotOf_S2 n k) st x1 x2
def bf_slotOf (n : Nat) (st : bS) (a1 : Int32) : Option (bS × Int32) :=
  bf_slotOf_S2 n n st a1 (0 : Int32)
/-! BasicMachineModel.copyTo(I)V -/
def bf_copyTo_B101 (n : Nat) (rec : bS → Int32 → Int32 → Option (bS × Unit)) (st : bS) (x1 : Int32) (x2 : Int32) : Option (bS × Unit) :=
  if (st.1 6) ≤ x2 then
    some (st, ())
  else
    (ldA st 14 ((3840 : Int32) + x2)).bind fun v_2 =>
    (stA st 14 ((x1 * (160 : Int32)) + x2) v_2).bind fun st_3 =>
    rec st_3 x1 (x2 + (1 : Int32))
def bf_copyTo_S101 (n : Nat) : Nat → bS → Int32 → Int32 → Option (bS × Unit)
  | 0, _, _, _ => none
  | k + 1, st, x1, x2 => bf_copyTo_B101 n (bf_copyTo_S101 n k) st x1 x2
def bf_copyTo_B63 (n : Nat) (rec : bS → Int32 → Int32 → Option (bS × Unit)) (st : bS) (x1 : Int32) (x2 : Int32) : Option (bS × Unit) :=
  if (4 : Int32) ≤ x2 then
    bf_copyTo_S101 n n st x1 (0 : Int32)
  else
    (ldA st 13 ((96 : Int32) + x2)).bind fun v_2 =>
    (stA st 13 ((x1 * (4 : Int32)) + x2) (v_2 + (x1 * (160 : Int32)))).bind fun st_3 =>
    rec st_3 x1 (x2 + (1 : Int32))
def bf_copyTo_S63 (n : Nat) : Nat → bS → Int32 → Int32 → Option (bS × Unit)
  | 0, _, _, _ => none
  | k + 1, st, x1, x2 => bf_copyTo_B63 n (bf_copyTo_S63 n k) st x1 x2
def bf_copyTo_B28 (n : Nat) (rec : bS → Int32 → Int32 → Option (bS × Unit)) (st : bS) (x1 : Int32) (x2 : Int32) : Option (bS × Unit) :=
  if (8 : Int32) ≤ x2 then
    bf_copyTo_S63 n n st x1 (0 : Int32)
  else
    (ldA st 12 ((192 : Int32) + x2)).bind fun v_2 =>
    (stA st 12 ((x1 * (8 : Int32)) + x2) v_2).bind fun st_3 =>
    rec st_3 x1 (x2 + (1 : Int32))
def bf_copyTo_S28 (n : Nat) : Nat → bS → Int32 → Int32 → Option (bS × Unit)
  | 0, _, _, _ => none
  | k + 1, st, x1, x2 => bf_copyTo_B28 n (bf_copyTo_S28 n k) st x1 x2
def bf_copyTo (n : Nat) (st : bS) (a1 : Int32) : Option (bS × Unit) :=
  (ldA st 10 (24 : Int32)).bind fun v_1 =>
  (stA st 10 a1 v_1).bind fun st_2 =>
  (ldA st_2 11 (24 : Int32)).bind fun v_3 =>
  (stA st_2 11 a1 v_3).bind fun st_4 =>
  bf_copyTo_S28 n n st_4 a1 (0 : Int32)
/-! BasicMachineModel.lines()I -/
def bf_lines_B4 (n : Nat) (rec : Nat → bS → Int32 → Int32 → Option (bS × Int32)) (st : bS) (x1 : Int32) (x2 : Int32) : Option (bS × Int32) :=
  if (24 : Int32) ≤ x2 then
    some (st, x1)
  else
    (ldA st 10 x2).bind fun v_2 =>
    if v_2 = 0 then
      rec 1 st x1 x2
    else
      rec 1 st (x1 + (1 : Int32)) x2
def bf_lines_B22 (n : Nat) (rec : Nat → bS → Int32 → Int32 → Option (bS × Int32)) (st : bS) (x1 : Int32) (x2 : Int32) : Option (bS × Int32) :=
  rec 0 st x1 (x2 + (1 : Int32))
def bf_lines_S4 (n : Nat) : Nat → Nat → bS → Int32 → Int32 → Option (bS × Int32)
  | 0, _, _, _, _ => none
  | k + 1, lb, st, x1, x2 => if lb = 0 then bf_lines_B4 n (bf_lines_S4 n k) st x1 x2 else bf_lines_B22 n (bf_lines_S4 n k) st x1 x2
def bf_lines (n : Nat) (st : bS) : Option (bS × Int32) :=
  bf_lines_S4 n n 0 st (0 : Int32) (0 : Int32)
/-! BasicMachineModel.enter()I -/
def bf_enter_L213 (n : Nat) (st : bS) (x2 : Int32) : Option (bS × Int32) :=
  if 0 ≤ x2 then
    (bf_copyTo n st x2).bind fun q_2 =>
    (bf_lines n q_2.1 ).bind fun q_3 =>
    (bf_fine n q_3.1 q_3.2).bind fun q_4 =>
    some (q_4.1, q_4.2)
  else
    (bf_refuse n st (3 : Int32)).bind fun q_5 =>
    some (q_5.1, q_5.2)
def bf_enter_L140 (n : Nat) (st : bS) (x1 : Int32) : Option (bS × Int32) :=
  if (st.1 7) = 0 then
    (ldA st 10 (24 : Int32)).bind fun v_2 =>
    (bf_slotOf n st v_2).bind fun q_3 =>
    if x1 = 0 then
      if 0 ≤ q_3.2 then
        bf_enter_L213 n q_3.1 q_3.2
      else
        (bf_slotOf n q_3.1 (0 : Int32)).bind fun q_6 =>
        bf_enter_L213 n q_6.1 q_6.2
    else
      if 0 ≤ q_3.2 then
        (stA q_3.1 10 q_3.2 (0 : Int32)).bind fun st_8 =>
        (bf_lines n st_8 ).bind fun q_9 =>
        (bf_fine n q_9.1 q_9.2).bind fun q_10 =>
        some (q_10.1, q_10.2)
      else
        (bf_refuse n q_3.1 (2 : Int32)).bind fun q_11 =>
        some (q_11.1, q_11.2)
  else
    (ptI st 3 (st.1 4)).bind fun st_12 =>
    (bf_refuse n st_12 (1 : Int32)).bind fun q_13 =>
    some (q_13.1, q_13.2)
def bf_enter_L124 (n : Nat) (st : bS) (z124_0 : Int32) : Option (bS × Int32) :=
  if z124_0 = 0 then
    if (st.1 7) = 0 then
      (bf_statement n st ).bind fun q_3 =>
      bf_enter_L140 n q_3.1 z124_0
    else
      bf_enter_L140 n st z124_0
  else
    bf_enter_L140 n st z124_0
def bf_enter_L123 (n : Nat) (st : bS) : Option (bS × Int32) :=
  bf_enter_L124 n st (0 : Int32)
def bf_enter_B7 (n : Nat) (rec : Nat → bS → Int32 → Option (bS × Int32)) (st : bS) (x1 : Int32) : Option (bS × Int32) :=
  if (st.1 1) ≤ x1 then
    (ptI st 1 (0 : Int32)).bind fun st_2 =>
    (ptI st_2 4 (0 : Int32)).bind fun st_3 =>
    (ptI st_3 5 (0 : Int32)).bind fun st_4 =>
    (ptI st_4 6 (0 : Int32)).bind fun st_5 =>
    (ptI st_5 7 (0 : Int32)).bind fun st_6 =>
    (ptI st_6 3 (-1 : Int32)).bind fun st_7 =>
    (bf_lineNumber n st_7 ).bind fun q_8 =>
    (stA q_8.1 10 (24 : Int32) q_8.2).bind fun st_9 =>
    if (st_9.1 7) = 0 then
      if (st_9.1 4) = (st_9.1 2) then
        bf_enter_L124 n st_9 (1 : Int32)
      else
        bf_enter_L123 n st_9
    else
      bf_enter_L123 n st_9
  else
    (ldA st 8 x1).bind fun v_12 =>
    if v_12 = (32 : Int32) then
      rec 1 st x1
    else
      (ldA st 8 x1).bind fun v_14 =>
      (stC st 9 (st.1 2) v_14).bind fun st_15 =>
      (ptI st_15 2 ((st_15.1 2) + (1 : Int32))).bind fun st_16 =>
      rec 1 st_16 x1
def bf_enter_B54 (n : Nat) (rec : Nat → bS → Int32 → Option (bS × Int32)) (st : bS) (x1 : Int32) : Option (bS × Int32) :=
  rec 0 st (x1 + (1 : Int32))
def bf_enter_S7 (n : Nat) : Nat → Nat → bS → Int32 → Option (bS × Int32)
  | 0, _, _, _ => none
  | k + 1, lb, st, x1 => if lb = 0 then bf_enter_B7 n (bf_enter_S7 n k) st x1 else bf_enter_B54 n (bf_enter_S7 n k) st x1
def bf_enter (n : Nat) (st : bS) : Option (bS × Int32) :=
  (ptI st 2 (0 : Int32)).bind fun st_1 =>
  bf_enter_S7 n n 0 st_1 (0 : Int32)
/-! BasicMachineModel.errorAt()I -/
def bf_errorAt (n : Nat) (st : bS) : Option (bS × Int32) :=
  (bf_fine n st (st.1 3)).bind fun q_1 =>
  some (q_1.1, q_1.2)
/-! BasicMachineModel.wipe()I -/
def bf_wipe_B7 (n : Nat) (rec : bS → Int32 → Int32 → Option (bS × Int32)) (st : bS) (x1 : Int32) (x2 : Int32) : Option (bS × Int32) :=
  if (24 : Int32) ≤ x2 then
    (bf_fine n st x1).bind fun q_2 =>
    some (q_2.1, q_2.2)
  else
    (stA st 10 x2 (0 : Int32)).bind fun st_3 =>
    rec st_3 x1 (x2 + (1 : Int32))
def bf_wipe_S7 (n : Nat) : Nat → bS → Int32 → Int32 → Option (bS × Int32)
  | 0, _, _, _ => none
  | k + 1, st, x1, x2 => bf_wipe_B7 n (bf_wipe_S7 n k) st x1 x2
def bf_wipe (n : Nat) (st : bS) : Option (bS × Int32) :=
  (bf_lines n st ).bind fun q_1 =>
  bf_wipe_S7 n n q_1.1 q_1.2 (0 : Int32)
/-! BasicMachineModel.kept(D)D -/
def bf_kept_L16 (n : Nat) (st : bS) : Option (bS × UInt64) :=
  (ptI st 27 (4 : Int32)).bind fun st_1 =>
  some (st_1, FP.dconst0)
def bf_kept (n : Nat) (st : bS) (a1 : UInt64) : Option (bS × UInt64) :=
  if 0 < (Op.cmpValue (FP.dcmp a1 (4877398396442247168 : UInt64)) .l) then
    bf_kept_L16 n st
  else
    if 0 ≤ (Op.cmpValue (FP.dcmp a1 (14100770433297022976 : UInt64)) .g) then
      some (st, a1)
    else
      bf_kept_L16 n st
/-! BasicMachineModel.divided(DD)D -/
def bf_divided (n : Nat) (st : bS) (a1 : UInt64) (a3 : UInt64) : Option (bS × UInt64) :=
  if (Op.cmpValue (FP.dcmp a3 FP.dconst0) .l) = 0 then
    (ptI st 27 (4 : Int32)).bind fun st_4 =>
    some (st_4, FP.dconst0)
  else
    (nN (FP.ddiv a1 a3)).bind fun v_2 =>
    (bf_kept n st v_2).bind fun q_3 =>
    some (q_3.1, q_3.2)
/-! BasicMachineModel.floor(D)D -/
def bf_floor (n : Nat) (st : bS) (a1 : UInt64) : Option (bS × UInt64) :=
  (nm (FP.d2l a1)).bind fun x3_1 =>
  if (Op.cmpValue (FP.dcmp (FP.l2d x3_1) a1) .l) ≤ 0 then
    some (st, (FP.l2d x3_1))
  else
    some (st, (FP.l2d (x3_1 - (1 : Int64))))
/-! BasicMachineModel.power(DD)D -/
def bf_power_L24 (n : Nat) (st : bS) : Option (bS × UInt64) :=
  (ptI st 27 (4 : Int32)).bind fun st_1 =>
  some (st_1, FP.dconst0)
def bf_power_L82 (n : Nat) (st : bS) (x5 : Int32) (x6 : UInt64) : Option (bS × UInt64) :=
  if 0 ≤ x5 then
    some (st, x6)
  else
    if (st.1 27) = 0 then
      (bf_divided n st FP.dconst1 x6).bind fun q_3 =>
      some (q_3.1, q_3.2)
    else
      some (st, x6)
def bf_power_B41 (n : Nat) (rec : Nat → bS → UInt64 → Int32 → UInt64 → Int32 → Int32 → Int32 → Option (bS × UInt64)) (st : bS) (x1 : UInt64) (x5 : Int32) (x6 : UInt64) (x8 : Int32) (z56_0 : Int32) (z56_1 : Int32) : Option (bS × UInt64) :=
  if 0 ≤ x5 then
    rec 1 st x1 x5 x6 x8 x8 x5
  else
    rec 1 st x1 x5 x6 x8 x8 (-x5)
def bf_power_B56 (n : Nat) (rec : Nat → bS → UInt64 → Int32 → UInt64 → Int32 → Int32 → Int32 → Option (bS × UInt64)) (st : bS) (x1 : UInt64) (x5 : Int32) (x6 : UInt64) (x8 : Int32) (z56_0 : Int32) (z56_1 : Int32) : Option (bS × UInt64) :=
  if z56_1 ≤ z56_0 then
    bf_power_L82 n st x5 x6
  else
    if (st.1 27) = 0 then
      (nN (FP.dmul x6 x1)).bind fun v_3 =>
      (bf_kept n st v_3).bind fun q_4 =>
      rec 0 q_4.1 x1 x5 q_4.2 (x8 + (1 : Int32)) (0 : Int32) (0 : Int32)
    else
      bf_power_L82 n st x5 x6
def bf_power_S41 (n : Nat) : Nat → Nat → bS → UInt64 → Int32 → UInt64 → Int32 → Int32 → Int32 → Option (bS × UInt64)
  | 0, _, _, _, _, _, _, _, _ => none
  | k + 1, lb, st, x1, x5, x6, x8, z56_0, z56_1 => if lb = 0 then bf_power_B41 n (bf_power_S41 n k) st x1 x5 x6 x8 z56_0 z56_1 else bf_power_B56 n (bf_power_S41 n k) st x1 x5 x6 x8 z56_0 z56_1
def bf_power (n : Nat) (st : bS) (a1 : UInt64) (a3 : UInt64) : Option (bS × UInt64) :=
  if (Op.cmpValue (FP.dcmp a3 (13849694754071117824 : UInt64)) .g) < 0 then
    bf_power_L24 n st
  else
    if 0 < (Op.cmpValue (FP.dcmp a3 (4626322717216342016 : UInt64)) .l) then
      bf_power_L24 n st
    else
      if (Op.cmpValue (FP.dcmp (FP.l2d (FP.d2l a3)) a3) .l) = 0 then
        (nm (FP.d2i a3)).bind fun x5_4 =>
        bf_power_S41 n n 0 st a1 x5_4 FP.dconst1 (0 : Int32) (0 : Int32) (0 : Int32)
      else
        bf_power_L24 n st
/-! BasicMachineModel.two(IDD)D -/
def bf_two (n : Nat) (st : bS) (a1 : Int32) (a2 : UInt64) (a4 : UInt64) : Option (bS × UInt64) :=
  if a1 = (3 : Int32) then
    (nN (FP.dadd a2 a4)).bind fun v_11 =>
    (bf_kept n st v_11).bind fun q_12 =>
    some (q_12.1, q_12.2)
  else
    if a1 = (4 : Int32) then
      (nN (FP.dsub a2 a4)).bind fun v_9 =>
      (bf_kept n st v_9).bind fun q_10 =>
      some (q_10.1, q_10.2)
    else
      if a1 = (5 : Int32) then
        (nN (FP.dmul a2 a4)).bind fun v_7 =>
        (bf_kept n st v_7).bind fun q_8 =>
        some (q_8.1, q_8.2)
      else
        if a1 = (6 : Int32) then
          (bf_divided n st a2 a4).bind fun q_6 =>
          some (q_6.1, q_6.2)
        else
          (bf_power n st a2 a4).bind fun q_5 =>
          some (q_5.1, q_5.2)
/-! BasicMachineModel.one(ID)D -/
def bf_one (n : Nat) (st : bS) (a1 : Int32) (a2 : UInt64) : Option (bS × UInt64) :=
  if a1 = (8 : Int32) then
    some (st, (FP.dneg a2))
  else
    if a1 = (9 : Int32) then
      if 0 ≤ (Op.cmpValue (FP.dcmp a2 FP.dconst0) .g) then
        some (st, a2)
      else
        some (st, (FP.dneg a2))
    else
      if a1 = (10 : Int32) then
        (bf_floor n st a2).bind fun q_6 =>
        some (q_6.1, q_6.2)
      else
        if 0 ≤ (Op.cmpValue (FP.dcmp a2 FP.dconst0) .g) then
          if (Op.cmpValue (FP.dcmp a2 FP.dconst0) .l) ≤ 0 then
            some (st, FP.dconst0)
          else
            some (st, FP.dconst1)
        else
          some (st, (13830554455654793216 : UInt64))
/-! BasicMachineModel.plain(I)D -/
def bf_plain_B5 (n : Nat) (rec : bS → Int32 → UInt64 → Int32 → Option (bS × UInt64)) (st : bS) (x1 : Int32) (x2 : UInt64) (x4 : Int32) : Option (bS × UInt64) :=
  (ldA st 14 (x1 + (1 : Int32))).bind fun v_1 =>
  if v_1 ≤ x4 then
    (ldA st 14 x1).bind fun v_3 =>
    (nN (FP.ddiv (FP.i2d v_3) x2)).bind fun v_4 =>
    some (st, v_4)
  else
    (nN (FP.dmul x2 (4621819117588971520 : UInt64))).bind fun v_5 =>
    rec st x1 v_5 (x4 + (1 : Int32))
def bf_plain_S5 (n : Nat) : Nat → bS → Int32 → UInt64 → Int32 → Option (bS × UInt64)
  | 0, _, _, _, _ => none
  | k + 1, st, x1, x2, x4 => bf_plain_B5 n (bf_plain_S5 n k) st x1 x2 x4
def bf_plain (n : Nat) (st : bS) (a1 : Int32) : Option (bS × UInt64) :=
  bf_plain_S5 n n st a1 FP.dconst1 (0 : Int32)
/-! BasicMachineModel.placeOf(IDD)I -/
def bf_placeOf_L49 (n : Nat) (st : bS) : Option (bS × Int32) :=
  (ptI st 27 (5 : Int32)).bind fun st_1 =>
  some (st_1, (-1 : Int32))
def bf_placeOf (n : Nat) (st : bS) (a1 : Int32) (a2 : UInt64) (a4 : UInt64) : Option (bS × Int32) :=
  (nm (FP.d2l a2)).bind fun x6_1 =>
  (nm (FP.d2l a4)).bind fun x8_2 =>
  if (lg_cmp x6_1 (1 : Int64)) < 0 then
    bf_placeOf_L49 n st
  else
    (ldA st 38 a1).bind fun v_4 =>
    if 0 < (lg_cmp x6_1 v_4.toInt64) then
      bf_placeOf_L49 n st
    else
      if (lg_cmp x8_2 (1 : Int64)) < 0 then
        bf_placeOf_L49 n st
      else
        (ldA st 39 a1).bind fun v_7 =>
        if (lg_cmp x8_2 v_7.toInt64) ≤ 0 then
          some (st, (((a1 * (36 : Int32)) + ((x6_1 - (1 : Int64)).toInt32 * (6 : Int32))) + (x8_2 - (1 : Int64)).toInt32))
        else
          bf_placeOf_L49 n st
/-! BasicMachineModel.call(II)I -/
def bf_call (n : Nat) (st : bS) (a1 : Int32) (a2 : Int32) : Option (bS × Int32) :=
  if (st.1 24) = (3 : Int32) then
    (ptI st 27 (2 : Int32)).bind fun st_14 =>
    some (st_14, a2)
  else
    (ldA st 37 a1).bind fun v_2 =>
    (ldA st 12 ((v_2 * (8 : Int32)) + (1 : Int32))).bind fun v_3 =>
    (stA st 43 (st.1 24) a2).bind fun st_4 =>
    (stA st_4 44 (st_4.1 24) v_3).bind fun st_5 =>
    (ldD st_5 29 v_3).bind fun v_6 =>
    (stD st_5 34 (st_5.1 24) v_6).bind fun st_7 =>
    (ptI st_7 24 ((st_7.1 24) + (1 : Int32))).bind fun st_8 =>
    (ptI st_8 25 ((st_8.1 25) - (1 : Int32))).bind fun st_9 =>
    (ldD st_9 30 (st_9.1 25)).bind fun v_10 =>
    (stD st_9 29 v_3 v_10).bind fun st_11 =>
    (ldA st_11 37 a1).bind fun v_12 =>
    (ldA st_11 13 (v_12 * (4 : Int32))).bind fun v_13 =>
    some (st_11, v_13)
/-! BasicMachineModel.leave()V -/
def bf_leave (n : Nat) (st : bS) : Option (bS × Unit) :=
  (ptI st 24 ((st.1 24) - (1 : Int32))).bind fun st_1 =>
  (ldA st_1 44 (st_1.1 24)).bind fun v_2 =>
  (ldD st_1 34 (st_1.1 24)).bind fun v_3 =>
  (stD st_1 29 v_2 v_3).bind fun st_4 =>
  some (st_4, ())
/-! BasicMachineModel.operate(II)I -/
def bf_operate (n : Nat) (st : bS) (a1 : Int32) (a2 : Int32) : Option (bS × Int32) :=
  (ldA st 14 (a2 + (1 : Int32))).bind fun v_1 =>
  if a1 = 0 then
    (bf_plain n st (a2 + (1 : Int32))).bind fun q_30 =>
    (stD q_30.1 30 (st.1 25) q_30.2).bind fun st_31 =>
    (ptI st_31 25 ((st_31.1 25) + (1 : Int32))).bind fun st_32 =>
    some (st_32, (a2 + (3 : Int32)))
  else
    if a1 = (1 : Int32) then
      (ldD st 29 v_1).bind fun v_27 =>
      (stD st 30 (st.1 25) v_27).bind fun st_28 =>
      (ptI st_28 25 ((st_28.1 25) + (1 : Int32))).bind fun st_29 =>
      some (st_29, (a2 + (2 : Int32)))
    else
      if a1 = (2 : Int32) then
        (ptI st 25 ((st.1 25) - (1 : Int32))).bind fun st_20 =>
        (ldD st_20 30 ((st_20.1 25) - (1 : Int32))).bind fun v_21 =>
        (ldD st_20 30 (st_20.1 25)).bind fun v_22 =>
        (bf_placeOf n st_20 v_1 v_21 v_22).bind fun q_23 =>
        if q_23.2 < 0 then
          some (q_23.1, (a2 + (2 : Int32)))
        else
          (ldD q_23.1 35 q_23.2).bind fun v_25 =>
          (stD q_23.1 30 ((q_23.1.1 25) - (1 : Int32)) v_25).bind fun st_26 =>
          some (st_26, (a2 + (2 : Int32)))
      else
        if (8 : Int32) ≤ a1 then
          if (12 : Int32) ≤ a1 then
            if a1 = (13 : Int32) then
              (bf_call n st v_1 (a2 + (2 : Int32))).bind fun q_11 =>
              some (q_11.1, q_11.2)
            else
              (ldA st 37 v_1).bind fun v_8 =>
              if 0 ≤ v_8 then
                some (st, (a2 + (2 : Int32)))
              else
                (ptI st 27 (3 : Int32)).bind fun st_10 =>
                some (st_10, (a2 + (2 : Int32)))
          else
            (ldD st 30 ((st.1 25) - (1 : Int32))).bind fun v_12 =>
            (bf_one n st a1 v_12).bind fun q_13 =>
            (stD q_13.1 30 ((st.1 25) - (1 : Int32)) q_13.2).bind fun st_14 =>
            some (st_14, (a2 + (1 : Int32)))
        else
          (ptI st 25 ((st.1 25) - (1 : Int32))).bind fun st_15 =>
          (ldD st_15 30 ((st_15.1 25) - (1 : Int32))).bind fun v_16 =>
          (ldD st_15 30 (st_15.1 25)).bind fun v_17 =>
          (bf_two n st_15 a1 v_16 v_17).bind fun q_18 =>
          (stD q_18.1 30 ((st_15.1 25) - (1 : Int32)) q_18.2).bind fun st_19 =>
          some (st_19, (a2 + (1 : Int32)))
/-! BasicMachineModel.work(I)D -/
def bf_work_B76 (n : Nat) (rec : bS → Option (bS × UInt64)) (st : bS) : Option (bS × UInt64) :=
  if (st.1 24) ≤ 0 then
    some (st, FP.dconst0)
  else
    (bf_leave n st ).bind fun q_2 =>
    rec q_2.1
def bf_work_S76 (n : Nat) : Nat → bS → Option (bS × UInt64)
  | 0, _ => none
  | k + 1, st => bf_work_B76 n (bf_work_S76 n k) st
def bf_work_B12 (n : Nat) (rec : bS → Int32 → Option (bS × UInt64)) (st : bS) (x2 : Int32) : Option (bS × UInt64) :=
  if (st.1 27) = 0 then
    (ldA st 14 x2).bind fun v_2 =>
    if v_2 = (14 : Int32) then
      if (st.1 24) = 0 then
        (ldD st 30 (0 : Int32)).bind fun v_7 =>
        some (st, v_7)
      else
        (bf_leave n st ).bind fun q_5 =>
        (ldA q_5.1 43 (q_5.1.1 24)).bind fun v_6 =>
        rec q_5.1 v_6
    else
      (ldA st 14 x2).bind fun v_8 =>
      (bf_operate n st v_8 x2).bind fun q_9 =>
      rec q_9.1 q_9.2
  else
    bf_work_S76 n n st
def bf_work_S12 (n : Nat) : Nat → bS → Int32 → Option (bS × UInt64)
  | 0, _, _ => none
  | k + 1, st, x2 => bf_work_B12 n (bf_work_S12 n k) st x2
def bf_work (n : Nat) (st : bS) (a1 : Int32) : Option (bS × UInt64) :=
  (ptI st 25 (0 : Int32)).bind fun st_1 =>
  (ptI st_1 24 (0 : Int32)).bind fun st_2 =>
  bf_work_S12 n n st_2 a1
/-! BasicMachineModel.nextSlot(I)I -/
def bf_nextSlot_B4 (n : Nat) (rec : Nat → bS → Int32 → Int32 → Int32 → Option (bS × Int32)) (st : bS) (x1 : Int32) (x2 : Int32) (x3 : Int32) : Option (bS × Int32) :=
  if (24 : Int32) ≤ x3 then
    some (st, x2)
  else
    (ldA st 10 x3).bind fun v_2 =>
    if v_2 ≤ x1 then
      rec 2 st x1 x2 x3
    else
      if x2 < 0 then
        rec 1 st x1 (0 : Int32) x3
      else
        (ldA st 10 x3).bind fun v_5 =>
        (ldA st 10 x2).bind fun v_6 =>
        if v_6 ≤ v_5 then
          rec 2 st x1 x2 x3
        else
          rec 1 st x1 (0 : Int32) x3
def bf_nextSlot_B39 (n : Nat) (rec : Nat → bS → Int32 → Int32 → Int32 → Option (bS × Int32)) (st : bS) (x1 : Int32) (x2 : Int32) (x3 : Int32) : Option (bS × Int32) :=
  rec 2 st x1 x3 x3
def bf_nextSlot_B41 (n : Nat) (rec : Nat → bS → Int32 → Int32 → Int32 → Option (bS × Int32)) (st : bS) (x1 : Int32) (x2 : Int32) (x3 : Int32) : Option (bS × Int32) :=
  rec 0 st x1 x2 (x3 + (1 : Int32))
def bf_nextSlot_S4 (n : Nat) : Nat → Nat → bS → Int32 → Int32 → Int32 → Option (bS × Int32)
  | 0, _, _, _, _, _ => none
  | k + 1, lb, st, x1, x2, x3 => if lb = 0 then bf_nextSlot_B4 n (bf_nextSlot_S4 n k) st x1 x2 x3 else if lb = 1 then bf_nextSlot_B39 n (bf_nextSlot_S4 n k) st x1 x2 x3 else bf_nextSlot_B41 n (bf_nextSlot_S4 n k) st x1 x2 x3
def bf_nextSlot (n : Nat) (st : bS) (a1 : Int32) : Option (bS × Int32) :=
  bf_nextSlot_S4 n n 0 st a1 (-1 : Int32) (0 : Int32)
/-! BasicMachineModel.goTo(I)I -/
def bf_goTo (n : Nat) (st : bS) (a1 : Int32) : Option (bS × Int32) :=
  (bf_slotOf n st a1).bind fun q_1 =>
  if 0 ≤ q_1.2 then
    some (q_1.1, q_1.2)
  else
    (ptI q_1.1 27 (3 : Int32)).bind fun st_3 =>
    some (st_3, q_1.2)
/-! BasicMachineModel.collect()V -/
def bf_collect_B11 (n : Nat) (rec : Nat → bS → Int32 → Int32 → Int32 → UInt64 → Option (bS × Unit)) (st : bS) (x1 : Int32) (x2 : Int32) (z92_1 : Int32) (z92_2 : UInt64) : Option (bS × Unit) :=
  if x1 < 0 then
    some (st, ())
  else
    (ldA st 11 x1).bind fun v_2 =>
    if v_2 = (10 : Int32) then
      rec 1 st x1 (0 : Int32) (0 : Int32) (0 : UInt64)
    else
      rec 3 st x1 (0 : Int32) (0 : Int32) (0 : UInt64)
def bf_collect_B31 (n : Nat) (rec : Nat → bS → Int32 → Int32 → Int32 → UInt64 → Option (bS × Unit)) (st : bS) (x1 : Int32) (x2 : Int32) (z92_1 : Int32) (z92_2 : UInt64) : Option (bS × Unit) :=
  (ldA st 12 (x1 * (8 : Int32))).bind fun v_1 =>
  if v_1 ≤ x2 then
    rec 3 st x1 (0 : Int32) (0 : Int32) (0 : UInt64)
  else
    (ldA st 13 (x1 * (4 : Int32))).bind fun v_3 =>
    (nm (v_3 + ((4 : Int32) * x2))).bind fun x3_4 =>
    (bf_plain n st (x3_4 + (2 : Int32))).bind fun q_5 =>
    (ldA q_5.1 14 x3_4).bind fun v_6 =>
    if v_6 = (1 : Int32) then
      rec 2 q_5.1 x1 x2 (q_5.1.1 20) (FP.dneg q_5.2)
    else
      rec 2 q_5.1 x1 x2 (q_5.1.1 20) q_5.2
def bf_collect_B92 (n : Nat) (rec : Nat → bS → Int32 → Int32 → Int32 → UInt64 → Option (bS × Unit)) (st : bS) (x1 : Int32) (x2 : Int32) (z92_1 : Int32) (z92_2 : UInt64) : Option (bS × Unit) :=
  (stD st 31 z92_1 z92_2).bind fun st_1 =>
  (ptI st_1 20 ((st_1.1 20) + (1 : Int32))).bind fun st_2 =>
  rec 1 st_2 x1 (x2 + (1 : Int32)) (0 : Int32) (0 : UInt64)
def bf_collect_B109 (n : Nat) (rec : Nat → bS → Int32 → Int32 → Int32 → UInt64 → Option (bS × Unit)) (st : bS) (x1 : Int32) (x2 : Int32) (z92_1 : Int32) (z92_2 : UInt64) : Option (bS × Unit) :=
  (ldA st 10 x1).bind fun v_1 =>
  (bf_nextSlot n st v_1).bind fun q_2 =>
  rec 0 q_2.1 q_2.2 (0 : Int32) (0 : Int32) (0 : UInt64)
def bf_collect_S11 (n : Nat) : Nat → Nat → bS → Int32 → Int32 → Int32 → UInt64 → Option (bS × Unit)
  | 0, _, _, _, _, _, _ => none
  | k + 1, lb, st, x1, x2, z92_1, z92_2 => if lb = 0 then bf_collect_B11 n (bf_collect_S11 n k) st x1 x2 z92_1 z92_2 else if lb = 1 then bf_collect_B31 n (bf_collect_S11 n k) st x1 x2 z92_1 z92_2 else if lb = 2 then bf_collect_B92 n (bf_collect_S11 n k) st x1 x2 z92_1 z92_2 else bf_collect_B109 n (bf_collect_S11 n k) st x1 x2 z92_1 z92_2
def bf_collect (n : Nat) (st : bS) : Option (bS × Unit) :=
  (ptI st 20 (0 : Int32)).bind fun st_1 =>
  (bf_nextSlot n st_1 (0 : Int32)).bind fun q_2 =>
  bf_collect_S11 n n 0 q_2.1 q_2.2 (0 : Int32) (0 : Int32) (0 : UInt64)
/-! BasicMachineModel.assign(IZ)V -/
def bf_assign_L155 (n : Nat) (st : bS) (x3 : Int32) (x4 : Int32) (x5 : UInt64) : Option (bS × Unit) :=
  if (st.1 27) = 0 then
    if x3 ≤ (25 : Int32) then
      (stD st 29 x3 x5).bind fun st_3 =>
      some (st_3, ())
    else
      (stD st 35 x4 x5).bind fun st_4 =>
      some (st_4, ())
  else
    some (st, ())
def bf_assign_L81 (n : Nat) (st : bS) (x1 : Int32) (x2 : Int32) (x3 : Int32) (x4 : Int32) : Option (bS × Unit) :=
  if (st.1 27) = 0 then
    if x2 = 0 then
      (ldA st 13 ((x1 * (4 : Int32)) + (2 : Int32))).bind fun v_7 =>
      (bf_work n st v_7).bind fun q_8 =>
      bf_assign_L155 n q_8.1 x3 x4 q_8.2
    else
      if (st.1 19) = (st.1 20) then
        (ptI st 27 (3 : Int32)).bind fun st_6 =>
        bf_assign_L155 n st_6 x3 x4 FP.dconst0
      else
        (ldD st 31 (st.1 19)).bind fun v_4 =>
        (ptI st 19 ((st.1 19) + (1 : Int32))).bind fun st_5 =>
        bf_assign_L155 n st_5 x3 x4 v_4
  else
    some (st, ())
def bf_assign_L58 (n : Nat) (st : bS) (x1 : Int32) (x2 : Int32) (x3 : Int32) (x4 : Int32) (x5 : UInt64) (z58_0 : UInt64) : Option (bS × Unit) :=
  if (st.1 27) = 0 then
    (bf_placeOf n st (x3 - (26 : Int32)) x5 z58_0).bind fun q_2 =>
    bf_assign_L81 n q_2.1 x1 x2 x3 q_2.2
  else
    bf_assign_L81 n st x1 x2 x3 x4
def bf_assign (n : Nat) (st : bS) (a1 : Int32) (a2 : Int32) : Option (bS × Unit) :=
  (ldA st 12 (a1 * (8 : Int32))).bind fun v_1 =>
  if v_1 ≤ (25 : Int32) then
    bf_assign_L81 n st a1 a2 v_1 v_1
  else
    (ldA st 13 (a1 * (4 : Int32))).bind fun v_3 =>
    (bf_work n st v_3).bind fun q_4 =>
    if (q_4.1.1 27) = 0 then
      (ldA q_4.1 13 ((a1 * (4 : Int32)) + (1 : Int32))).bind fun v_6 =>
      (bf_work n q_4.1 v_6).bind fun q_7 =>
      bf_assign_L58 n q_7.1 a1 a2 v_1 v_1 q_4.2 q_7.2
    else
      bf_assign_L58 n q_4.1 a1 a2 v_1 v_1 q_4.2 FP.dconst0
/-! BasicMachineModel.holds(IDD)Z -/
def bf_holds (n : Nat) (st : bS) (a1 : Int32) (a2 : UInt64) (a4 : UInt64) : Option (bS × Int32) :=
  if a1 = (0 : Int32) then
    if (Op.cmpValue (FP.dcmp a2 a4) .l) = 0 then
      some (st, (1 : Int32))
    else
      some (st, (0 : Int32))
  else
  if a1 = (1 : Int32) then
    if 0 ≤ (Op.cmpValue (FP.dcmp a2 a4) .g) then
      some (st, (0 : Int32))
    else
      some (st, (1 : Int32))
  else
  if a1 = (2 : Int32) then
    if (Op.cmpValue (FP.dcmp a2 a4) .l) ≤ 0 then
      some (st, (0 : Int32))
    else
      some (st, (1 : Int32))
  else
  if a1 = (3 : Int32) then
    if 0 < (Op.cmpValue (FP.dcmp a2 a4) .g) then
      some (st, (0 : Int32))
    else
      some (st, (1 : Int32))
  else
  if a1 = (4 : Int32) then
    if (Op.cmpValue (FP.dcmp a2 a4) .l) < 0 then
      some (st, (0 : Int32))
    else
      some (st, (1 : Int32))
  else
  if (Op.cmpValue (FP.dcmp a2 a4) .l) = 0 then
    some (st, (0 : Int32))
  else
    some (st, (1 : Int32))
/-! BasicMachineModel.over(DDD)Z -/
def bf_over (n : Nat) (st : bS) (a1 : UInt64) (a3 : UInt64) (a5 : UInt64) : Option (bS × Int32) :=
  if 0 ≤ (Op.cmpValue (FP.dcmp a5 FP.dconst0) .g) then
    if (Op.cmpValue (FP.dcmp a1 a3) .l) ≤ 0 then
      some (st, (0 : Int32))
    else
      some (st, (1 : Int32))
  else
    if 0 ≤ (Op.cmpValue (FP.dcmp a1 a3) .g) then
      some (st, (0 : Int32))
    else
      some (st, (1 : Int32))
/-! BasicMachineModel.loopFor(I)I -/
def bf_loopFor_B2 (n : Nat) (rec : bS → Int32 → Int32 → Option (bS × Int32)) (st : bS) (x1 : Int32) (x2 : Int32) : Option (bS × Int32) :=
  if (st.1 23) ≤ x2 then
    some (st, (-1 : Int32))
  else
    (ldA st 41 x2).bind fun v_2 =>
    if v_2 = x1 then
      some (st, x2)
    else
      rec st x1 (x2 + (1 : Int32))
def bf_loopFor_S2 (n : Nat) : Nat → bS → Int32 → Int32 → Option (bS × Int32)
  | 0, _, _, _ => none
  | k + 1, st, x1, x2 => bf_loopFor_B2 n (bf_loopFor_S2 n k) st x1 x2
def bf_loopFor (n : Nat) (st : bS) (a1 : Int32) : Option (bS × Int32) :=
  bf_loopFor_S2 n n st a1 (0 : Int32)
/-! BasicMachineModel.doFor(II)I -/
def bf_doFor_B142 (n : Nat) (rec : Nat → bS → Int32 → Int32 → Int32 → Option (bS × Int32)) (st : bS) (x2 : Int32) (x3 : Int32) (x10 : Int32) : Option (bS × Int32) :=
  if x10 < 0 then
    (ptI st 27 (2 : Int32)).bind fun st_2 =>
    some (st_2, x2)
  else
    (ldA st 11 x10).bind fun v_3 =>
    if v_3 = (8 : Int32) then
      (ldA st 12 (x10 * (8 : Int32))).bind fun v_5 =>
      if v_5 = x3 then
        (ldA st 10 x10).bind fun v_7 =>
        (bf_nextSlot n st v_7).bind fun q_8 =>
        some (q_8.1, q_8.2)
      else
        rec 1 st x2 x3 x10
    else
      rec 1 st x2 x3 x10
def bf_doFor_B185 (n : Nat) (rec : Nat → bS → Int32 → Int32 → Int32 → Option (bS × Int32)) (st : bS) (x2 : Int32) (x3 : Int32) (x10 : Int32) : Option (bS × Int32) :=
  (ldA st 10 x10).bind fun v_1 =>
  (bf_nextSlot n st v_1).bind fun q_2 =>
  rec 0 q_2.1 x2 x3 q_2.2
def bf_doFor_S142 (n : Nat) : Nat → Nat → bS → Int32 → Int32 → Int32 → Option (bS × Int32)
  | 0, _, _, _, _, _ => none
  | k + 1, lb, st, x2, x3, x10 => if lb = 0 then bf_doFor_B142 n (bf_doFor_S142 n k) st x2 x3 x10 else bf_doFor_B185 n (bf_doFor_S142 n k) st x2 x3 x10
def bf_doFor_L118 (n : Nat) (st : bS) (x1 : Int32) (x2 : Int32) (x3 : Int32) (x4 : UInt64) (x6 : UInt64) (x8 : UInt64) : Option (bS × Int32) :=
  (stD st 29 x3 x4).bind fun st_1 =>
  (bf_over n st_1 x4 x6 x8).bind fun q_2 =>
  if q_2.2 = 0 then
    if (q_2.1.1 23) = (6 : Int32) then
      (ptI q_2.1 27 (2 : Int32)).bind fun st_10 =>
      some (st_10, x2)
    else
      (stA q_2.1 41 (q_2.1.1 23) x3).bind fun st_5 =>
      (stA st_5 42 (st_5.1 23) x1).bind fun st_6 =>
      (stD st_6 32 (st_6.1 23) x6).bind fun st_7 =>
      (stD st_7 33 (st_7.1 23) x8).bind fun st_8 =>
      (ptI st_8 23 ((st_8.1 23) + (1 : Int32))).bind fun st_9 =>
      some (st_9, x2)
  else
    bf_doFor_S142 n n 0 q_2.1 x2 x3 x2
def bf_doFor_L92 (n : Nat) (st : bS) (x1 : Int32) (x2 : Int32) (x3 : Int32) (x4 : UInt64) (x6 : UInt64) (x8 : UInt64) : Option (bS × Int32) :=
  if (st.1 27) = 0 then
    (bf_loopFor n st x3).bind fun q_2 =>
    if q_2.2 < 0 then
      bf_doFor_L118 n q_2.1 x1 x2 x3 x4 x6 x8
    else
      (bf_loopFor n q_2.1 x3).bind fun q_4 =>
      (ptI q_4.1 23 q_4.2).bind fun st_5 =>
      bf_doFor_L118 n st_5 x1 x2 x3 x4 x6 x8
  else
    some (st, x2)
def bf_doFor_L49 (n : Nat) (st : bS) (x1 : Int32) (x2 : Int32) (x3 : Int32) (x4 : UInt64) (z49_0 : UInt64) : Option (bS × Int32) :=
  if (st.1 27) = 0 then
    (ldA st 12 ((x1 * (8 : Int32)) + (1 : Int32))).bind fun v_2 =>
    if v_2 = (1 : Int32) then
      (ldA st 13 ((x1 * (4 : Int32)) + (2 : Int32))).bind fun v_4 =>
      (bf_work n st v_4).bind fun q_5 =>
      bf_doFor_L92 n q_5.1 x1 x2 x3 x4 z49_0 q_5.2
    else
      bf_doFor_L92 n st x1 x2 x3 x4 z49_0 FP.dconst1
  else
    bf_doFor_L92 n st x1 x2 x3 x4 z49_0 FP.dconst1
def bf_doFor (n : Nat) (st : bS) (a1 : Int32) (a2 : Int32) : Option (bS × Int32) :=
  (ldA st 12 (a1 * (8 : Int32))).bind fun v_1 =>
  (ldA st 13 (a1 * (4 : Int32))).bind fun v_2 =>
  (bf_work n st v_2).bind fun q_3 =>
  if (q_3.1.1 27) = 0 then
    (ldA q_3.1 13 ((a1 * (4 : Int32)) + (1 : Int32))).bind fun v_5 =>
    (bf_work n q_3.1 v_5).bind fun q_6 =>
    bf_doFor_L49 n q_6.1 a1 a2 v_1 q_3.2 q_6.2
  else
    bf_doFor_L49 n q_3.1 a1 a2 v_1 q_3.2 FP.dconst0
/-! BasicMachineModel.doNext(II)I -/
def bf_doNext (n : Nat) (st : bS) (a1 : Int32) (a2 : Int32) : Option (bS × Int32) :=
  (ldA st 12 (a1 * (8 : Int32))).bind fun v_1 =>
  (bf_loopFor n st v_1).bind fun q_2 =>
  if 0 ≤ q_2.2 then
    (ptI q_2.1 23 (q_2.2 + (1 : Int32))).bind fun st_4 =>
    (ldD st_4 29 v_1).bind fun v_5 =>
    (ldD st_4 33 q_2.2).bind fun v_6 =>
    (nN (FP.dadd v_5 v_6)).bind fun v_7 =>
    (bf_kept n st_4 v_7).bind fun q_8 =>
    if (q_8.1.1 27) = 0 then
      (stD q_8.1 29 v_1 q_8.2).bind fun st_10 =>
      (ldD st_10 32 q_2.2).bind fun v_11 =>
      (ldD st_10 33 q_2.2).bind fun v_12 =>
      (bf_over n st_10 q_8.2 v_11 v_12).bind fun q_13 =>
      if q_13.2 = 0 then
        (ldA q_13.1 42 q_2.2).bind fun v_16 =>
        (ldA q_13.1 10 v_16).bind fun v_17 =>
        (bf_nextSlot n q_13.1 v_17).bind fun q_18 =>
        some (q_18.1, q_18.2)
      else
        (ptI q_13.1 23 q_2.2).bind fun st_15 =>
        some (st_15, a2)
    else
      some (q_8.1, a2)
  else
    (ptI q_2.1 27 (2 : Int32)).bind fun st_19 =>
    some (st_19, a2)
/-! BasicMachineModel.choose(I)I -/
def bf_choose_L49 (n : Nat) (st : bS) : Option (bS × Int32) :=
  (ptI st 27 (1 : Int32)).bind fun st_1 =>
  some (st_1, (-1 : Int32))
def bf_choose (n : Nat) (st : bS) (a1 : Int32) : Option (bS × Int32) :=
  (ldA st 13 (a1 * (4 : Int32))).bind fun v_1 =>
  (bf_work n st v_1).bind fun q_2 =>
  if (q_2.1.1 27) = 0 then
    (nm (FP.d2l q_2.2)).bind fun x4_4 =>
    if (lg_cmp x4_4 (1 : Int64)) < 0 then
      bf_choose_L49 n q_2.1
    else
      (ldA q_2.1 12 (a1 * (8 : Int32))).bind fun v_6 =>
      if (lg_cmp x4_4 v_6.toInt64) ≤ 0 then
        (ldA q_2.1 12 ((a1 * (8 : Int32)) + x4_4.toInt32)).bind fun v_8 =>
        (bf_goTo n q_2.1 v_8).bind fun q_9 =>
        some (q_9.1, q_9.2)
      else
        bf_choose_L49 n q_2.1
  else
    some (q_2.1, (-1 : Int32))
/-! BasicMachineModel.goSub(II)I -/
def bf_goSub (n : Nat) (st : bS) (a1 : Int32) (a2 : Int32) : Option (bS × Int32) :=
  if (st.1 22) = (8 : Int32) then
    (ptI st 27 (2 : Int32)).bind fun st_7 =>
    some (st_7, (-1 : Int32))
  else
    (ldA st 12 (a1 * (8 : Int32))).bind fun v_2 =>
    (bf_goTo n st v_2).bind fun q_3 =>
    if (q_3.1.1 27) = 0 then
      (stA q_3.1 40 (q_3.1.1 22) a2).bind fun st_5 =>
      (ptI st_5 22 ((st_5.1 22) + (1 : Int32))).bind fun st_6 =>
      some (st_6, q_3.2)
    else
      some (q_3.1, q_3.2)
/-! BasicMachineModel.matCell(IIIIID)D -/
def bf_matCell_B212 (n : Nat) (rec : Nat → bS → Int32 → Int32 → Int32 → Int32 → UInt64 → Int32 → Option (bS × UInt64)) (st : bS) (x2 : Int32) (x3 : Int32) (x4 : Int32) (x5 : Int32) (x9 : UInt64) (x11 : Int32) : Option (bS × UInt64) :=
  (ldA st 39 x2).bind fun v_1 =>
  if v_1 ≤ x11 then
    some (st, x9)
  else
    if (st.1 27) = 0 then
      (ldD st 35 (((x2 * (36 : Int32)) + (x4 * (6 : Int32))) + x11)).bind fun v_4 =>
      (ldD st 35 (((x3 * (36 : Int32)) + (x11 * (6 : Int32))) + x5)).bind fun v_5 =>
      (nN (FP.dmul v_4 v_5)).bind fun v_6 =>
      (bf_kept n st v_6).bind fun q_7 =>
      if (q_7.1.1 27) = 0 then
        (nN (FP.dadd x9 q_7.2)).bind fun v_9 =>
        (bf_kept n q_7.1 v_9).bind fun q_10 =>
        rec 1 q_10.1 x2 x3 x4 x5 q_10.2 x11
      else
        rec 1 q_7.1 x2 x3 x4 x5 x9 x11
    else
      some (st, x9)
def bf_matCell_B291 (n : Nat) (rec : Nat → bS → Int32 → Int32 → Int32 → Int32 → UInt64 → Int32 → Option (bS × UInt64)) (st : bS) (x2 : Int32) (x3 : Int32) (x4 : Int32) (x5 : Int32) (x9 : UInt64) (x11 : Int32) : Option (bS × UInt64) :=
  rec 0 st x2 x3 x4 x5 x9 (x11 + (1 : Int32))
def bf_matCell_S212 (n : Nat) : Nat → Nat → bS → Int32 → Int32 → Int32 → Int32 → UInt64 → Int32 → Option (bS × UInt64)
  | 0, _, _, _, _, _, _, _, _ => none
  | k + 1, lb, st, x2, x3, x4, x5, x9, x11 => if lb = 0 then bf_matCell_B212 n (bf_matCell_S212 n k) st x2 x3 x4 x5 x9 x11 else bf_matCell_B291 n (bf_matCell_S212 n k) st x2 x3 x4 x5 x9 x11
def bf_matCell (n : Nat) (st : bS) (a1 : Int32) (a2 : Int32) (a3 : Int32) (a4 : Int32) (a5 : Int32) (a6 : UInt64) : Option (bS × UInt64) :=
  (nm ((a4 * (6 : Int32)) + a5)).bind fun x8_1 =>
  if (2 : Int32) ≤ a1 then
    if a1 = (2 : Int32) then
      if a4 = a5 then
        some (st, FP.dconst1)
      else
        some (st, FP.dconst0)
    else
      if a1 = (3 : Int32) then
        (ldD st 35 (((a2 * (36 : Int32)) + (a5 * (6 : Int32))) + a4)).bind fun v_25 =>
        some (st, v_25)
      else
        if a1 = (4 : Int32) then
          (ldD st 35 ((a2 * (36 : Int32)) + x8_1)).bind fun v_22 =>
          (nN (FP.dmul a6 v_22)).bind fun v_23 =>
          (bf_kept n st v_23).bind fun q_24 =>
          some (q_24.1, q_24.2)
        else
          if a1 = (5 : Int32) then
            (ldD st 35 ((a2 * (36 : Int32)) + x8_1)).bind fun v_21 =>
            some (st, v_21)
          else
            if a1 = (6 : Int32) then
              (ldD st 35 ((a2 * (36 : Int32)) + x8_1)).bind fun v_17 =>
              (ldD st 35 ((a3 * (36 : Int32)) + x8_1)).bind fun v_18 =>
              (nN (FP.dadd v_17 v_18)).bind fun v_19 =>
              (bf_kept n st v_19).bind fun q_20 =>
              some (q_20.1, q_20.2)
            else
              if a1 = (7 : Int32) then
                (ldD st 35 ((a2 * (36 : Int32)) + x8_1)).bind fun v_13 =>
                (ldD st 35 ((a3 * (36 : Int32)) + x8_1)).bind fun v_14 =>
                (nN (FP.dsub v_13 v_14)).bind fun v_15 =>
                (bf_kept n st v_15).bind fun q_16 =>
                some (q_16.1, q_16.2)
              else
                (ldD st 35 ((a2 * (36 : Int32)) + (a4 * (6 : Int32)))).bind fun v_9 =>
                (ldD st 35 ((a3 * (36 : Int32)) + a5)).bind fun v_10 =>
                (nN (FP.dmul v_9 v_10)).bind fun v_11 =>
                (bf_kept n st v_11).bind fun q_12 =>
                bf_matCell_S212 n n 0 q_12.1 a2 a3 a4 a5 q_12.2 (1 : Int32)
  else
    some (st, (FP.i2d a1))
/-! BasicMachineModel.matFits(IIII)Z -/
def bf_matFits_L34 (n : Nat) (st : bS) : Option (bS × Int32) :=
  some (st, (1 : Int32))
def bf_matFits (n : Nat) (st : bS) (a1 : Int32) (a2 : Int32) (a3 : Int32) (a4 : Int32) : Option (bS × Int32) :=
  if (3 : Int32) ≤ a1 then
    (ldA st 38 a3).bind fun v_2 =>
    if v_2 = 0 then
      some (st, (0 : Int32))
    else
      if (6 : Int32) ≤ a1 then
        (ldA st 38 a4).bind fun v_5 =>
        if v_5 = 0 then
          some (st, (0 : Int32))
        else
          if a1 = (8 : Int32) then
            (ldA st 39 a3).bind fun v_14 =>
            (ldA st 38 a4).bind fun v_15 =>
            if v_14 = v_15 then
              some (st, (1 : Int32))
            else
              some (st, (0 : Int32))
          else
            (ldA st 38 a3).bind fun v_8 =>
            (ldA st 38 a4).bind fun v_9 =>
            if v_8 = v_9 then
              (ldA st 39 a3).bind fun v_11 =>
              (ldA st 39 a4).bind fun v_12 =>
              if v_11 = v_12 then
                some (st, (1 : Int32))
              else
                some (st, (0 : Int32))
            else
              some (st, (0 : Int32))
      else
        some (st, (1 : Int32))
  else
    (ldA st 38 a2).bind fun v_17 =>
    if v_17 ≤ 0 then
      some (st, (0 : Int32))
    else
      if a1 < (2 : Int32) then
        bf_matFits_L34 n st
      else
        (ldA st 38 a2).bind fun v_20 =>
        (ldA st 39 a2).bind fun v_21 =>
        if v_20 = v_21 then
          bf_matFits_L34 n st
        else
          some (st, (0 : Int32))
/-! BasicMachineModel.doMat(I)V -/
def bf_doMat_B252 (n : Nat) (rec : bS → Int32 → Int32 → Option (bS × Unit)) (st : bS) (x2 : Int32) (x10 : Int32) : Option (bS × Unit) :=
  if (36 : Int32) ≤ x10 then
    some (st, ())
  else
    (ldD st 36 x10).bind fun v_2 =>
    (stD st 35 ((x2 * (36 : Int32)) + x10) v_2).bind fun st_3 =>
    rec st_3 x2 (x10 + (1 : Int32))
def bf_doMat_S252 (n : Nat) : Nat → bS → Int32 → Int32 → Option (bS × Unit)
  | 0, _, _, _ => none
  | k + 1, st, x2, x10 => bf_doMat_B252 n (bf_doMat_S252 n k) st x2 x10
def bf_doMat_B161 (n : Nat) (rec : Nat → bS → Int32 → Int32 → Int32 → Int32 → UInt64 → Int32 → Int32 → Int32 → Int32 → Option (bS × Unit)) (st : bS) (x2 : Int32) (x3 : Int32) (x4 : Int32) (x5 : Int32) (x6 : UInt64) (x8 : Int32) (x9 : Int32) (x10 : Int32) (x11 : Int32) : Option (bS × Unit) :=
  if x8 ≤ x10 then
    if (st.1 27) = 0 then
      (stA st 38 x2 x8).bind fun st_3 =>
      (stA st_3 39 x2 x9).bind fun st_4 =>
      bf_doMat_S252 n n st_4 x2 (0 : Int32)
    else
      some (st, ())
  else
    rec 1 st x2 x3 x4 x5 x6 x8 x9 x10 (0 : Int32)
def bf_doMat_B171 (n : Nat) (rec : Nat → bS → Int32 → Int32 → Int32 → Int32 → UInt64 → Int32 → Int32 → Int32 → Int32 → Option (bS × Unit)) (st : bS) (x2 : Int32) (x3 : Int32) (x4 : Int32) (x5 : Int32) (x6 : UInt64) (x8 : Int32) (x9 : Int32) (x10 : Int32) (x11 : Int32) : Option (bS × Unit) :=
  if x9 ≤ x11 then
    rec 2 st x2 x3 x4 x5 x6 x8 x9 x10 (0 : Int32)
  else
    if (st.1 27) = 0 then
      (bf_matCell n st x3 x4 x5 x10 x11 x6).bind fun q_3 =>
      (stD q_3.1 36 ((x10 * (6 : Int32)) + x11) q_3.2).bind fun st_4 =>
      rec 1 st_4 x2 x3 x4 x5 x6 x8 x9 x10 (x11 + (1 : Int32))
    else
      rec 2 st x2 x3 x4 x5 x6 x8 x9 x10 (0 : Int32)
def bf_doMat_B219 (n : Nat) (rec : Nat → bS → Int32 → Int32 → Int32 → Int32 → UInt64 → Int32 → Int32 → Int32 → Int32 → Option (bS × Unit)) (st : bS) (x2 : Int32) (x3 : Int32) (x4 : Int32) (x5 : Int32) (x6 : UInt64) (x8 : Int32) (x9 : Int32) (x10 : Int32) (x11 : Int32) : Option (bS × Unit) :=
  rec 0 st x2 x3 x4 x5 x6 x8 x9 (x10 + (1 : Int32)) (0 : Int32)
def bf_doMat_S161 (n : Nat) : Nat → Nat → bS → Int32 → Int32 → Int32 → Int32 → UInt64 → Int32 → Int32 → Int32 → Int32 → Option (bS × Unit)
  | 0, _, _, _, _, _, _, _, _, _, _, _ => none
  | k + 1, lb, st, x2, x3, x4, x5, x6, x8, x9, x10, x11 => if lb = 0 then bf_doMat_B161 n (bf_doMat_S161 n k) st x2 x3 x4 x5 x6 x8 x9 x10 x11 else if lb = 1 then bf_doMat_B171 n (bf_doMat_S161 n k) st x2 x3 x4 x5 x6 x8 x9 x10 x11 else bf_doMat_B219 n (bf_doMat_S161 n k) st x2 x3 x4 x5 x6 x8 x9 x10 x11
def bf_doMat_L156 (n : Nat) (st : bS) (x2 : Int32) (x3 : Int32) (x4 : Int32) (x5 : Int32) (x6 : UInt64) (x8 : Int32) (z156_0 : Int32) : Option (bS × Unit) :=
  bf_doMat_S161 n n 0 st x2 x3 x4 x5 x6 x8 z156_0 (0 : Int32) (0 : Int32)
def bf_doMat_L132 (n : Nat) (st : bS) (x2 : Int32) (x3 : Int32) (x4 : Int32) (x5 : Int32) (x6 : UInt64) (z132_0 : Int32) : Option (bS × Unit) :=
  if x3 = (3 : Int32) then
    (ldA st 38 x4).bind fun v_3 =>
    bf_doMat_L156 n st x2 x3 x4 x5 x6 z132_0 v_3
  else
    (ldA st 39 x5).bind fun v_2 =>
    bf_doMat_L156 n st x2 x3 x4 x5 x6 z132_0 v_2
def bf_doMat_L108 (n : Nat) (st : bS) (x2 : Int32) (x3 : Int32) (x4 : Int32) (x5 : Int32) (z108_0 : UInt64) : Option (bS × Unit) :=
  if x3 = (3 : Int32) then
    (ldA st 39 x4).bind fun v_3 =>
    bf_doMat_L132 n st x2 x3 x4 x5 z108_0 v_3
  else
    (ldA st 38 x4).bind fun v_2 =>
    bf_doMat_L132 n st x2 x3 x4 x5 z108_0 v_2
def bf_doMat_L65 (n : Nat) (st : bS) (x1 : Int32) (x2 : Int32) (x3 : Int32) (x4 : Int32) (z65_0 : Int32) : Option (bS × Unit) :=
  (bf_matFits n st x3 x2 x4 z65_0).bind fun q_1 =>
  if q_1.2 = 0 then
    (ptI q_1.1 27 (6 : Int32)).bind fun st_6 =>
    some (st_6, ())
  else
    if x3 = (4 : Int32) then
      (ldA q_1.1 13 (x1 * (4 : Int32))).bind fun v_4 =>
      (bf_work n q_1.1 v_4).bind fun q_5 =>
      bf_doMat_L108 n q_5.1 x2 x3 x4 z65_0 q_5.2
    else
      bf_doMat_L108 n q_1.1 x2 x3 x4 z65_0 FP.dconst1
def bf_doMat_L42 (n : Nat) (st : bS) (x1 : Int32) (x2 : Int32) (x3 : Int32) (z42_0 : Int32) : Option (bS × Unit) :=
  if x3 ≤ (5 : Int32) then
    bf_doMat_L65 n st x1 x2 x3 z42_0 z42_0
  else
    (ldA st 12 ((x1 * (8 : Int32)) + (3 : Int32))).bind fun v_2 =>
    bf_doMat_L65 n st x1 x2 x3 z42_0 v_2
def bf_doMat (n : Nat) (st : bS) (a1 : Int32) : Option (bS × Unit) :=
  (ldA st 12 (a1 * (8 : Int32))).bind fun v_1 =>
  (ldA st 12 ((a1 * (8 : Int32)) + (1 : Int32))).bind fun v_2 =>
  if (3 : Int32) ≤ v_2 then
    (ldA st 12 ((a1 * (8 : Int32)) + (2 : Int32))).bind fun v_4 =>
    bf_doMat_L42 n st a1 v_1 v_2 v_4
  else
    bf_doMat_L42 n st a1 v_1 v_2 v_1
/-! BasicMachineModel.dimension(III)V -/
def bf_dimension_B20 (n : Nat) (rec : bS → Int32 → Int32 → Option (bS × Unit)) (st : bS) (x1 : Int32) (x4 : Int32) : Option (bS × Unit) :=
  if ((x1 * (36 : Int32)) + (36 : Int32)) ≤ x4 then
    some (st, ())
  else
    (stD st 35 x4 FP.dconst0).bind fun st_2 =>
    rec st_2 x1 (x4 + (1 : Int32))
def bf_dimension_S20 (n : Nat) : Nat → bS → Int32 → Int32 → Option (bS × Unit)
  | 0, _, _, _ => none
  | k + 1, st, x1, x4 => bf_dimension_B20 n (bf_dimension_S20 n k) st x1 x4
def bf_dimension (n : Nat) (st : bS) (a1 : Int32) (a2 : Int32) (a3 : Int32) : Option (bS × Unit) :=
  (stA st 38 a1 a2).bind fun st_1 =>
  (stA st_1 39 a1 a3).bind fun st_2 =>
  (nm (a1 * (36 : Int32))).bind fun x4_3 =>
  bf_dimension_S20 n n st_2 a1 x4_3
/-! BasicMachineModel.step(I)I -/
def bf_step_L377 (n : Nat) (st : bS) (x2 : Int32) (x4 : Int32) : Option (bS × Int32) :=
  if x2 = (16 : Int32) then
    some (st, (-1 : Int32))
  else
    some (st, x4)
def bf_step_L366 (n : Nat) (st : bS) (x1 : Int32) (x2 : Int32) (x4 : Int32) : Option (bS × Int32) :=
  if x2 = (14 : Int32) then
    (bf_doMat n st x1).bind fun q_2 =>
    bf_step_L377 n q_2.1 x2 x4
  else
    bf_step_L377 n st x2 x4
def bf_step_L353 (n : Nat) (st : bS) (x1 : Int32) (x2 : Int32) (x3 : Int32) (x4 : Int32) : Option (bS × Int32) :=
  if x2 = (13 : Int32) then
    (stA st 37 x3 x1).bind fun st_2 =>
    bf_step_L366 n st_2 x1 x2 x4
  else
    bf_step_L366 n st x1 x2 x4
def bf_step_L320 (n : Nat) (st : bS) (x1 : Int32) (x2 : Int32) (x3 : Int32) (x4 : Int32) : Option (bS × Int32) :=
  if x2 = (12 : Int32) then
    (ldA st 12 ((x1 * (8 : Int32)) + (1 : Int32))).bind fun v_2 =>
    (ldA st 12 ((x1 * (8 : Int32)) + (2 : Int32))).bind fun v_3 =>
    (bf_dimension n st x3 v_2 v_3).bind fun q_4 =>
    bf_step_L353 n q_4.1 x1 x2 x3 x4
  else
    bf_step_L353 n st x1 x2 x3 x4
def bf_step_L281 (n : Nat) (st : bS) (x1 : Int32) (x2 : Int32) (x3 : Int32) (x4 : Int32) : Option (bS × Int32) :=
  if x2 = (7 : Int32) then
    (bf_doFor n st x1 x4).bind fun q_6 =>
    some (q_6.1, q_6.2)
  else
    if x2 = (8 : Int32) then
      (bf_doNext n st x1 x4).bind fun q_5 =>
      some (q_5.1, q_5.2)
    else
      if x2 = (11 : Int32) then
        (ptI st 19 (0 : Int32)).bind fun st_4 =>
        bf_step_L320 n st_4 x1 x2 x3 x4
      else
        bf_step_L320 n st x1 x2 x3 x4
def bf_step_L255 (n : Nat) (st : bS) (x1 : Int32) (x2 : Int32) (x3 : Int32) (x4 : Int32) : Option (bS × Int32) :=
  if x2 = (6 : Int32) then
    (ptI st 22 ((st.1 22) - (1 : Int32))).bind fun st_2 =>
    (ldA st_2 40 (st_2.1 22)).bind fun v_3 =>
    some (st_2, v_3)
  else
    bf_step_L281 n st x1 x2 x3 x4
def bf_step_L199 (n : Nat) (st : bS) (x1 : Int32) (x2 : Int32) (x3 : Int32) (x4 : Int32) : Option (bS × Int32) :=
  if x2 = (3 : Int32) then
    (bf_goTo n st x3).bind fun q_9 =>
    some (q_9.1, q_9.2)
  else
    if x2 = (4 : Int32) then
      (bf_choose n st x1).bind fun q_8 =>
      some (q_8.1, q_8.2)
    else
      if x2 = (5 : Int32) then
        (bf_goSub n st x1 x4).bind fun q_7 =>
        some (q_7.1, q_7.2)
      else
        if x2 = (6 : Int32) then
          if (st.1 22) = 0 then
            (ptI st 27 (2 : Int32)).bind fun st_6 =>
            bf_step_L281 n st_6 x1 x2 x3 x4
          else
            bf_step_L255 n st x1 x2 x3 x4
        else
          bf_step_L255 n st x1 x2 x3 x4
def bf_step_L162 (n : Nat) (st : bS) (x1 : Int32) (x2 : Int32) (x3 : Int32) (x4 : Int32) (x5 : UInt64) (z162_0 : UInt64) : Option (bS × Int32) :=
  if (st.1 27) = 0 then
    (ldA st 12 ((x1 * (8 : Int32)) + (1 : Int32))).bind fun v_2 =>
    (bf_holds n st v_2 x5 z162_0).bind fun q_3 =>
    if q_3.2 = 0 then
      bf_step_L199 n q_3.1 x1 x2 x3 x4
    else
      (bf_goTo n q_3.1 x3).bind fun q_5 =>
      some (q_5.1, q_5.2)
  else
    bf_step_L199 n st x1 x2 x3 x4
def bf_step_L118 (n : Nat) (st : bS) (x1 : Int32) (x2 : Int32) (x3 : Int32) (x4 : Int32) : Option (bS × Int32) :=
  if x2 = (2 : Int32) then
    (ldA st 13 (x1 * (4 : Int32))).bind fun v_2 =>
    (bf_work n st v_2).bind fun q_3 =>
    if (q_3.1.1 27) = 0 then
      (ldA q_3.1 13 ((x1 * (4 : Int32)) + (1 : Int32))).bind fun v_5 =>
      (bf_work n q_3.1 v_5).bind fun q_6 =>
      bf_step_L162 n q_6.1 x1 x2 x3 x4 q_3.2 q_6.2
    else
      bf_step_L162 n q_3.1 x1 x2 x3 x4 q_3.2 FP.dconst0
  else
    bf_step_L199 n st x1 x2 x3 x4
def bf_step_L101 (n : Nat) (st : bS) (x1 : Int32) (x2 : Int32) (x3 : Int32) (x4 : Int32) : Option (bS × Int32) :=
  if (st.1 27) = 0 then
    (ptI st 18 ((st.1 18) + (1 : Int32))).bind fun st_2 =>
    bf_step_L118 n st_2 x1 x2 x3 x4
  else
    bf_step_L118 n st x1 x2 x3 x4
def bf_step_L55 (n : Nat) (st : bS) (x1 : Int32) (x2 : Int32) (x3 : Int32) (x4 : Int32) : Option (bS × Int32) :=
  if x2 = (1 : Int32) then
    (ldA st 13 (x1 * (4 : Int32))).bind fun v_2 =>
    (bf_work n st v_2).bind fun q_3 =>
    if (q_3.1.1 27) = 0 then
      if (40 : Int32) ≤ (q_3.1.1 18) then
        bf_step_L101 n q_3.1 x1 x2 x3 x4
      else
        (stD q_3.1 28 (q_3.1.1 18) q_3.2).bind fun st_6 =>
        bf_step_L101 n st_6 x1 x2 x3 x4
    else
      bf_step_L101 n q_3.1 x1 x2 x3 x4
  else
    bf_step_L118 n st x1 x2 x3 x4
def bf_step_L52 (n : Nat) (st : bS) (x1 : Int32) (x2 : Int32) (x3 : Int32) (x4 : Int32) (z52_1 : Int32) (z52_2 : Int32) : Option (bS × Int32) :=
  (bf_assign n st z52_1 z52_2).bind fun q_1 =>
  bf_step_L55 n q_1.1 x1 x2 x3 x4
def bf_step_L39 (n : Nat) (st : bS) (x1 : Int32) (x2 : Int32) (x3 : Int32) (x4 : Int32) : Option (bS × Int32) :=
  if x2 = (9 : Int32) then
    bf_step_L52 n st x1 x2 x3 x4 x1 (1 : Int32)
  else
    bf_step_L52 n st x1 x2 x3 x4 x1 (0 : Int32)
def bf_step (n : Nat) (st : bS) (a1 : Int32) : Option (bS × Int32) :=
  (ldA st 11 a1).bind fun v_1 =>
  (ldA st 12 (a1 * (8 : Int32))).bind fun v_2 =>
  (ldA st 10 a1).bind fun v_3 =>
  (bf_nextSlot n st v_3).bind fun q_4 =>
  if v_1 = 0 then
    bf_step_L39 n q_4.1 a1 v_1 v_2 q_4.2
  else
    if v_1 = (9 : Int32) then
      bf_step_L39 n q_4.1 a1 v_1 v_2 q_4.2
    else
      bf_step_L55 n q_4.1 a1 v_1 v_2 q_4.2
/-! BasicMachineModel.run()I -/
def bf_run_L151 (n : Nat) (st : bS) : Option (bS × Int32) :=
  (ptI st 21 ((st.1 20) - (st.1 19))).bind fun st_1 =>
  if (st_1.1 27) = 0 then
    (bf_fine n st_1 (st_1.1 16)).bind fun q_5 =>
    some (q_5.1, q_5.2)
  else
    (ptI st_1 26 ((st_1.1 26) + (1 : Int32))).bind fun st_3 =>
    (bf_refuse n st_3 (st_3.1 27)).bind fun q_4 =>
    some (q_4.1, q_4.2)
def bf_run_B93 (n : Nat) (rec : bS → Int32 → Option (bS × Int32)) (st : bS) (x1 : Int32) : Option (bS × Int32) :=
  if x1 < 0 then
    bf_run_L151 n st
  else
    if (st.1 27) = 0 then
      if (st.1 16) = (300 : Int32) then
        (ptI st 27 (2 : Int32)).bind fun st_8 =>
        rec st_8 x1
      else
        (ptI st 16 ((st.1 16) + (1 : Int32))).bind fun st_4 =>
        (ldA st_4 10 x1).bind fun v_5 =>
        (ptI st_4 17 v_5).bind fun st_6 =>
        (bf_step n st_6 x1).bind fun q_7 =>
        rec q_7.1 q_7.2
    else
      bf_run_L151 n st
def bf_run_S93 (n : Nat) : Nat → bS → Int32 → Option (bS × Int32)
  | 0, _, _ => none
  | k + 1, st, x1 => bf_run_B93 n (bf_run_S93 n k) st x1
def bf_run_B23 (n : Nat) (rec : bS → Int32 → Option (bS × Int32)) (st : bS) (x1 : Int32) : Option (bS × Int32) :=
  if (3 : Int32) ≤ x1 then
    (ptI st 16 (0 : Int32)).bind fun st_2 =>
    (ptI st_2 17 (-1 : Int32)).bind fun st_3 =>
    (ptI st_3 18 (0 : Int32)).bind fun st_4 =>
    (ptI st_4 19 (0 : Int32)).bind fun st_5 =>
    (ptI st_5 22 (0 : Int32)).bind fun st_6 =>
    (ptI st_6 23 (0 : Int32)).bind fun st_7 =>
    (ptI st_7 27 (0 : Int32)).bind fun st_8 =>
    (bf_collect n st_8 ).bind fun q_9 =>
    (bf_nextSlot n q_9.1 (0 : Int32)).bind fun q_10 =>
    bf_run_S93 n n q_10.1 q_10.2
  else
    (bf_dimension n st x1 (0 : Int32) (0 : Int32)).bind fun q_11 =>
    (stA q_11.1 37 x1 (-1 : Int32)).bind fun st_12 =>
    rec st_12 (x1 + (1 : Int32))
def bf_run_S23 (n : Nat) : Nat → bS → Int32 → Option (bS × Int32)
  | 0, _, _ => none
  | k + 1, st, x1 => bf_run_B23 n (bf_run_S23 n k) st x1
def bf_run_B2 (n : Nat) (rec : bS → Int32 → Option (bS × Int32)) (st : bS) (x1 : Int32) : Option (bS × Int32) :=
  if (26 : Int32) ≤ x1 then
    bf_run_S23 n n st (0 : Int32)
  else
    (stD st 29 x1 FP.dconst0).bind fun st_2 =>
    rec st_2 (x1 + (1 : Int32))
def bf_run_S2 (n : Nat) : Nat → bS → Int32 → Option (bS × Int32)
  | 0, _, _ => none
  | k + 1, st, x1 => bf_run_B2 n (bf_run_S2 n k) st x1
def bf_run (n : Nat) (st : bS) : Option (bS × Int32) :=
  bf_run_S2 n n st (0 : Int32)
/-! BasicMachineModel.printed(I)D -/
def bf_printed_L18 (n : Nat) (st : bS) : Option (bS × UInt64) :=
  (ptI st 0 (1 : Int32)).bind fun st_1 =>
  some (st_1, FP.dconst0)
def bf_printed (n : Nat) (st : bS) (a1 : Int32) : Option (bS × UInt64) :=
  if a1 < 0 then
    bf_printed_L18 n st
  else
    if (st.1 18) ≤ a1 then
      bf_printed_L18 n st
    else
      if a1 ≤ (39 : Int32) then
        (ptI st 0 (0 : Int32)).bind fun st_4 =>
        (ldD st_4 28 a1).bind fun v_5 =>
        some (st_4, v_5)
      else
        bf_printed_L18 n st
/-! BasicMachineModel.variable(I)D -/
def bf_variable_2_L21 (n : Nat) (st : bS) : Option (bS × UInt64) :=
  (ptI st 0 (1 : Int32)).bind fun st_1 =>
  some (st_1, FP.dconst0)
def bf_variable_2 (n : Nat) (st : bS) (a1 : Int32) : Option (bS × UInt64) :=
  if a1 < 0 then
    bf_variable_2_L21 n st
  else
    if (25 : Int32) < a1 then
      bf_variable_2_L21 n st
    else
      (bf_isMatrix n st ((65 : Int32) + a1)).bind fun q_3 =>
      if q_3.2 = 0 then
        (ptI q_3.1 0 (0 : Int32)).bind fun st_5 =>
        (ldD st_5 29 a1).bind fun v_6 =>
        some (st_5, v_6)
      else
        bf_variable_2_L21 n q_3.1
/-! BasicMachineModel.element(III)D -/
def bf_element_L49 (n : Nat) (st : bS) (x1 : Int32) (x2 : Int32) (x3 : Int32) (z49_1 : Int32) : Option (bS × UInt64) :=
  (ptI st 0 z49_1).bind fun st_1 =>
  if (st_1.1 0) = 0 then
    (ldD st_1 35 ((((x1 * (36 : Int32)) + ((x2 - (1 : Int32)) * (6 : Int32))) + x3) - (1 : Int32))).bind fun v_3 =>
    some (st_1, v_3)
  else
    some (st_1, FP.dconst0)
def bf_element_L10 (n : Nat) (st : bS) (x1 : Int32) (x2 : Int32) (x3 : Int32) : Option (bS × UInt64) :=
  bf_element_L49 n st x1 x2 x3 (1 : Int32)
def bf_element_L44 (n : Nat) (st : bS) (x1 : Int32) (x2 : Int32) (x3 : Int32) : Option (bS × UInt64) :=
  bf_element_L49 n st x1 x2 x3 (2 : Int32)
def bf_element (n : Nat) (st : bS) (a1 : Int32) (a2 : Int32) (a3 : Int32) : Option (bS × UInt64) :=
  if a1 < 0 then
    bf_element_L10 n st a1 a2 a3
  else
    if a1 ≤ (2 : Int32) then
      if a2 < (1 : Int32) then
        bf_element_L44 n st a1 a2 a3
      else
        (ldA st 38 a1).bind fun v_4 =>
        if v_4 < a2 then
          bf_element_L44 n st a1 a2 a3
        else
          if a3 < (1 : Int32) then
            bf_element_L44 n st a1 a2 a3
          else
            (ldA st 39 a1).bind fun v_7 =>
            if a3 ≤ v_7 then
              bf_element_L49 n st a1 a2 a3 (0 : Int32)
            else
              bf_element_L44 n st a1 a2 a3
    else
      bf_element_L10 n st a1 a2 a3
/-! BasicMachineModel.at()I -/
def bf_at (n : Nat) (st : bS) : Option (bS × Int32) :=
  (bf_fine n st (st.1 17)).bind fun q_1 =>
  some (q_1.1, q_1.2)
/-! BasicMachineModel.most()I -/
def bf_most_B4 (n : Nat) (rec : Nat → bS → Int32 → Int32 → Option (bS × Int32)) (st : bS) (x1 : Int32) (x2 : Int32) : Option (bS × Int32) :=
  if (24 : Int32) ≤ x2 then
    some (st, x1)
  else
    (ldA st 10 x2).bind fun v_2 =>
    if v_2 ≤ 0 then
      rec 1 st x1 x2
    else
      (ldA st 10 x2).bind fun v_4 =>
      if v_4 ≤ x1 then
        rec 1 st x1 x2
      else
        (ldA st 10 x2).bind fun v_6 =>
        rec 1 st v_6 x2
def bf_most_B36 (n : Nat) (rec : Nat → bS → Int32 → Int32 → Option (bS × Int32)) (st : bS) (x1 : Int32) (x2 : Int32) : Option (bS × Int32) :=
  rec 0 st x1 (x2 + (1 : Int32))
def bf_most_S4 (n : Nat) : Nat → Nat → bS → Int32 → Int32 → Option (bS × Int32)
  | 0, _, _, _, _ => none
  | k + 1, lb, st, x1, x2 => if lb = 0 then bf_most_B4 n (bf_most_S4 n k) st x1 x2 else bf_most_B36 n (bf_most_S4 n k) st x1 x2
def bf_most (n : Nat) (st : bS) : Option (bS × Int32) :=
  bf_most_S4 n n 0 st (-1 : Int32) (0 : Int32)
/-! BasicMachineModel.count(I)I -/
def bf_count (n : Nat) (st : bS) (a1 : Int32) : Option (bS × Int32) :=
  (ptI st 0 (0 : Int32)).bind fun st_1 =>
  if a1 = (0 : Int32) then
    some (st_1, (st_1.1 1))
  else
  if a1 = (1 : Int32) then
    (bf_lines n st_1 ).bind fun q_4 =>
    some (q_4.1, q_4.2)
  else
  if a1 = (2 : Int32) then
    some (st_1, (st_1.1 16))
  else
  if a1 = (3 : Int32) then
    some (st_1, (st_1.1 18))
  else
  if a1 = (4 : Int32) then
    some (st_1, (st_1.1 23))
  else
  if a1 = (5 : Int32) then
    some (st_1, (st_1.1 22))
  else
  if a1 = (6 : Int32) then
    some (st_1, (st_1.1 21))
  else
  if a1 = (7 : Int32) then
    some (st_1, (st_1.1 26))
  else
  if a1 = (8 : Int32) then
    (bf_nextSlot n st_1 (0 : Int32)).bind fun q_12 =>
    if 0 ≤ q_12.2 then
      (bf_nextSlot n q_12.1 (0 : Int32)).bind fun q_14 =>
      (ldA q_14.1 10 q_14.2).bind fun v_15 =>
      some (q_14.1, v_15)
    else
      some (q_12.1, (-1 : Int32))
  else
  if a1 = (9 : Int32) then
    (bf_most n st_1 ).bind fun q_17 =>
    some (q_17.1, q_17.2)
  else
  some (st_1, (-1 : Int32))
