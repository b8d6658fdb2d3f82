/-! words that ride in the contracts of the machine (printed by genl.py) -/
def aNF : List (String × Nat × String × String × String × String) := [("BasicMachine$Print", 25, "BasicMachine", "printed", "[D", "BasicMachine"), ("BasicMachine$Print", 19, "BasicMachine", "prints", "I", "BasicMachine"), ("BasicMachine$Gosub", 25, "BasicMachine", "back", "[LBasicMachine$Line;", "BasicMachine"), ("BasicMachine$Gosub", 13, "BasicMachine", "returns", "I", "BasicMachine"), ("BasicMachine$Return", 16, "BasicMachine", "back", "[LBasicMachine$Line;", "BasicMachine"), ("BasicMachine$Return", 7, "BasicMachine", "returns", "I", "BasicMachine"), ("BasicMachine$For", 38, "BasicMachine", "variables", "[D", "BasicMachine"), ("BasicMachine$For", 59, "BasicMachine", "loopRow", "[LBasicMachine$Loop;", "BasicMachine"), ("BasicMachine$For", 35, "BasicMachine", "loops", "I", "BasicMachine"), ("BasicMachine$Next", 29, "BasicMachine", "variables", "[D", "BasicMachine"), ("BasicMachine$Next", 25, "BasicMachine", "loopRow", "[LBasicMachine$Loop;", "BasicMachine"), ("BasicMachine$Next", 22, "BasicMachine", "loops", "I", "BasicMachine"), ("BasicMachine$Restore", 7, "BasicMachine", "readPlace", "I", "BasicMachine"), ("BasicMachine$Dim", 19, "BasicMachine", "matrices", "[LBasicMachine$Matrix;", "BasicMachine"), ("BasicMachine$Define", 20, "BasicMachine", "functions", "[LBasicMachine$Define;", "BasicMachine"), ("BasicMachine$Mat", 43, "BasicMachine", "matrices", "[LBasicMachine$Matrix;", "BasicMachine"), ("BasicMachine$Mat", 47, "BasicMachine", "spare", "LBasicMachine$Matrix;", "BasicMachine"), ("BasicMachine$Nothing", 13, "BasicMachine", "over", "Z", "BasicMachine"), ("BasicMachine$Place", 53, "BasicMachine", "variables", "[D", "BasicMachine"), ("BasicMachine$Place", 62, "BasicMachine", "matrices", "[LBasicMachine$Matrix;", "BasicMachine"), ("BasicMachine$Call", 52, "BasicMachine", "variables", "[D", "BasicMachine"), ("BasicMachine$Call", 17, "BasicMachine", "functions", "[LBasicMachine$Define;", "BasicMachine"), ("BasicMachine$Call", 32, "BasicMachine", "calls", "I", "BasicMachine"), ("BasicMachine$Call", 38, "BasicMachine", "callRow", "[I", "BasicMachine"), ("BasicMachine$Call", 48, "BasicMachine", "callOld", "[D", "BasicMachine"), ("BasicMachine$Variable", 13, "BasicMachine", "variables", "[D", "BasicMachine")]
theorem aNF_in : ∀ w ∈ aNF, Cond.fieldLinkNest w.1 w.2.1 w.2.2.1 w.2.2.2.1 w.2.2.2.2.1 w.2.2.2.2.2 ∈ lw_tbl := by
  intro w hw
  simp only [aNF, List.mem_cons, List.not_mem_nil, or_false] at hw
  rcases hw with rfl | rfl | rfl | rfl | rfl | rfl | rfl | rfl | rfl | rfl | rfl | rfl | rfl | rfl | rfl | rfl | rfl | rfl | rfl | rfl | rfl | rfl | rfl | rfl | rfl | rfl
  · exact q227
  · exact q229
  · exact q215
  · exact q218
  · exact q216
  · exact q219
  · exact q197
  · exact q222
  · exact q225
  · exact q196
  · exact q221
  · exact q224
  · exact q231
  · exact q201
  · exact q206
  · exact q202
  · exact q205
  · exact q234
  · exact q199
  · exact q203
  · exact q198
  · exact q207
  · exact q209
  · exact q211
  · exact q213
  · exact q195
def aNM : List (String × Nat × MethodName × String) := [("BasicMachine$Pair", 26, ⟨"BasicMachine", "checked", "(D)D"⟩, "BasicMachine"), ("BasicMachine$Pair", 46, ⟨"BasicMachine", "whole", "(D)J"⟩, "BasicMachine"), ("BasicMachine$Element", 26, ⟨"BasicMachine", "whole", "(D)J"⟩, "BasicMachine"), ("BasicMachine$Element", 32, ⟨"BasicMachine", "matrix", "(I)LBasicMachine$Matrix;"⟩, "BasicMachine"), ("BasicMachine$If", 29, ⟨"BasicMachine", "line", "(I)LBasicMachine$Line;"⟩, "BasicMachine"), ("BasicMachine$Goto", 13, ⟨"BasicMachine", "line", "(I)LBasicMachine$Line;"⟩, "BasicMachine"), ("BasicMachine$On", 23, ⟨"BasicMachine", "whole", "(D)J"⟩, "BasicMachine"), ("BasicMachine$On", 32, ⟨"BasicMachine", "line", "(I)LBasicMachine$Line;"⟩, "BasicMachine"), ("BasicMachine$Gosub", 21, ⟨"BasicMachine", "line", "(I)LBasicMachine$Line;"⟩, "BasicMachine"), ("BasicMachine$Return", 20, ⟨"BasicMachine", "after", "(LBasicMachine$Line;)LBasicMachine$Line;"⟩, "BasicMachine"), ("BasicMachine$For", 29, ⟨"BasicMachine", "loop", "(I)I"⟩, "BasicMachine"), ("BasicMachine$For", 48, ⟨"BasicMachine", "nextOf", "(ILBasicMachine$Line;)LBasicMachine$Line;"⟩, "BasicMachine"), ("BasicMachine$For", 52, ⟨"BasicMachine", "after", "(LBasicMachine$Line;)LBasicMachine$Line;"⟩, "BasicMachine"), ("BasicMachine$For", 63, ⟨"BasicMachine$Loop", "<init>", "(IDDLBasicMachine$Line;)V"⟩, "BasicMachine"), ("BasicMachine$Next", 13, ⟨"BasicMachine", "loop", "(I)I"⟩, "BasicMachine"), ("BasicMachine$Next", 39, ⟨"BasicMachine", "checked", "(D)D"⟩, "BasicMachine"), ("BasicMachine$Next", 54, ⟨"BasicMachine", "after", "(LBasicMachine$Line;)LBasicMachine$Line;"⟩, "BasicMachine"), ("BasicMachine$Read", 19, ⟨"BasicMachine", "read", "()D"⟩, "BasicMachine"), ("BasicMachine$Dim", 27, ⟨"BasicMachine$Matrix", "<init>", "()V"⟩, "BasicMachine"), ("BasicMachine$Mat", 27, ⟨"BasicMachine", "known", "(I)LBasicMachine$Matrix;"⟩, "BasicMachine"), ("BasicMachine$Mat", 66, ⟨"BasicMachine$Matrix", "<init>", "()V"⟩, "BasicMachine"), ("BasicMachine$Mat", 79, ⟨"BasicMachine", "checked", "(D)D"⟩, "BasicMachine"), ("BasicMachine$Parser", 147, ⟨"BasicMachine$Numeral", "<init>", "(D)V"⟩, "BasicMachine"), ("BasicMachine$Parser", 127, ⟨"BasicMachine$Single", "<init>", "(CLBasicMachine$Expression;)V"⟩, "BasicMachine"), ("BasicMachine$Parser", 192, ⟨"BasicMachine$Call", "<init>", "(ILBasicMachine$Expression;)V"⟩, "BasicMachine"), ("BasicMachine$Parser", 169, ⟨"BasicMachine$Variable", "<init>", "(I)V"⟩, "BasicMachine"), ("BasicMachine$Parser", 132, ⟨"BasicMachine$Pair", "<init>", "(CLBasicMachine$Expression;LBasicMachine$Expression;)V"⟩, "BasicMachine"), ("BasicMachine$Parser", 119, ⟨"BasicMachine$Element", "<init>", "(ILBasicMachine$Expression;LBasicMachine$Expression;)V"⟩, "BasicMachine"), ("BasicMachine$Parser", 197, ⟨"BasicMachine$Place", "<init>", "(LBasicMachine$Variable;LBasicMachine$Element;)V"⟩, "BasicMachine"), ("BasicMachine$Parser", 221, ⟨"BasicMachine$Let", "<init>", "(LBasicMachine$Place;LBasicMachine$Expression;)V"⟩, "BasicMachine"), ("BasicMachine$Parser", 226, ⟨"BasicMachine$Print", "<init>", "(LBasicMachine$Expression;)V"⟩, "BasicMachine"), ("BasicMachine$Parser", 282, ⟨"BasicMachine$If", "<init>", "(LBasicMachine$Expression;ILBasicMachine$Expression;I)V"⟩, "BasicMachine"), ("BasicMachine$Parser", 238, ⟨"BasicMachine$Goto", "<init>", "(I)V"⟩, "BasicMachine"), ("BasicMachine$Parser", 287, ⟨"BasicMachine$On", "<init>", "(LBasicMachine$Expression;[I)V"⟩, "BasicMachine"), ("BasicMachine$Parser", 244, ⟨"BasicMachine$Gosub", "<init>", "(I)V"⟩, "BasicMachine"), ("BasicMachine$Parser", 247, ⟨"BasicMachine$Return", "<init>", "()V"⟩, "BasicMachine"), ("BasicMachine$Parser", 294, ⟨"BasicMachine$For", "<init>", "(ILBasicMachine$Expression;LBasicMachine$Expression;LBasicMachine$Expression;)V"⟩, "BasicMachine"), ("BasicMachine$Parser", 253, ⟨"BasicMachine$Next", "<init>", "(I)V"⟩, "BasicMachine"), ("BasicMachine$Parser", 256, ⟨"BasicMachine$Read", "<init>", "(LBasicMachine$Place;)V"⟩, "BasicMachine"), ("BasicMachine$Parser", 301, ⟨"BasicMachine$Data", "<init>", "([D)V"⟩, "BasicMachine"), ("BasicMachine$Parser", 264, ⟨"BasicMachine$Restore", "<init>", "()V"⟩, "BasicMachine"), ("BasicMachine$Parser", 309, ⟨"BasicMachine$Dim", "<init>", "(III)V"⟩, "BasicMachine"), ("BasicMachine$Parser", 314, ⟨"BasicMachine$Define", "<init>", "(IILBasicMachine$Expression;)V"⟩, "BasicMachine"), ("BasicMachine$Parser", 325, ⟨"BasicMachine$Mat", "<init>", "(ICIILBasicMachine$Expression;)V"⟩, "BasicMachine"), ("BasicMachine$Parser", 276, ⟨"BasicMachine$Nothing", "<init>", "(Z)V"⟩, "BasicMachine"), ("BasicMachine$Place", 29, ⟨"BasicMachine", "whole", "(D)J"⟩, "BasicMachine"), ("BasicMachine$Place", 42, ⟨"BasicMachine", "matrix", "(I)LBasicMachine$Matrix;"⟩, "BasicMachine"), ("BasicMachine$Place", 45, ⟨"BasicMachine$Matrix", "check", "(JJ)V"⟩, "BasicMachine"), ("BasicMachine$Single", 29, ⟨"BasicMachine", "whole", "(D)J"⟩, "BasicMachine"), ("BasicMachine$Call", 59, ⟨"BasicMachine", "leave", "()V"⟩, "BasicMachine")]
theorem aNM_in : ∀ w ∈ aNM, Cond.methodLinkNest w.1 w.2.1 w.2.2.1 w.2.2.2 ∈ lw_tbl := by
  intro w hw
  simp only [aNM, List.mem_cons, List.not_mem_nil, or_false] at hw
  rcases hw with rfl | rfl | rfl | rfl | rfl | rfl | rfl | rfl | rfl | rfl | rfl | rfl | rfl | rfl | rfl | rfl | rfl | rfl | rfl | rfl | rfl | rfl | rfl | rfl | rfl | rfl | rfl | rfl | rfl | rfl | rfl | rfl | rfl | rfl | rfl | rfl | rfl | rfl | rfl | rfl | rfl | rfl | rfl | rfl | rfl | rfl | rfl | rfl | rfl | rfl
  · exact q1464
  · exact q1483
  · exact q1484
  · exact q1485
  · exact q1599
  · exact q1590
  · exact q1720
  · exact q1723
  · exact q1580
  · exact q1763
  · exact q1527
  · exact q1538
  · exact q1547
  · exact q1555
  · exact q1688
  · exact q1695
  · exact q1705
  · exact q1739
  · exact q1377
  · exact q1644
  · exact q1675
  · exact q1681
  · exact q908
  · exact q944
  · exact q962
  · exact q982
  · exact q992
  · exact q1008
  · exact q1022
  · exact q1035
  · exact q1048
  · exact q1063
  · exact q1082
  · exact q1096
  · exact q1109
  · exact q1119
  · exact q1131
  · exact q1151
  · exact q1161
  · exact q1175
  · exact q1185
  · exact q1200
  · exact q1220
  · exact q1243
  · exact q1266
  · exact q1616
  · exact q1625
  · exact q1626
  · exact q1460
  · exact q1523
def aXN : List String := ["java/lang/IllegalArgumentException", "java/lang/IllegalStateException", "java/util/NoSuchElementException", "java/lang/ArithmeticException", "java/lang/IndexOutOfBoundsException", "java/lang/UnsupportedOperationException"]
theorem aXN_in : ∀ w ∈ aXN, Cond.castable w w ∈ lw_tbl := by
  intro w hw
  simp only [aXN, List.mem_cons, List.not_mem_nil, or_false] at hw
  rcases hw with rfl | rfl | rfl | rfl | rfl | rfl
  · exact q322
  · exact q390
  · exact q1280
  · exact q1316
  · exact q1490
  · exact q1649
def aAO : List String := ["BasicMachine$Matrix", "BasicMachine$Define", "BasicMachine$Line", "BasicMachine$Loop", "java/lang/String"]
theorem aAO_in : ∀ w ∈ aAO, Cond.arrayOver (.object w) ∈ lw_tbl := by
  intro w hw
  simp only [aAO, List.mem_cons, List.not_mem_nil, or_false] at hw
  rcases hw with rfl | rfl | rfl | rfl | rfl
  · exact q183
  · exact q185
  · exact q187
  · exact q189
  · exact q422
def aFW : List (String × MethodName × MethodName) := [("BasicMachine$Pair", ⟨"BasicMachine$Expression", "value", "(LBasicMachine;)D"⟩, ⟨"BasicMachine$Pair", "value", "(LBasicMachine;)D"⟩), ("BasicMachine$Element", ⟨"BasicMachine$Expression", "value", "(LBasicMachine;)D"⟩, ⟨"BasicMachine$Element", "value", "(LBasicMachine;)D"⟩), ("BasicMachine$Let", ⟨"BasicMachine$Statement", "run", "(LBasicMachine;LBasicMachine$Line;)LBasicMachine$Line;"⟩, ⟨"BasicMachine$Let", "run", "(LBasicMachine;LBasicMachine$Line;)LBasicMachine$Line;"⟩), ("BasicMachine$Print", ⟨"BasicMachine$Statement", "run", "(LBasicMachine;LBasicMachine$Line;)LBasicMachine$Line;"⟩, ⟨"BasicMachine$Print", "run", "(LBasicMachine;LBasicMachine$Line;)LBasicMachine$Line;"⟩), ("BasicMachine$If", ⟨"BasicMachine$Statement", "run", "(LBasicMachine;LBasicMachine$Line;)LBasicMachine$Line;"⟩, ⟨"BasicMachine$If", "run", "(LBasicMachine;LBasicMachine$Line;)LBasicMachine$Line;"⟩), ("BasicMachine$Goto", ⟨"BasicMachine$Statement", "run", "(LBasicMachine;LBasicMachine$Line;)LBasicMachine$Line;"⟩, ⟨"BasicMachine$Goto", "run", "(LBasicMachine;LBasicMachine$Line;)LBasicMachine$Line;"⟩), ("BasicMachine$On", ⟨"BasicMachine$Statement", "run", "(LBasicMachine;LBasicMachine$Line;)LBasicMachine$Line;"⟩, ⟨"BasicMachine$On", "run", "(LBasicMachine;LBasicMachine$Line;)LBasicMachine$Line;"⟩), ("BasicMachine$Gosub", ⟨"BasicMachine$Statement", "run", "(LBasicMachine;LBasicMachine$Line;)LBasicMachine$Line;"⟩, ⟨"BasicMachine$Gosub", "run", "(LBasicMachine;LBasicMachine$Line;)LBasicMachine$Line;"⟩), ("BasicMachine$Return", ⟨"BasicMachine$Statement", "run", "(LBasicMachine;LBasicMachine$Line;)LBasicMachine$Line;"⟩, ⟨"BasicMachine$Return", "run", "(LBasicMachine;LBasicMachine$Line;)LBasicMachine$Line;"⟩), ("BasicMachine$For", ⟨"BasicMachine$Statement", "run", "(LBasicMachine;LBasicMachine$Line;)LBasicMachine$Line;"⟩, ⟨"BasicMachine$For", "run", "(LBasicMachine;LBasicMachine$Line;)LBasicMachine$Line;"⟩), ("BasicMachine$Next", ⟨"BasicMachine$Statement", "run", "(LBasicMachine;LBasicMachine$Line;)LBasicMachine$Line;"⟩, ⟨"BasicMachine$Next", "run", "(LBasicMachine;LBasicMachine$Line;)LBasicMachine$Line;"⟩), ("BasicMachine$Read", ⟨"BasicMachine$Statement", "run", "(LBasicMachine;LBasicMachine$Line;)LBasicMachine$Line;"⟩, ⟨"BasicMachine$Read", "run", "(LBasicMachine;LBasicMachine$Line;)LBasicMachine$Line;"⟩), ("BasicMachine$Data", ⟨"BasicMachine$Statement", "run", "(LBasicMachine;LBasicMachine$Line;)LBasicMachine$Line;"⟩, ⟨"BasicMachine$Data", "run", "(LBasicMachine;LBasicMachine$Line;)LBasicMachine$Line;"⟩), ("BasicMachine$Restore", ⟨"BasicMachine$Statement", "run", "(LBasicMachine;LBasicMachine$Line;)LBasicMachine$Line;"⟩, ⟨"BasicMachine$Restore", "run", "(LBasicMachine;LBasicMachine$Line;)LBasicMachine$Line;"⟩), ("BasicMachine$Dim", ⟨"BasicMachine$Statement", "run", "(LBasicMachine;LBasicMachine$Line;)LBasicMachine$Line;"⟩, ⟨"BasicMachine$Dim", "run", "(LBasicMachine;LBasicMachine$Line;)LBasicMachine$Line;"⟩), ("BasicMachine$Define", ⟨"BasicMachine$Statement", "run", "(LBasicMachine;LBasicMachine$Line;)LBasicMachine$Line;"⟩, ⟨"BasicMachine$Define", "run", "(LBasicMachine;LBasicMachine$Line;)LBasicMachine$Line;"⟩), ("BasicMachine$Mat", ⟨"BasicMachine$Statement", "run", "(LBasicMachine;LBasicMachine$Line;)LBasicMachine$Line;"⟩, ⟨"BasicMachine$Mat", "run", "(LBasicMachine;LBasicMachine$Line;)LBasicMachine$Line;"⟩), ("BasicMachine$Nothing", ⟨"BasicMachine$Statement", "run", "(LBasicMachine;LBasicMachine$Line;)LBasicMachine$Line;"⟩, ⟨"BasicMachine$Nothing", "run", "(LBasicMachine;LBasicMachine$Line;)LBasicMachine$Line;"⟩), ("BasicMachine$Numeral", ⟨"BasicMachine$Expression", "value", "(LBasicMachine;)D"⟩, ⟨"BasicMachine$Numeral", "value", "(LBasicMachine;)D"⟩), ("BasicMachine$Single", ⟨"BasicMachine$Expression", "value", "(LBasicMachine;)D"⟩, ⟨"BasicMachine$Single", "value", "(LBasicMachine;)D"⟩), ("BasicMachine$Call", ⟨"BasicMachine$Expression", "value", "(LBasicMachine;)D"⟩, ⟨"BasicMachine$Call", "value", "(LBasicMachine;)D"⟩), ("BasicMachine$Variable", ⟨"BasicMachine$Expression", "value", "(LBasicMachine;)D"⟩, ⟨"BasicMachine$Variable", "value", "(LBasicMachine;)D"⟩)]
theorem aFW_in : ∀ w ∈ aFW, Cond.declares w.2.1 ∈ lw_tbl ∧ Cond.interfaceMethod w.2.1.cls w.2.1.cls w.2.1.name w.2.1.desc ∈ lw_tbl ∧ Cond.publicMethod w.2.2 ∈ lw_tbl ∧ Cond.unhidden w.1 w.2.1.name w.2.1.desc ∈ lw_tbl ∧ Cond.castable w.1 w.2.1.cls ∈ lw_tbl := by
  intro w hw
  simp only [aFW, List.mem_cons, List.not_mem_nil, or_false] at hw
  rcases hw with rfl | rfl | rfl | rfl | rfl | rfl | rfl | rfl | rfl | rfl | rfl | rfl | rfl | rfl | rfl | rfl | rfl | rfl | rfl | rfl | rfl | rfl
  · exact ⟨q1410, q1409, q1439, q1437, q1435⟩
  · exact ⟨q1410, q1409, q1425, q1423, q1421⟩
  · exact ⟨q1356, q1355, q1604, q1602, q1600⟩
  · exact ⟨q1356, q1355, q1728, q1726, q1724⟩
  · exact ⟨q1356, q1355, q1595, q1593, q1591⟩
  · exact ⟨q1356, q1355, q1588, q1586, q1584⟩
  · exact ⟨q1356, q1355, q1716, q1714, q1712⟩
  · exact ⟨q1356, q1355, q1576, q1574, q1572⟩
  · exact ⟨q1356, q1355, q1759, q1757, q1755⟩
  · exact ⟨q1356, q1355, q1405, q1403, q1401⟩
  · exact ⟨q1356, q1355, q1686, q1684, q1682⟩
  · exact ⟨q1356, q1355, q1736, q1734, q1732⟩
  · exact ⟨q1356, q1355, q1361, q1359, q1357⟩
  · exact ⟨q1356, q1355, q1753, q1751, q1749⟩
  · exact ⟨q1356, q1355, q1373, q1371, q1369⟩
  · exact ⟨q1356, q1355, q1367, q1365, q1363⟩
  · exact ⟨q1356, q1355, q1642, q1640, q1638⟩
  · exact ⟨q1356, q1355, q1710, q1708, q1706⟩
  · exact ⟨q1410, q1409, q1433, q1431, q1429⟩
  · exact ⟨q1410, q1409, q1447, q1445, q1443⟩
  · exact ⟨q1410, q1409, q1415, q1413, q1411⟩
  · exact ⟨q1410, q1409, q1455, q1453, q1451⟩
theorem aFW_ok : ∀ w ∈ aFW, w.2.1.cls ≠ "java/lang/invoke/MethodHandle" ∧ w.2.1.cls ≠ "java/lang/invoke/VarHandle" := by decide +kernel
def aDC : List MethodName := [⟨"java/lang/RuntimeException", "<init>", "()V"⟩, ⟨"java/lang/Exception", "<init>", "()V"⟩, ⟨"java/lang/Throwable", "<init>", "()V"⟩]
theorem aDC_in : ∀ w ∈ aDC, Cond.declares w ∈ lw_tbl := by
  intro w hw
  simp only [aDC, List.mem_cons, List.not_mem_nil, or_false] at hw
  rcases hw with rfl | rfl | rfl
  · exact q323
  · exact q325
  · exact q327
def aNC : List (String × String) := [("java/lang/IllegalArgumentException", "java/lang/IllegalStateException"), ("java/lang/IllegalArgumentException", "java/util/NoSuchElementException"), ("java/lang/IllegalArgumentException", "java/lang/ArithmeticException"), ("java/lang/IllegalArgumentException", "java/lang/IndexOutOfBoundsException"), ("java/lang/IllegalArgumentException", "java/lang/UnsupportedOperationException"), ("java/lang/IllegalStateException", "java/lang/IllegalArgumentException"), ("java/lang/IllegalStateException", "java/util/NoSuchElementException"), ("java/lang/IllegalStateException", "java/lang/ArithmeticException"), ("java/lang/IllegalStateException", "java/lang/IndexOutOfBoundsException"), ("java/lang/IllegalStateException", "java/lang/UnsupportedOperationException"), ("java/util/NoSuchElementException", "java/lang/IllegalArgumentException"), ("java/util/NoSuchElementException", "java/lang/IllegalStateException"), ("java/util/NoSuchElementException", "java/lang/ArithmeticException"), ("java/util/NoSuchElementException", "java/lang/IndexOutOfBoundsException"), ("java/util/NoSuchElementException", "java/lang/UnsupportedOperationException"), ("java/lang/ArithmeticException", "java/lang/IllegalArgumentException"), ("java/lang/ArithmeticException", "java/lang/IllegalStateException"), ("java/lang/ArithmeticException", "java/util/NoSuchElementException"), ("java/lang/ArithmeticException", "java/lang/IndexOutOfBoundsException"), ("java/lang/ArithmeticException", "java/lang/UnsupportedOperationException"), ("java/lang/IndexOutOfBoundsException", "java/lang/IllegalArgumentException"), ("java/lang/IndexOutOfBoundsException", "java/lang/IllegalStateException"), ("java/lang/IndexOutOfBoundsException", "java/util/NoSuchElementException"), ("java/lang/IndexOutOfBoundsException", "java/lang/ArithmeticException"), ("java/lang/IndexOutOfBoundsException", "java/lang/UnsupportedOperationException"), ("java/lang/UnsupportedOperationException", "java/lang/IllegalArgumentException"), ("java/lang/UnsupportedOperationException", "java/lang/IllegalStateException"), ("java/lang/UnsupportedOperationException", "java/util/NoSuchElementException"), ("java/lang/UnsupportedOperationException", "java/lang/ArithmeticException"), ("java/lang/UnsupportedOperationException", "java/lang/IndexOutOfBoundsException"), ("BasicMachine$Let", "BasicMachine$Data"), ("BasicMachine$Let", "BasicMachine$Next"), ("BasicMachine$Print", "BasicMachine$Data"), ("BasicMachine$Print", "BasicMachine$Next"), ("BasicMachine$If", "BasicMachine$Data"), ("BasicMachine$If", "BasicMachine$Next"), ("BasicMachine$Goto", "BasicMachine$Data"), ("BasicMachine$Goto", "BasicMachine$Next"), ("BasicMachine$On", "BasicMachine$Data"), ("BasicMachine$On", "BasicMachine$Next"), ("BasicMachine$Gosub", "BasicMachine$Data"), ("BasicMachine$Gosub", "BasicMachine$Next"), ("BasicMachine$Return", "BasicMachine$Data"), ("BasicMachine$Return", "BasicMachine$Next"), ("BasicMachine$For", "BasicMachine$Data"), ("BasicMachine$For", "BasicMachine$Next"), ("BasicMachine$Next", "BasicMachine$Data"), ("BasicMachine$Read", "BasicMachine$Data"), ("BasicMachine$Read", "BasicMachine$Next"), ("BasicMachine$Data", "BasicMachine$Next"), ("BasicMachine$Restore", "BasicMachine$Data"), ("BasicMachine$Restore", "BasicMachine$Next"), ("BasicMachine$Dim", "BasicMachine$Data"), ("BasicMachine$Dim", "BasicMachine$Next"), ("BasicMachine$Define", "BasicMachine$Data"), ("BasicMachine$Define", "BasicMachine$Next"), ("BasicMachine$Mat", "BasicMachine$Data"), ("BasicMachine$Mat", "BasicMachine$Next"), ("BasicMachine$Nothing", "BasicMachine$Data"), ("BasicMachine$Nothing", "BasicMachine$Next")]
/-! the string constants of the parser: entry, text, hash, bytes (printed by genl.py) -/
def aStr : List (Nat × String × Int32 × List Int32) := [(9, "LET", 75259, [76, 69, 84]), (11, "PRINT", 76397197, [80, 82, 73, 78, 84]), (13, "IF", 2333, [73, 70]), (15, "GOTO", 2193763, [71, 79, 84, 79]), (17, "ON", 2527, [79, 78]), (19, "GOSUB", 68005944, [71, 79, 83, 85, 66]), (21, "RETURN", -1881067216, [82, 69, 84, 85, 82, 78]), (23, "FOR", 69801, [70, 79, 82]), (25, "NEXT", 2392819, [78, 69, 88, 84]), (27, "READ", 2511254, [82, 69, 65, 68]), (29, "DATA", 2090922, [68, 65, 84, 65]), (31, "RESTORE", 1815502446, [82, 69, 83, 84, 79, 82, 69]), (33, "DIM", 67688, [68, 73, 77]), (35, "DEF", 67557, [68, 69, 70]), (37, "MAT", 76096, [77, 65, 84]), (39, "REM", 81018, [82, 69, 77]), (41, "END", 68795, [69, 78, 68]), (172, "ABS", 64594, [65, 66, 83]), (177, "INT", 72655, [73, 78, 84]), (183, "SGN", 82042, [83, 71, 78]), (185, "FN", 2248, [70, 78]), (278, "THEN", 2573853, [84, 72, 69, 78]), (290, "TO", 2683, [84, 79]), (297, "STEP", 2555596, [83, 84, 69, 80]), (317, "ZER", 88711, [90, 69, 82]), (319, "CON", 66914, [67, 79, 78]), (321, "IDN", 72339, [73, 68, 78]), (328, "TRN(", 2583704, [84, 82, 78, 40])]
def aSx (i : Nat) : Nat := (aStr.getD i (0, "", 0, [])).1
def aSt (i : Nat) : String := (aStr.getD i (0, "", 0, [])).2.1
def aSh (i : Nat) : Int32 := (aStr.getD i (0, "", 0, [])).2.2.1
def aSb (i : Nat) : List Int32 := (aStr.getD i (0, "", 0, [])).2.2.2
theorem aStr_in : ∀ i, i < 28 → Cond.stringRef "BasicMachine$Parser" (aSx i) (aSt i) ∈ lw_tbl := by
  intro i hi
  match i, hi with
  | 0, _ => exact q423
  | 1, _ => exact q424
  | 2, _ => exact q425
  | 3, _ => exact q426
  | 4, _ => exact q427
  | 5, _ => exact q428
  | 6, _ => exact q429
  | 7, _ => exact q430
  | 8, _ => exact q431
  | 9, _ => exact q432
  | 10, _ => exact q433
  | 11, _ => exact q434
  | 12, _ => exact q435
  | 13, _ => exact q436
  | 14, _ => exact q437
  | 15, _ => exact q438
  | 16, _ => exact q439
  | 17, _ => exact q935
  | 18, _ => exact q940
  | 19, _ => exact q941
  | 20, _ => exact q955
  | 21, _ => exact q1060
  | 22, _ => exact q1128
  | 23, _ => exact q1148
  | 24, _ => exact q1238
  | 25, _ => exact q1239
  | 26, _ => exact q1240
  | 27, _ => exact q1263
  | n + 28, h => exact absurd h (by omega)
