theorem q1409 : (Jvm.Cond.interfaceMethod "BasicMachine$Expression" "BasicMachine$Expression" "value" "(LBasicMachine;)D") ∈ lw_tbl := lw_at lw_m6 88 rfl
set_option maxRecDepth 100000
theorem q1410 : (Jvm.Cond.declares ({ cls := "BasicMachine$Expression", name := "value", desc := "(LBasicMachine;)D" } : Jvm.MethodName)) ∈ lw_tbl := lw_at lw_m6 89 rfl
theorem q1355 : (Jvm.Cond.interfaceMethod "BasicMachine$Statement" "BasicMachine$Statement" "run" "(LBasicMachine;LBasicMachine$Line;)LBasicMachine$Line;") ∈ lw_tbl := lw_at lw_m6 34 rfl
set_option maxRecDepth 100000
theorem q1356 : (Jvm.Cond.declares ({ cls := "BasicMachine$Statement", name := "run", desc := "(LBasicMachine;LBasicMachine$Line;)LBasicMachine$Line;" } : Jvm.MethodName)) ∈ lw_tbl := lw_at lw_m6 35 rfl
theorem q671 : (Jvm.Cond.sameMethod "[B" "java/lang/Object" "clone" "()Ljava/lang/Object;") ∈ lw_all := lw_g (lw_at lw_m3 70 rfl) rfl
set_option maxRecDepth 100000
theorem q674 : (Jvm.Cond.selects "[B" ({ cls := "[B", name := "clone", desc := "()Ljava/lang/Object;" } : Jvm.MethodName) ({ cls := "java/lang/Object", name := "clone", desc := "()Ljava/lang/Object;" } : Jvm.MethodName)) ∈ lw_all := lw_g (lw_at lw_m3 73 rfl) rfl
theorem q675 : (Jvm.Cond.castable "[B" "java/lang/Cloneable") ∈ lw_tbl := lw_at lw_m3 74 rfl
theorem q141 : (Jvm.Cond.initialized "java/lang/Number") ∈ lw_all := lw_g (lw_at lw_m1 20 rfl) rfl
set_option maxRecDepth 100000
theorem q140 : (Jvm.Cond.initialized "java/lang/System") ∈ lw_all := lw_g (lw_at lw_m1 19 rfl) rfl
set_option maxRecDepth 100000
theorem q681 : (Jvm.Cond.static ({ cls := "java/lang/System", name := "arraycopy", desc := "(Ljava/lang/Object;ILjava/lang/Object;II)V" } : Jvm.MethodName)) ∈ lw_all := lw_g (lw_at lw_m3 80 rfl) rfl
theorem q682 : (Jvm.Cond.native ({ cls := "java/lang/System", name := "arraycopy", desc := "(Ljava/lang/Object;ILjava/lang/Object;II)V" } : Jvm.MethodName)) ∈ lw_all := lw_g (lw_at lw_m3 81 rfl) rfl
theorem q581 : (Jvm.Cond.interfaceMethod "jdk/internal/access/JavaLangAccess" "jdk/internal/access/JavaLangAccess" "getUTF16Char" "([BI)C") ∈ lw_tbl := lw_at lw_m2 220 rfl
set_option maxRecDepth 100000
theorem q582 : (Jvm.Cond.declares ({ cls := "jdk/internal/access/JavaLangAccess", name := "getUTF16Char", desc := "([BI)C" } : Jvm.MethodName)) ∈ lw_tbl := lw_at lw_m2 221 rfl
theorem q183 : (Jvm.Cond.arrayOver (Jvm.ClassFile.FieldType.object "BasicMachine$Matrix")) ∈ lw_tbl := lw_at lw_m1 62 rfl
set_option maxRecDepth 100000
theorem q185 : (Jvm.Cond.arrayOver (Jvm.ClassFile.FieldType.object "BasicMachine$Define")) ∈ lw_tbl := lw_at lw_m1 64 rfl
theorem q187 : (Jvm.Cond.arrayOver (Jvm.ClassFile.FieldType.object "BasicMachine$Line")) ∈ lw_tbl := lw_at lw_m1 66 rfl
theorem q189 : (Jvm.Cond.arrayOver (Jvm.ClassFile.FieldType.object "BasicMachine$Loop")) ∈ lw_tbl := lw_at lw_m1 68 rfl
theorem q288 : (Jvm.Cond.arrayClass Jvm.ClassFile.FieldType.char) ∈ lw_all := lw_g (lw_at lw_m1 167 rfl) rfl
theorem q289 : (Jvm.Cond.arrayClass Jvm.ClassFile.FieldType.double) ∈ lw_all := lw_g (lw_at lw_m1 168 rfl) rfl
theorem q290 : (Jvm.Cond.arrayClass Jvm.ClassFile.FieldType.int) ∈ lw_all := lw_g (lw_at lw_m1 169 rfl) rfl
theorem q422 : (Jvm.Cond.arrayOver (Jvm.ClassFile.FieldType.object "java/lang/String")) ∈ lw_tbl := lw_at lw_m2 61 rfl
theorem q460 : (Jvm.Cond.arrayClass Jvm.ClassFile.FieldType.byte) ∈ lw_all := lw_g (lw_at lw_m2 99 rfl) rfl
theorem q1382 : (Jvm.Cond.arrayOver (Jvm.ClassFile.FieldType.array Jvm.ClassFile.FieldType.double)) ∈ lw_tbl := lw_at lw_m6 61 rfl
theorem q2294 : (Jvm.Cond.arrayClass Jvm.ClassFile.FieldType.long) ∈ lw_all := lw_g (lw_at lw_m10 13 rfl) rfl
theorem q2345 : (Jvm.Cond.arrayClass Jvm.ClassFile.FieldType.short) ∈ lw_all := lw_g (lw_at lw_m10 64 rfl) rfl
/-! BasicMachineLaw -/
set_option maxRecDepth 100000
def RX0 : String := "BasicMachineLaw"
abbrev cX0_type : ByteArray := method_3_code
def yX0_type : MethodName := ⟨RX0, "type", "(LBasicMachine;I[J)I"⟩
def dkwX0_type_0 : List UInt8 := [44, 3, 42, 27, 182, 0, 7, 133, 80, 167, 0, 9, 78, 4, 172, 78, 5, 172, 3, 172]
abbrev dktX0_type_0 : List UInt8 := dkwX0_type_0 ++ []
theorem dksX0_type_0 : cX0_type.data.toList.drop 0 = dktX0_type_0 := by decide +kernel
theorem dX0_type_0 : decode cX0_type 0 = .ok (.aload_n 2, 1) := dk_44 (dk_at dksX0_type_0 0 rfl rfl)
theorem dX0_type_1 : decode cX0_type 1 = .ok (.iconst 0, 1) := dk_3 (dk_at dksX0_type_0 1 rfl rfl)
theorem dX0_type_2 : decode cX0_type 2 = .ok (.aload_n 0, 1) := dk_42 (dk_at dksX0_type_0 2 rfl rfl)
theorem dX0_type_3 : decode cX0_type 3 = .ok (.iload_n 1, 1) := dk_27 (dk_at dksX0_type_0 3 rfl rfl)
theorem dX0_type_4 : decode cX0_type 4 = .ok (.invokevirtual 7, 3) := dk_182 0 7 (dk_at dksX0_type_0 4 rfl rfl)
theorem dX0_type_7 : decode cX0_type 7 = .ok (.i2l, 1) := dk_133 (dk_at dksX0_type_0 7 rfl rfl)
theorem dX0_type_8 : decode cX0_type 8 = .ok (.lastore, 1) := dk_80 (dk_at dksX0_type_0 8 rfl rfl)
theorem dX0_type_9 : decode cX0_type 9 = .ok (.goto 9, 3) := dk_167 0 9 (dk_at dksX0_type_0 9 rfl rfl)
theorem dX0_type_12 : decode cX0_type 12 = .ok (.astore_n 3, 1) := dk_78 (dk_at dksX0_type_0 12 rfl rfl)
theorem dX0_type_13 : decode cX0_type 13 = .ok (.iconst 1, 1) := dk_4 (dk_at dksX0_type_0 13 rfl rfl)
theorem dX0_type_14 : decode cX0_type 14 = .ok (.ireturn, 1) := dk_172 (dk_at dksX0_type_0 14 rfl rfl)
theorem dX0_type_15 : decode cX0_type 15 = .ok (.astore_n 3, 1) := dk_78 (dk_at dksX0_type_0 15 rfl rfl)
theorem dX0_type_16 : decode cX0_type 16 = .ok (.iconst 2, 1) := dk_5 (dk_at dksX0_type_0 16 rfl rfl)
theorem dX0_type_17 : decode cX0_type 17 = .ok (.ireturn, 1) := dk_172 (dk_at dksX0_type_0 17 rfl rfl)
theorem dX0_type_18 : decode cX0_type 18 = .ok (.iconst 0, 1) := dk_3 (dk_at dksX0_type_0 18 rfl rfl)
theorem dX0_type_19 : decode cX0_type 19 = .ok (.ireturn, 1) := dk_172 (dk_at dksX0_type_0 19 rfl rfl)
abbrev cX0_enter : ByteArray := method_4_code
def yX0_enter : MethodName := ⟨RX0, "enter", "(LBasicMachine;[J)I"⟩
def dkwX0_enter_0 : List UInt8 := [43, 3, 42, 182, 0, 17, 133, 80, 167, 0, 12, 77, 4, 172, 77, 5, 172, 77, 6, 172, 3, 172]
abbrev dktX0_enter_0 : List UInt8 := dkwX0_enter_0 ++ []
theorem dksX0_enter_0 : cX0_enter.data.toList.drop 0 = dktX0_enter_0 := by decide +kernel
theorem dX0_enter_0 : decode cX0_enter 0 = .ok (.aload_n 1, 1) := dk_43 (dk_at dksX0_enter_0 0 rfl rfl)
theorem dX0_enter_1 : decode cX0_enter 1 = .ok (.iconst 0, 1) := dk_3 (dk_at dksX0_enter_0 1 rfl rfl)
theorem dX0_enter_2 : decode cX0_enter 2 = .ok (.aload_n 0, 1) := dk_42 (dk_at dksX0_enter_0 2 rfl rfl)
theorem dX0_enter_3 : decode cX0_enter 3 = .ok (.invokevirtual 17, 3) := dk_182 0 17 (dk_at dksX0_enter_0 3 rfl rfl)
theorem dX0_enter_6 : decode cX0_enter 6 = .ok (.i2l, 1) := dk_133 (dk_at dksX0_enter_0 6 rfl rfl)
theorem dX0_enter_7 : decode cX0_enter 7 = .ok (.lastore, 1) := dk_80 (dk_at dksX0_enter_0 7 rfl rfl)
theorem dX0_enter_8 : decode cX0_enter 8 = .ok (.goto 12, 3) := dk_167 0 12 (dk_at dksX0_enter_0 8 rfl rfl)
theorem dX0_enter_11 : decode cX0_enter 11 = .ok (.astore_n 2, 1) := dk_77 (dk_at dksX0_enter_0 11 rfl rfl)
theorem dX0_enter_12 : decode cX0_enter 12 = .ok (.iconst 1, 1) := dk_4 (dk_at dksX0_enter_0 12 rfl rfl)
theorem dX0_enter_13 : decode cX0_enter 13 = .ok (.ireturn, 1) := dk_172 (dk_at dksX0_enter_0 13 rfl rfl)
theorem dX0_enter_14 : decode cX0_enter 14 = .ok (.astore_n 2, 1) := dk_77 (dk_at dksX0_enter_0 14 rfl rfl)
theorem dX0_enter_15 : decode cX0_enter 15 = .ok (.iconst 2, 1) := dk_5 (dk_at dksX0_enter_0 15 rfl rfl)
theorem dX0_enter_16 : decode cX0_enter 16 = .ok (.ireturn, 1) := dk_172 (dk_at dksX0_enter_0 16 rfl rfl)
theorem dX0_enter_17 : decode cX0_enter 17 = .ok (.astore_n 2, 1) := dk_77 (dk_at dksX0_enter_0 17 rfl rfl)
theorem dX0_enter_18 : decode cX0_enter 18 = .ok (.iconst 3, 1) := dk_6 (dk_at dksX0_enter_0 18 rfl rfl)
theorem dX0_enter_19 : decode cX0_enter 19 = .ok (.ireturn, 1) := dk_172 (dk_at dksX0_enter_0 19 rfl rfl)
theorem dX0_enter_20 : decode cX0_enter 20 = .ok (.iconst 0, 1) := dk_3 (dk_at dksX0_enter_0 20 rfl rfl)
theorem dX0_enter_21 : decode cX0_enter 21 = .ok (.ireturn, 1) := dk_172 (dk_at dksX0_enter_0 21 rfl rfl)
abbrev cX0_run : ByteArray := method_5_code
def yX0_run : MethodName := ⟨RX0, "run", "(LBasicMachine;[J)I"⟩
def dkwX0_run_1 : List UInt8 := [8, 172, 77, 16, 6, 172, 3, 172]
abbrev dktX0_run_1 : List UInt8 := dkwX0_run_1 ++ []
def dkwX0_run_0 : List UInt8 := [43, 3, 42, 182, 0, 23, 133, 80, 167, 0, 22, 77, 4, 172, 77, 5, 172, 77, 6, 172, 77, 7, 172, 77]
abbrev dktX0_run_0 : List UInt8 := dkwX0_run_0 ++ dktX0_run_1
theorem dksX0_run_0 : cX0_run.data.toList.drop 0 = dktX0_run_0 := by decide +kernel
theorem dksX0_run_1 : cX0_run.data.toList.drop 24 = dktX0_run_1 := dk_seg dksX0_run_0 24 rfl rfl
theorem dX0_run_0 : decode cX0_run 0 = .ok (.aload_n 1, 1) := dk_43 (dk_at dksX0_run_0 0 rfl rfl)
theorem dX0_run_1 : decode cX0_run 1 = .ok (.iconst 0, 1) := dk_3 (dk_at dksX0_run_0 1 rfl rfl)
theorem dX0_run_2 : decode cX0_run 2 = .ok (.aload_n 0, 1) := dk_42 (dk_at dksX0_run_0 2 rfl rfl)
theorem dX0_run_3 : decode cX0_run 3 = .ok (.invokevirtual 23, 3) := dk_182 0 23 (dk_at dksX0_run_0 3 rfl rfl)
theorem dX0_run_6 : decode cX0_run 6 = .ok (.i2l, 1) := dk_133 (dk_at dksX0_run_0 6 rfl rfl)
theorem dX0_run_7 : decode cX0_run 7 = .ok (.lastore, 1) := dk_80 (dk_at dksX0_run_0 7 rfl rfl)
theorem dX0_run_8 : decode cX0_run 8 = .ok (.goto 22, 3) := dk_167 0 22 (dk_at dksX0_run_0 8 rfl rfl)
theorem dX0_run_11 : decode cX0_run 11 = .ok (.astore_n 2, 1) := dk_77 (dk_at dksX0_run_0 11 rfl rfl)
theorem dX0_run_12 : decode cX0_run 12 = .ok (.iconst 1, 1) := dk_4 (dk_at dksX0_run_0 12 rfl rfl)
theorem dX0_run_13 : decode cX0_run 13 = .ok (.ireturn, 1) := dk_172 (dk_at dksX0_run_0 13 rfl rfl)
theorem dX0_run_14 : decode cX0_run 14 = .ok (.astore_n 2, 1) := dk_77 (dk_at dksX0_run_0 14 rfl rfl)
theorem dX0_run_15 : decode cX0_run 15 = .ok (.iconst 2, 1) := dk_5 (dk_at dksX0_run_0 15 rfl rfl)
theorem dX0_run_16 : decode cX0_run 16 = .ok (.ireturn, 1) := dk_172 (dk_at dksX0_run_0 16 rfl rfl)
theorem dX0_run_17 : decode cX0_run 17 = .ok (.astore_n 2, 1) := dk_77 (dk_at dksX0_run_0 17 rfl rfl)
theorem dX0_run_18 : decode cX0_run 18 = .ok (.iconst 3, 1) := dk_6 (dk_at dksX0_run_0 18 rfl rfl)
theorem dX0_run_19 : decode cX0_run 19 = .ok (.ireturn, 1) := dk_172 (dk_at dksX0_run_0 19 rfl rfl)
theorem dX0_run_20 : decode cX0_run 20 = .ok (.astore_n 2, 1) := dk_77 (dk_at dksX0_run_0 20 rfl rfl)
theorem dX0_run_21 : decode cX0_run 21 = .ok (.iconst 4, 1) := dk_7 (dk_at dksX0_run_0 21 rfl rfl)
theorem dX0_run_22 : decode cX0_run 22 = .ok (.ireturn, 1) := dk_172 (dk_at dksX0_run_0 22 rfl rfl)
theorem dX0_run_23 : decode cX0_run 23 = .ok (.astore_n 2, 1) := dk_77 (dk_at dksX0_run_0 23 rfl rfl)
theorem dX0_run_24 : decode cX0_run 24 = .ok (.iconst 5, 1) := dk_8 (dk_at dksX0_run_1 0 rfl rfl)
theorem dX0_run_25 : decode cX0_run 25 = .ok (.ireturn, 1) := dk_172 (dk_at dksX0_run_1 1 rfl rfl)
theorem dX0_run_26 : decode cX0_run 26 = .ok (.astore_n 2, 1) := dk_77 (dk_at dksX0_run_1 2 rfl rfl)
theorem dX0_run_27 : decode cX0_run 27 = .ok (.bipush 6, 2) := dk_16 6 (dk_at dksX0_run_1 3 rfl rfl)
theorem dX0_run_29 : decode cX0_run 29 = .ok (.ireturn, 1) := dk_172 (dk_at dksX0_run_1 5 rfl rfl)
theorem dX0_run_30 : decode cX0_run 30 = .ok (.iconst 0, 1) := dk_3 (dk_at dksX0_run_1 6 rfl rfl)
theorem dX0_run_31 : decode cX0_run 31 = .ok (.ireturn, 1) := dk_172 (dk_at dksX0_run_1 7 rfl rfl)
abbrev cX0_printed : ByteArray := method_6_code
def yX0_printed : MethodName := ⟨RX0, "printed", "(LBasicMachine;I[D)I"⟩
def dkwX0_printed_0 : List UInt8 := [44, 3, 42, 27, 182, 0, 32, 82, 167, 0, 6, 78, 4, 172, 3, 172]
abbrev dktX0_printed_0 : List UInt8 := dkwX0_printed_0 ++ []
theorem dksX0_printed_0 : cX0_printed.data.toList.drop 0 = dktX0_printed_0 := by decide +kernel
theorem dX0_printed_0 : decode cX0_printed 0 = .ok (.aload_n 2, 1) := dk_44 (dk_at dksX0_printed_0 0 rfl rfl)
theorem dX0_printed_1 : decode cX0_printed 1 = .ok (.iconst 0, 1) := dk_3 (dk_at dksX0_printed_0 1 rfl rfl)
theorem dX0_printed_2 : decode cX0_printed 2 = .ok (.aload_n 0, 1) := dk_42 (dk_at dksX0_printed_0 2 rfl rfl)
theorem dX0_printed_3 : decode cX0_printed 3 = .ok (.iload_n 1, 1) := dk_27 (dk_at dksX0_printed_0 3 rfl rfl)
theorem dX0_printed_4 : decode cX0_printed 4 = .ok (.invokevirtual 32, 3) := dk_182 0 32 (dk_at dksX0_printed_0 4 rfl rfl)
theorem dX0_printed_7 : decode cX0_printed 7 = .ok (.dastore, 1) := dk_82 (dk_at dksX0_printed_0 7 rfl rfl)
theorem dX0_printed_8 : decode cX0_printed 8 = .ok (.goto 6, 3) := dk_167 0 6 (dk_at dksX0_printed_0 8 rfl rfl)
theorem dX0_printed_11 : decode cX0_printed 11 = .ok (.astore_n 3, 1) := dk_78 (dk_at dksX0_printed_0 11 rfl rfl)
theorem dX0_printed_12 : decode cX0_printed 12 = .ok (.iconst 1, 1) := dk_4 (dk_at dksX0_printed_0 12 rfl rfl)
theorem dX0_printed_13 : decode cX0_printed 13 = .ok (.ireturn, 1) := dk_172 (dk_at dksX0_printed_0 13 rfl rfl)
theorem dX0_printed_14 : decode cX0_printed 14 = .ok (.iconst 0, 1) := dk_3 (dk_at dksX0_printed_0 14 rfl rfl)
theorem dX0_printed_15 : decode cX0_printed 15 = .ok (.ireturn, 1) := dk_172 (dk_at dksX0_printed_0 15 rfl rfl)
abbrev cX0_variable : ByteArray := method_7_code
def yX0_variable : MethodName := ⟨RX0, "variable", "(LBasicMachine;I[D)I"⟩
def dkwX0_variable_0 : List UInt8 := [44, 3, 42, 27, 182, 0, 36, 82, 167, 0, 6, 78, 4, 172, 3, 172]
abbrev dktX0_variable_0 : List UInt8 := dkwX0_variable_0 ++ []
theorem dksX0_variable_0 : cX0_variable.data.toList.drop 0 = dktX0_variable_0 := by decide +kernel
theorem dX0_variable_0 : decode cX0_variable 0 = .ok (.aload_n 2, 1) := dk_44 (dk_at dksX0_variable_0 0 rfl rfl)
theorem dX0_variable_1 : decode cX0_variable 1 = .ok (.iconst 0, 1) := dk_3 (dk_at dksX0_variable_0 1 rfl rfl)
theorem dX0_variable_2 : decode cX0_variable 2 = .ok (.aload_n 0, 1) := dk_42 (dk_at dksX0_variable_0 2 rfl rfl)
theorem dX0_variable_3 : decode cX0_variable 3 = .ok (.iload_n 1, 1) := dk_27 (dk_at dksX0_variable_0 3 rfl rfl)
theorem dX0_variable_4 : decode cX0_variable 4 = .ok (.invokevirtual 36, 3) := dk_182 0 36 (dk_at dksX0_variable_0 4 rfl rfl)
theorem dX0_variable_7 : decode cX0_variable 7 = .ok (.dastore, 1) := dk_82 (dk_at dksX0_variable_0 7 rfl rfl)
theorem dX0_variable_8 : decode cX0_variable 8 = .ok (.goto 6, 3) := dk_167 0 6 (dk_at dksX0_variable_0 8 rfl rfl)
theorem dX0_variable_11 : decode cX0_variable 11 = .ok (.astore_n 3, 1) := dk_78 (dk_at dksX0_variable_0 11 rfl rfl)
theorem dX0_variable_12 : decode cX0_variable 12 = .ok (.iconst 1, 1) := dk_4 (dk_at dksX0_variable_0 12 rfl rfl)
theorem dX0_variable_13 : decode cX0_variable 13 = .ok (.ireturn, 1) := dk_172 (dk_at dksX0_variable_0 13 rfl rfl)
theorem dX0_variable_14 : decode cX0_variable 14 = .ok (.iconst 0, 1) := dk_3 (dk_at dksX0_variable_0 14 rfl rfl)
theorem dX0_variable_15 : decode cX0_variable 15 = .ok (.ireturn, 1) := dk_172 (dk_at dksX0_variable_0 15 rfl rfl)
abbrev cX0_element : ByteArray := method_8_code
def yX0_element : MethodName := ⟨RX0, "element", "(LBasicMachine;III[D)I"⟩
def dkwX0_element_0 : List UInt8 := [25, 4, 3, 42, 27, 28, 29, 182, 0, 39, 82, 167, 0, 11, 58, 5, 4, 172, 58, 5, 5, 172, 3, 172]
abbrev dktX0_element_0 : List UInt8 := dkwX0_element_0 ++ []
theorem dksX0_element_0 : cX0_element.data.toList.drop 0 = dktX0_element_0 := by decide +kernel
theorem dX0_element_0 : decode cX0_element 0 = .ok (.aload 4, 2) := dk_25 4 (dk_at dksX0_element_0 0 rfl rfl)
theorem dX0_element_2 : decode cX0_element 2 = .ok (.iconst 0, 1) := dk_3 (dk_at dksX0_element_0 2 rfl rfl)
theorem dX0_element_3 : decode cX0_element 3 = .ok (.aload_n 0, 1) := dk_42 (dk_at dksX0_element_0 3 rfl rfl)
theorem dX0_element_4 : decode cX0_element 4 = .ok (.iload_n 1, 1) := dk_27 (dk_at dksX0_element_0 4 rfl rfl)
theorem dX0_element_5 : decode cX0_element 5 = .ok (.iload_n 2, 1) := dk_28 (dk_at dksX0_element_0 5 rfl rfl)
theorem dX0_element_6 : decode cX0_element 6 = .ok (.iload_n 3, 1) := dk_29 (dk_at dksX0_element_0 6 rfl rfl)
theorem dX0_element_7 : decode cX0_element 7 = .ok (.invokevirtual 39, 3) := dk_182 0 39 (dk_at dksX0_element_0 7 rfl rfl)
theorem dX0_element_10 : decode cX0_element 10 = .ok (.dastore, 1) := dk_82 (dk_at dksX0_element_0 10 rfl rfl)
theorem dX0_element_11 : decode cX0_element 11 = .ok (.goto 11, 3) := dk_167 0 11 (dk_at dksX0_element_0 11 rfl rfl)
theorem dX0_element_14 : decode cX0_element 14 = .ok (.astore 5, 2) := dk_58 5 (dk_at dksX0_element_0 14 rfl rfl)
theorem dX0_element_16 : decode cX0_element 16 = .ok (.iconst 1, 1) := dk_4 (dk_at dksX0_element_0 16 rfl rfl)
theorem dX0_element_17 : decode cX0_element 17 = .ok (.ireturn, 1) := dk_172 (dk_at dksX0_element_0 17 rfl rfl)
theorem dX0_element_18 : decode cX0_element 18 = .ok (.astore 5, 2) := dk_58 5 (dk_at dksX0_element_0 18 rfl rfl)
theorem dX0_element_20 : decode cX0_element 20 = .ok (.iconst 2, 1) := dk_5 (dk_at dksX0_element_0 20 rfl rfl)
theorem dX0_element_21 : decode cX0_element 21 = .ok (.ireturn, 1) := dk_172 (dk_at dksX0_element_0 21 rfl rfl)
theorem dX0_element_22 : decode cX0_element 22 = .ok (.iconst 0, 1) := dk_3 (dk_at dksX0_element_0 22 rfl rfl)
theorem dX0_element_23 : decode cX0_element 23 = .ok (.ireturn, 1) := dk_172 (dk_at dksX0_element_0 23 rfl rfl)
theorem q121 : (Jvm.Cond.initialized "BasicMachineLaw") ∈ lw_all := lw_g (lw_at lw_m1 0 rfl) rfl
theorem q174 : (Jvm.Cond.classLink "BasicMachineLaw" (8 : Nat) "BasicMachine") ∈ lw_all := lw_g (lw_at lw_m1 53 rfl) rfl
theorem q176 : (Jvm.Cond.methodLink "BasicMachineLaw" (43 : Nat) ({ cls := "BasicMachine", name := "<init>", desc := "()V" } : Jvm.MethodName)) ∈ lw_all := lw_g (lw_at lw_m1 55 rfl) rfl
theorem q291 : (Jvm.Cond.methodLink "BasicMachineLaw" (60 : Nat) ({ cls := "BasicMachine", name := "errorAt", desc := "()I" } : Jvm.MethodName)) ∈ lw_all := lw_g (lw_at lw_m1 170 rfl) rfl
theorem q295 : (Jvm.Cond.methodLink "BasicMachineLaw" (64 : Nat) ({ cls := "BasicMachine", name := "wipe", desc := "()I" } : Jvm.MethodName)) ∈ lw_all := lw_g (lw_at lw_m1 174 rfl) rfl
theorem q299 : (Jvm.Cond.methodLink "BasicMachineLaw" (82 : Nat) ({ cls := "BasicMachine", name := "at", desc := "()I" } : Jvm.MethodName)) ∈ lw_all := lw_g (lw_at lw_m1 178 rfl) rfl
theorem q303 : (Jvm.Cond.methodLink "BasicMachineLaw" (86 : Nat) ({ cls := "BasicMachine", name := "count", desc := "(I)I" } : Jvm.MethodName)) ∈ lw_all := lw_g (lw_at lw_m1 182 rfl) rfl
theorem q311 : (Jvm.Cond.methodLink "BasicMachineLaw" (47 : Nat) ({ cls := "BasicMachineLaw", name := "type", desc := "(LBasicMachine;I[J)I" } : Jvm.MethodName)) ∈ lw_all := lw_g (lw_at lw_m1 190 rfl) rfl
theorem q312 : (Jvm.Cond.static ({ cls := "BasicMachineLaw", name := "type", desc := "(LBasicMachine;I[J)I" } : Jvm.MethodName)) ∈ lw_all := lw_g (lw_at lw_m1 191 rfl) rfl
theorem q313 : (Jvm.Cond.codeWith ({ cls := "BasicMachineLaw", name := "type", desc := "(LBasicMachine;I[J)I" } : Jvm.MethodName) method_3_code (4 : Nat) (Option.some Jvm.ClassFile.FieldType.int) [((0 : Nat), (9 : Nat), (12 : Nat), (13 : Nat)), ((0 : Nat), (9 : Nat), (15 : Nat), (15 : Nat))]) ∈ lw_all := lw_g (lw_at lw_m1 192 rfl) rfl
theorem q314 : (Jvm.Cond.classLink "BasicMachineLaw" (13 : Nat) "java/lang/IllegalArgumentException") ∈ lw_all := lw_g (lw_at lw_m1 193 rfl) rfl
theorem q315 : (Jvm.Cond.classLink "BasicMachineLaw" (15 : Nat) "java/lang/IllegalStateException") ∈ lw_all := lw_g (lw_at lw_m1 194 rfl) rfl
theorem q316 : (Jvm.Cond.methodLink "BasicMachineLaw" (7 : Nat) ({ cls := "BasicMachine", name := "type", desc := "(I)I" } : Jvm.MethodName)) ∈ lw_all := lw_g (lw_at lw_m1 195 rfl) rfl
theorem q403 : (Jvm.Cond.methodLink "BasicMachineLaw" (56 : Nat) ({ cls := "BasicMachineLaw", name := "enter", desc := "(LBasicMachine;[J)I" } : Jvm.MethodName)) ∈ lw_all := lw_g (lw_at lw_m2 42 rfl) rfl
theorem q404 : (Jvm.Cond.static ({ cls := "BasicMachineLaw", name := "enter", desc := "(LBasicMachine;[J)I" } : Jvm.MethodName)) ∈ lw_all := lw_g (lw_at lw_m2 43 rfl) rfl
theorem q405 : (Jvm.Cond.codeWith ({ cls := "BasicMachineLaw", name := "enter", desc := "(LBasicMachine;[J)I" } : Jvm.MethodName) method_4_code (3 : Nat) (Option.some Jvm.ClassFile.FieldType.int) [((0 : Nat), (8 : Nat), (11 : Nat), (13 : Nat)), ((0 : Nat), (8 : Nat), (14 : Nat), (21 : Nat)), ((0 : Nat), (8 : Nat), (17 : Nat), (15 : Nat))]) ∈ lw_all := lw_g (lw_at lw_m2 44 rfl) rfl
theorem q406 : (Jvm.Cond.classLink "BasicMachineLaw" (21 : Nat) "java/util/NoSuchElementException") ∈ lw_all := lw_g (lw_at lw_m2 45 rfl) rfl
theorem q407 : (Jvm.Cond.methodLink "BasicMachineLaw" (17 : Nat) ({ cls := "BasicMachine", name := "enter", desc := "()I" } : Jvm.MethodName)) ∈ lw_all := lw_g (lw_at lw_m2 46 rfl) rfl
theorem q1301 : (Jvm.Cond.methodLink "BasicMachineLaw" (68 : Nat) ({ cls := "BasicMachineLaw", name := "run", desc := "(LBasicMachine;[J)I" } : Jvm.MethodName)) ∈ lw_all := lw_g (lw_at lw_m5 220 rfl) rfl
theorem q1302 : (Jvm.Cond.static ({ cls := "BasicMachineLaw", name := "run", desc := "(LBasicMachine;[J)I" } : Jvm.MethodName)) ∈ lw_all := lw_g (lw_at lw_m5 221 rfl) rfl
theorem q1303 : (Jvm.Cond.codeWith ({ cls := "BasicMachineLaw", name := "run", desc := "(LBasicMachine;[J)I" } : Jvm.MethodName) method_5_code (3 : Nat) (Option.some Jvm.ClassFile.FieldType.int) [((0 : Nat), (8 : Nat), (11 : Nat), (13 : Nat)), ((0 : Nat), (8 : Nat), (14 : Nat), (15 : Nat)), ((0 : Nat), (8 : Nat), (17 : Nat), (21 : Nat)), ((0 : Nat), (8 : Nat), (20 : Nat), (26 : Nat)), ((0 : Nat), (8 : Nat), (23 : Nat), (28 : Nat)), ((0 : Nat), (8 : Nat), (26 : Nat), (30 : Nat))]) ∈ lw_all := lw_g (lw_at lw_m5 222 rfl) rfl
theorem q1304 : (Jvm.Cond.classLink "BasicMachineLaw" (26 : Nat) "java/lang/ArithmeticException") ∈ lw_all := lw_g (lw_at lw_m5 223 rfl) rfl
theorem q1318 : (Jvm.Cond.classLink "BasicMachineLaw" (28 : Nat) "java/lang/IndexOutOfBoundsException") ∈ lw_all := lw_g (lw_at lw_m5 237 rfl) rfl
theorem q1337 : (Jvm.Cond.classLink "BasicMachineLaw" (30 : Nat) "java/lang/UnsupportedOperationException") ∈ lw_all := lw_g (lw_at lw_m6 16 rfl) rfl
theorem q1338 : (Jvm.Cond.methodLink "BasicMachineLaw" (23 : Nat) ({ cls := "BasicMachine", name := "run", desc := "()I" } : Jvm.MethodName)) ∈ lw_all := lw_g (lw_at lw_m6 17 rfl) rfl
theorem q1774 : (Jvm.Cond.methodLink "BasicMachineLaw" (71 : Nat) ({ cls := "BasicMachineLaw", name := "printed", desc := "(LBasicMachine;I[D)I" } : Jvm.MethodName)) ∈ lw_all := lw_g (lw_at lw_m7 213 rfl) rfl
theorem q1775 : (Jvm.Cond.static ({ cls := "BasicMachineLaw", name := "printed", desc := "(LBasicMachine;I[D)I" } : Jvm.MethodName)) ∈ lw_all := lw_g (lw_at lw_m7 214 rfl) rfl
theorem q1776 : (Jvm.Cond.codeWith ({ cls := "BasicMachineLaw", name := "printed", desc := "(LBasicMachine;I[D)I" } : Jvm.MethodName) method_6_code (4 : Nat) (Option.some Jvm.ClassFile.FieldType.int) [((0 : Nat), (8 : Nat), (11 : Nat), (21 : Nat))]) ∈ lw_all := lw_g (lw_at lw_m7 215 rfl) rfl
theorem q1777 : (Jvm.Cond.methodLink "BasicMachineLaw" (32 : Nat) ({ cls := "BasicMachine", name := "printed", desc := "(I)D" } : Jvm.MethodName)) ∈ lw_all := lw_g (lw_at lw_m7 216 rfl) rfl
theorem q1781 : (Jvm.Cond.methodLink "BasicMachineLaw" (75 : Nat) ({ cls := "BasicMachineLaw", name := "variable", desc := "(LBasicMachine;I[D)I" } : Jvm.MethodName)) ∈ lw_all := lw_g (lw_at lw_m7 220 rfl) rfl
theorem q1782 : (Jvm.Cond.static ({ cls := "BasicMachineLaw", name := "variable", desc := "(LBasicMachine;I[D)I" } : Jvm.MethodName)) ∈ lw_all := lw_g (lw_at lw_m7 221 rfl) rfl
theorem q1783 : (Jvm.Cond.codeWith ({ cls := "BasicMachineLaw", name := "variable", desc := "(LBasicMachine;I[D)I" } : Jvm.MethodName) method_7_code (4 : Nat) (Option.some Jvm.ClassFile.FieldType.int) [((0 : Nat), (8 : Nat), (11 : Nat), (13 : Nat))]) ∈ lw_all := lw_g (lw_at lw_m7 222 rfl) rfl
theorem q1784 : (Jvm.Cond.methodLink "BasicMachineLaw" (36 : Nat) ({ cls := "BasicMachine", name := "variable", desc := "(I)D" } : Jvm.MethodName)) ∈ lw_all := lw_g (lw_at lw_m7 223 rfl) rfl
theorem q1788 : (Jvm.Cond.methodLink "BasicMachineLaw" (78 : Nat) ({ cls := "BasicMachineLaw", name := "element", desc := "(LBasicMachine;III[D)I" } : Jvm.MethodName)) ∈ lw_all := lw_g (lw_at lw_m7 227 rfl) rfl
theorem q1789 : (Jvm.Cond.static ({ cls := "BasicMachineLaw", name := "element", desc := "(LBasicMachine;III[D)I" } : Jvm.MethodName)) ∈ lw_all := lw_g (lw_at lw_m7 228 rfl) rfl
theorem q1790 : (Jvm.Cond.codeWith ({ cls := "BasicMachineLaw", name := "element", desc := "(LBasicMachine;III[D)I" } : Jvm.MethodName) method_8_code (6 : Nat) (Option.some Jvm.ClassFile.FieldType.int) [((0 : Nat), (11 : Nat), (14 : Nat), (13 : Nat)), ((0 : Nat), (11 : Nat), (18 : Nat), (28 : Nat))]) ∈ lw_all := lw_g (lw_at lw_m7 229 rfl) rfl
theorem q1791 : (Jvm.Cond.methodLink "BasicMachineLaw" (39 : Nat) ({ cls := "BasicMachine", name := "element", desc := "(III)D" } : Jvm.MethodName)) ∈ lw_all := lw_g (lw_at lw_m7 230 rfl) rfl
theorem q1797 : (Jvm.Cond.classLink "BasicMachineLaw" (44 : Nat) "BasicMachineModel") ∈ lw_all := lw_g (lw_at lw_m7 236 rfl) rfl
theorem q1799 : (Jvm.Cond.methodLink "BasicMachineLaw" (46 : Nat) ({ cls := "BasicMachineModel", name := "<init>", desc := "()V" } : Jvm.MethodName)) ∈ lw_all := lw_g (lw_at lw_m7 238 rfl) rfl
theorem q1939 : (Jvm.Cond.methodLink "BasicMachineLaw" (53 : Nat) ({ cls := "BasicMachineModel", name := "thrown", desc := "()I" } : Jvm.MethodName)) ∈ lw_all := lw_g (lw_at lw_m8 138 rfl) rfl
theorem q1943 : (Jvm.Cond.methodLink "BasicMachineLaw" (52 : Nat) ({ cls := "BasicMachineModel", name := "type", desc := "(I)I" } : Jvm.MethodName)) ∈ lw_all := lw_g (lw_at lw_m8 142 rfl) rfl
theorem q1955 : (Jvm.Cond.methodLink "BasicMachineLaw" (59 : Nat) ({ cls := "BasicMachineModel", name := "enter", desc := "()I" } : Jvm.MethodName)) ∈ lw_all := lw_g (lw_at lw_m8 154 rfl) rfl
theorem q2140 : (Jvm.Cond.methodLink "BasicMachineLaw" (63 : Nat) ({ cls := "BasicMachineModel", name := "errorAt", desc := "()I" } : Jvm.MethodName)) ∈ lw_all := lw_g (lw_at lw_m9 99 rfl) rfl
theorem q2144 : (Jvm.Cond.methodLink "BasicMachineLaw" (67 : Nat) ({ cls := "BasicMachineModel", name := "wipe", desc := "()I" } : Jvm.MethodName)) ∈ lw_all := lw_g (lw_at lw_m9 103 rfl) rfl
theorem q2148 : (Jvm.Cond.methodLink "BasicMachineLaw" (70 : Nat) ({ cls := "BasicMachineModel", name := "run", desc := "()I" } : Jvm.MethodName)) ∈ lw_all := lw_g (lw_at lw_m9 107 rfl) rfl
theorem q2270 : (Jvm.Cond.methodLink "BasicMachineLaw" (74 : Nat) ({ cls := "BasicMachineModel", name := "printed", desc := "(I)D" } : Jvm.MethodName)) ∈ lw_all := lw_g (lw_at lw_m9 229 rfl) rfl
theorem q2274 : (Jvm.Cond.methodLink "BasicMachineLaw" (77 : Nat) ({ cls := "BasicMachineModel", name := "variable", desc := "(I)D" } : Jvm.MethodName)) ∈ lw_all := lw_g (lw_at lw_m9 233 rfl) rfl
theorem q2278 : (Jvm.Cond.methodLink "BasicMachineLaw" (81 : Nat) ({ cls := "BasicMachineModel", name := "element", desc := "(III)D" } : Jvm.MethodName)) ∈ lw_all := lw_g (lw_at lw_m9 237 rfl) rfl
theorem q2282 : (Jvm.Cond.methodLink "BasicMachineLaw" (85 : Nat) ({ cls := "BasicMachineModel", name := "at", desc := "()I" } : Jvm.MethodName)) ∈ lw_all := lw_g (lw_at lw_m10 1 rfl) rfl
theorem q2286 : (Jvm.Cond.methodLink "BasicMachineLaw" (89 : Nat) ({ cls := "BasicMachineModel", name := "count", desc := "(I)I" } : Jvm.MethodName)) ∈ lw_all := lw_g (lw_at lw_m10 5 rfl) rfl
/-! BasicMachine -/
set_option maxRecDepth 100000
def RX1 : String := "BasicMachine"
def TX1 : u_T := fun k => match k with
  | 0 => ("BasicMachine", "typed", "[C", true)
  | 1 => ("BasicMachine", "length", "I", false)
  | 2 => ("BasicMachine", "errorAt", "I", false)
  | 3 => ("BasicMachine", "first", "LBasicMachine$Line;", false)
  | 4 => ("BasicMachine", "lines", "I", false)
  | 5 => ("BasicMachine", "variables", "[D", true)
  | 6 => ("BasicMachine", "matrices", "[LBasicMachine$Matrix;", true)
  | 7 => ("BasicMachine", "spare", "LBasicMachine$Matrix;", false)
  | 8 => ("BasicMachine", "functions", "[LBasicMachine$Define;", true)
  | 9 => ("BasicMachine", "calls", "I", false)
  | 10 => ("BasicMachine", "callRow", "[I", true)
  | 11 => ("BasicMachine", "callOld", "[D", true)
  | 12 => ("BasicMachine", "back", "[LBasicMachine$Line;", true)
  | 13 => ("BasicMachine", "returns", "I", false)
  | 14 => ("BasicMachine", "loopRow", "[LBasicMachine$Loop;", true)
  | 15 => ("BasicMachine", "loops", "I", false)
  | 16 => ("BasicMachine", "printed", "[D", true)
  | 17 => ("BasicMachine", "prints", "I", false)
  | 18 => ("BasicMachine", "readPlace", "I", false)
  | 19 => ("BasicMachine", "unread", "I", false)
  | 20 => ("BasicMachine", "over", "Z", false)
  | 21 => ("BasicMachine", "steps", "I", false)
  | 22 => ("BasicMachine", "lastNumber", "I", false)
  | _ => ("BasicMachine", "faults", "I", false)
def tyX1 : Nat → FieldType := fun k => match k with
  | 0 => .array .char
  | 1 => .int
  | 2 => .int
  | 3 => .object "BasicMachine$Line"
  | 4 => .int
  | 5 => .array .double
  | 6 => .array (.object "BasicMachine$Matrix")
  | 7 => .object "BasicMachine$Matrix"
  | 8 => .array (.object "BasicMachine$Define")
  | 9 => .int
  | 10 => .array .int
  | 11 => .array .double
  | 12 => .array (.object "BasicMachine$Line")
  | 13 => .int
  | 14 => .array (.object "BasicMachine$Loop")
  | 15 => .int
  | 16 => .array .double
  | 17 => .int
  | 18 => .int
  | 19 => .int
  | 20 => .boolean
  | 21 => .int
  | 22 => .int
  | _ => .int
abbrev wsX10 : List Cond := u_ws RX1 TX1 24
set_option maxRecDepth 100000 in
theorem nmX1 : ∀ a, a < 24 → ∀ b, b < 24 → a ≠ b → (TX1 a).2.1 ≠ (TX1 b).2.1 := by decide +kernel
set_option maxRecDepth 100000 in
theorem tyX1_ok : ∀ k, k < 24 → parseFieldDescriptor (TX1 k).2.2.1 = some (tyX1 k) := by decide +kernel
abbrev cX1_init : ByteArray := prog_1_method_3_code
def yX1_init : MethodName := ⟨RX1, "<init>", "()V"⟩
def dkwX1_init_3 : List UInt8 := [189, 0, 53, 181, 0, 55, 42, 16, 40, 188, 7, 181, 0, 59, 42, 2, 181, 0, 62, 177]
abbrev dktX1_init_3 : List UInt8 := dkwX1_init_3 ++ []
def dkwX1_init_2 : List UInt8 := [181, 0, 40, 42, 6, 188, 7, 181, 0, 44, 42, 16, 8, 189, 0, 47, 181, 0, 49, 42, 16, 6]
abbrev dktX1_init_2 : List UInt8 := dkwX1_init_2 ++ dktX1_init_3
def dkwX1_init_1 : List UInt8 := [181, 0, 24, 42, 6, 189, 0, 28, 181, 0, 30, 42, 6, 189, 0, 34, 181, 0, 36, 42, 6, 188, 10]
abbrev dktX1_init_1 : List UInt8 := dkwX1_init_1 ++ dktX1_init_2
def dkwX1_init_0 : List UInt8 := [42, 183, 0, 13, 42, 16, 60, 188, 5, 181, 0, 16, 42, 2, 181, 0, 20, 42, 16, 26, 188, 7]
abbrev dktX1_init_0 : List UInt8 := dkwX1_init_0 ++ dktX1_init_1
theorem dksX1_init_0 : cX1_init.data.toList.drop 0 = dktX1_init_0 := by decide +kernel
theorem dksX1_init_1 : cX1_init.data.toList.drop 22 = dktX1_init_1 := dk_seg dksX1_init_0 22 rfl rfl
theorem dksX1_init_2 : cX1_init.data.toList.drop 45 = dktX1_init_2 := dk_seg dksX1_init_1 23 rfl rfl
theorem dksX1_init_3 : cX1_init.data.toList.drop 67 = dktX1_init_3 := dk_seg dksX1_init_2 22 rfl rfl
theorem dX1_init_0 : decode cX1_init 0 = .ok (.aload_n 0, 1) := dk_42 (dk_at dksX1_init_0 0 rfl rfl)
theorem dX1_init_1 : decode cX1_init 1 = .ok (.invokespecial 13, 3) := dk_183 0 13 (dk_at dksX1_init_0 1 rfl rfl)
theorem dX1_init_4 : decode cX1_init 4 = .ok (.aload_n 0, 1) := dk_42 (dk_at dksX1_init_0 4 rfl rfl)
theorem dX1_init_5 : decode cX1_init 5 = .ok (.bipush 60, 2) := dk_16 60 (dk_at dksX1_init_0 5 rfl rfl)
theorem dX1_init_7 : decode cX1_init 7 = .ok (.newarray .char, 2) := dk_188_5 (dk_at dksX1_init_0 7 rfl rfl)
theorem dX1_init_9 : decode cX1_init 9 = .ok (.putfield 16, 3) := dk_181 0 16 (dk_at dksX1_init_0 9 rfl rfl)
theorem dX1_init_12 : decode cX1_init 12 = .ok (.aload_n 0, 1) := dk_42 (dk_at dksX1_init_0 12 rfl rfl)
theorem dX1_init_13 : decode cX1_init 13 = .ok (.iconst (-1), 1) := dk_2 (dk_at dksX1_init_0 13 rfl rfl)
theorem dX1_init_14 : decode cX1_init 14 = .ok (.putfield 20, 3) := dk_181 0 20 (dk_at dksX1_init_0 14 rfl rfl)
theorem dX1_init_17 : decode cX1_init 17 = .ok (.aload_n 0, 1) := dk_42 (dk_at dksX1_init_0 17 rfl rfl)
theorem dX1_init_18 : decode cX1_init 18 = .ok (.bipush 26, 2) := dk_16 26 (dk_at dksX1_init_0 18 rfl rfl)
theorem dX1_init_20 : decode cX1_init 20 = .ok (.newarray .double, 2) := dk_188_7 (dk_at dksX1_init_0 20 rfl rfl)
theorem dX1_init_22 : decode cX1_init 22 = .ok (.putfield 24, 3) := dk_181 0 24 (dk_at dksX1_init_1 0 rfl rfl)
theorem dX1_init_25 : decode cX1_init 25 = .ok (.aload_n 0, 1) := dk_42 (dk_at dksX1_init_1 3 rfl rfl)
theorem dX1_init_26 : decode cX1_init 26 = .ok (.iconst 3, 1) := dk_6 (dk_at dksX1_init_1 4 rfl rfl)
theorem dX1_init_27 : decode cX1_init 27 = .ok (.anewarray 28, 3) := dk_189 0 28 (dk_at dksX1_init_1 5 rfl rfl)
theorem dX1_init_30 : decode cX1_init 30 = .ok (.putfield 30, 3) := dk_181 0 30 (dk_at dksX1_init_1 8 rfl rfl)
theorem dX1_init_33 : decode cX1_init 33 = .ok (.aload_n 0, 1) := dk_42 (dk_at dksX1_init_1 11 rfl rfl)
theorem dX1_init_34 : decode cX1_init 34 = .ok (.iconst 3, 1) := dk_6 (dk_at dksX1_init_1 12 rfl rfl)
theorem dX1_init_35 : decode cX1_init 35 = .ok (.anewarray 34, 3) := dk_189 0 34 (dk_at dksX1_init_1 13 rfl rfl)
theorem dX1_init_38 : decode cX1_init 38 = .ok (.putfield 36, 3) := dk_181 0 36 (dk_at dksX1_init_1 16 rfl rfl)
theorem dX1_init_41 : decode cX1_init 41 = .ok (.aload_n 0, 1) := dk_42 (dk_at dksX1_init_1 19 rfl rfl)
theorem dX1_init_42 : decode cX1_init 42 = .ok (.iconst 3, 1) := dk_6 (dk_at dksX1_init_1 20 rfl rfl)
theorem dX1_init_43 : decode cX1_init 43 = .ok (.newarray .int, 2) := dk_188_10 (dk_at dksX1_init_1 21 rfl rfl)
theorem dX1_init_45 : decode cX1_init 45 = .ok (.putfield 40, 3) := dk_181 0 40 (dk_at dksX1_init_2 0 rfl rfl)
theorem dX1_init_48 : decode cX1_init 48 = .ok (.aload_n 0, 1) := dk_42 (dk_at dksX1_init_2 3 rfl rfl)
theorem dX1_init_49 : decode cX1_init 49 = .ok (.iconst 3, 1) := dk_6 (dk_at dksX1_init_2 4 rfl rfl)
theorem dX1_init_50 : decode cX1_init 50 = .ok (.newarray .double, 2) := dk_188_7 (dk_at dksX1_init_2 5 rfl rfl)
theorem dX1_init_52 : decode cX1_init 52 = .ok (.putfield 44, 3) := dk_181 0 44 (dk_at dksX1_init_2 7 rfl rfl)
theorem dX1_init_55 : decode cX1_init 55 = .ok (.aload_n 0, 1) := dk_42 (dk_at dksX1_init_2 10 rfl rfl)
theorem dX1_init_56 : decode cX1_init 56 = .ok (.bipush 8, 2) := dk_16 8 (dk_at dksX1_init_2 11 rfl rfl)
theorem dX1_init_58 : decode cX1_init 58 = .ok (.anewarray 47, 3) := dk_189 0 47 (dk_at dksX1_init_2 13 rfl rfl)
theorem dX1_init_61 : decode cX1_init 61 = .ok (.putfield 49, 3) := dk_181 0 49 (dk_at dksX1_init_2 16 rfl rfl)
theorem dX1_init_64 : decode cX1_init 64 = .ok (.aload_n 0, 1) := dk_42 (dk_at dksX1_init_2 19 rfl rfl)
theorem dX1_init_65 : decode cX1_init 65 = .ok (.bipush 6, 2) := dk_16 6 (dk_at dksX1_init_2 20 rfl rfl)
theorem dX1_init_67 : decode cX1_init 67 = .ok (.anewarray 53, 3) := dk_189 0 53 (dk_at dksX1_init_3 0 rfl rfl)
theorem dX1_init_70 : decode cX1_init 70 = .ok (.putfield 55, 3) := dk_181 0 55 (dk_at dksX1_init_3 3 rfl rfl)
theorem dX1_init_73 : decode cX1_init 73 = .ok (.aload_n 0, 1) := dk_42 (dk_at dksX1_init_3 6 rfl rfl)
theorem dX1_init_74 : decode cX1_init 74 = .ok (.bipush 40, 2) := dk_16 40 (dk_at dksX1_init_3 7 rfl rfl)
theorem dX1_init_76 : decode cX1_init 76 = .ok (.newarray .double, 2) := dk_188_7 (dk_at dksX1_init_3 9 rfl rfl)
theorem dX1_init_78 : decode cX1_init 78 = .ok (.putfield 59, 3) := dk_181 0 59 (dk_at dksX1_init_3 11 rfl rfl)
theorem dX1_init_81 : decode cX1_init 81 = .ok (.aload_n 0, 1) := dk_42 (dk_at dksX1_init_3 14 rfl rfl)
theorem dX1_init_82 : decode cX1_init 82 = .ok (.iconst (-1), 1) := dk_2 (dk_at dksX1_init_3 15 rfl rfl)
theorem dX1_init_83 : decode cX1_init 83 = .ok (.putfield 62, 3) := dk_181 0 62 (dk_at dksX1_init_3 16 rfl rfl)
theorem dX1_init_86 : decode cX1_init 86 = .ok (.return_, 1) := dk_177 (dk_at dksX1_init_3 19 rfl rfl)
abbrev cX1_errorAt : ByteArray := prog_1_method_10_code
def yX1_errorAt : MethodName := ⟨RX1, "errorAt", "()I"⟩
theorem dX1_errorAt_0 : decode cX1_errorAt 0 = .ok (.aload_n 0, 1) := by decide +kernel
theorem dX1_errorAt_1 : decode cX1_errorAt 1 = .ok (.getfield 20, 3) := by decide +kernel
theorem dX1_errorAt_4 : decode cX1_errorAt 4 = .ok (.ireturn, 1) := by decide +kernel
abbrev cX1_wipe : ByteArray := prog_1_method_11_code
def yX1_wipe : MethodName := ⟨RX1, "wipe", "()I"⟩
def dkwX1_wipe_0 : List UInt8 := [42, 180, 0, 96, 60, 42, 1, 181, 0, 86, 42, 3, 181, 0, 96, 27, 172]
abbrev dktX1_wipe_0 : List UInt8 := dkwX1_wipe_0 ++ []
theorem dksX1_wipe_0 : cX1_wipe.data.toList.drop 0 = dktX1_wipe_0 := by decide +kernel
theorem dX1_wipe_0 : decode cX1_wipe 0 = .ok (.aload_n 0, 1) := dk_42 (dk_at dksX1_wipe_0 0 rfl rfl)
theorem dX1_wipe_1 : decode cX1_wipe 1 = .ok (.getfield 96, 3) := dk_180 0 96 (dk_at dksX1_wipe_0 1 rfl rfl)
theorem dX1_wipe_4 : decode cX1_wipe 4 = .ok (.istore_n 1, 1) := dk_60 (dk_at dksX1_wipe_0 4 rfl rfl)
theorem dX1_wipe_5 : decode cX1_wipe 5 = .ok (.aload_n 0, 1) := dk_42 (dk_at dksX1_wipe_0 5 rfl rfl)
theorem dX1_wipe_6 : decode cX1_wipe 6 = .ok (.aconst_null, 1) := dk_1 (dk_at dksX1_wipe_0 6 rfl rfl)
theorem dX1_wipe_7 : decode cX1_wipe 7 = .ok (.putfield 86, 3) := dk_181 0 86 (dk_at dksX1_wipe_0 7 rfl rfl)
theorem dX1_wipe_10 : decode cX1_wipe 10 = .ok (.aload_n 0, 1) := dk_42 (dk_at dksX1_wipe_0 10 rfl rfl)
theorem dX1_wipe_11 : decode cX1_wipe 11 = .ok (.iconst 0, 1) := dk_3 (dk_at dksX1_wipe_0 11 rfl rfl)
theorem dX1_wipe_12 : decode cX1_wipe 12 = .ok (.putfield 96, 3) := dk_181 0 96 (dk_at dksX1_wipe_0 12 rfl rfl)
theorem dX1_wipe_15 : decode cX1_wipe 15 = .ok (.iload_n 1, 1) := dk_27 (dk_at dksX1_wipe_0 15 rfl rfl)
theorem dX1_wipe_16 : decode cX1_wipe 16 = .ok (.ireturn, 1) := dk_172 (dk_at dksX1_wipe_0 16 rfl rfl)
abbrev cX1_at : ByteArray := prog_1_method_28_code
def yX1_at : MethodName := ⟨RX1, "at", "()I"⟩
theorem dX1_at_0 : decode cX1_at 0 = .ok (.aload_n 0, 1) := by decide +kernel
theorem dX1_at_1 : decode cX1_at 1 = .ok (.getfield 62, 3) := by decide +kernel
theorem dX1_at_4 : decode cX1_at 4 = .ok (.ireturn, 1) := by decide +kernel
abbrev cX1_count : ByteArray := prog_1_method_30_code
def yX1_count : MethodName := ⟨RX1, "count", "(I)I"⟩
def dkwX1_count_4 : List UInt8 := [167, 0, 10, 42, 180, 0, 86, 180, 0, 90, 172, 42, 182, 0, 199, 172, 2, 172]
abbrev dktX1_count_4 : List UInt8 := dkwX1_count_4 ++ []
def dkwX1_count_3 : List UInt8 := [172, 42, 180, 0, 152, 172, 42, 180, 0, 171, 172, 42, 180, 0, 174, 172, 42, 180, 0, 86, 199, 0, 7, 2]
abbrev dktX1_count_3 : List UInt8 := dkwX1_count_3 ++ dktX1_count_4
def dkwX1_count_2 : List UInt8 := [42, 180, 0, 68, 172, 42, 180, 0, 96, 172, 42, 180, 0, 158, 172, 42, 180, 0, 155, 172, 42, 180, 0, 139]
abbrev dktX1_count_2 : List UInt8 := dkwX1_count_2 ++ dktX1_count_3
def dkwX1_count_1 : List UInt8 := [170, 0, 0, 0, 0, 0, 119, 0, 0, 0, 0, 0, 0, 0, 9, 0, 0, 0, 55, 0, 0, 0, 60, 0, 0, 0, 65, 0, 0, 0, 70, 0, 0, 0, 75, 0, 0, 0, 80, 0, 0, 0, 85, 0, 0, 0, 90, 0, 0, 0, 95, 0, 0, 0, 114]
abbrev dktX1_count_1 : List UInt8 := dkwX1_count_1 ++ dktX1_count_2
def dkwX1_count_0 : List UInt8 := [27]
abbrev dktX1_count_0 : List UInt8 := dkwX1_count_0 ++ dktX1_count_1
theorem dksX1_count_0 : cX1_count.data.toList.drop 0 = dktX1_count_0 := by decide +kernel
theorem dksX1_count_1 : cX1_count.data.toList.drop 1 = dktX1_count_1 := dk_seg dksX1_count_0 1 rfl rfl
theorem dksX1_count_2 : cX1_count.data.toList.drop 56 = dktX1_count_2 := dk_seg dksX1_count_1 55 rfl rfl
theorem dksX1_count_3 : cX1_count.data.toList.drop 80 = dktX1_count_3 := dk_seg dksX1_count_2 24 rfl rfl
theorem dksX1_count_4 : cX1_count.data.toList.drop 104 = dktX1_count_4 := dk_seg dksX1_count_3 24 rfl rfl
theorem dX1_count_0 : decode cX1_count 0 = .ok (.iload_n 1, 1) := dk_27 (dk_at dksX1_count_0 0 rfl rfl)
theorem dX1_count_1 : decode cX1_count 1 = .ok (.tableswitch 119 0 9 #[55, 60, 65, 70, 75, 80, 85, 90, 95, 114], 55) := by decide +kernel
theorem dX1_count_56 : decode cX1_count 56 = .ok (.aload_n 0, 1) := dk_42 (dk_at dksX1_count_2 0 rfl rfl)
theorem dX1_count_57 : decode cX1_count 57 = .ok (.getfield 68, 3) := dk_180 0 68 (dk_at dksX1_count_2 1 rfl rfl)
theorem dX1_count_60 : decode cX1_count 60 = .ok (.ireturn, 1) := dk_172 (dk_at dksX1_count_2 4 rfl rfl)
theorem dX1_count_61 : decode cX1_count 61 = .ok (.aload_n 0, 1) := dk_42 (dk_at dksX1_count_2 5 rfl rfl)
theorem dX1_count_62 : decode cX1_count 62 = .ok (.getfield 96, 3) := dk_180 0 96 (dk_at dksX1_count_2 6 rfl rfl)
theorem dX1_count_65 : decode cX1_count 65 = .ok (.ireturn, 1) := dk_172 (dk_at dksX1_count_2 9 rfl rfl)
theorem dX1_count_66 : decode cX1_count 66 = .ok (.aload_n 0, 1) := dk_42 (dk_at dksX1_count_2 10 rfl rfl)
theorem dX1_count_67 : decode cX1_count 67 = .ok (.getfield 158, 3) := dk_180 0 158 (dk_at dksX1_count_2 11 rfl rfl)
theorem dX1_count_70 : decode cX1_count 70 = .ok (.ireturn, 1) := dk_172 (dk_at dksX1_count_2 14 rfl rfl)
theorem dX1_count_71 : decode cX1_count 71 = .ok (.aload_n 0, 1) := dk_42 (dk_at dksX1_count_2 15 rfl rfl)
theorem dX1_count_72 : decode cX1_count 72 = .ok (.getfield 155, 3) := dk_180 0 155 (dk_at dksX1_count_2 16 rfl rfl)
theorem dX1_count_75 : decode cX1_count 75 = .ok (.ireturn, 1) := dk_172 (dk_at dksX1_count_2 19 rfl rfl)
theorem dX1_count_76 : decode cX1_count 76 = .ok (.aload_n 0, 1) := dk_42 (dk_at dksX1_count_2 20 rfl rfl)
theorem dX1_count_77 : decode cX1_count 77 = .ok (.getfield 139, 3) := dk_180 0 139 (dk_at dksX1_count_2 21 rfl rfl)
theorem dX1_count_80 : decode cX1_count 80 = .ok (.ireturn, 1) := dk_172 (dk_at dksX1_count_3 0 rfl rfl)
theorem dX1_count_81 : decode cX1_count 81 = .ok (.aload_n 0, 1) := dk_42 (dk_at dksX1_count_3 1 rfl rfl)
theorem dX1_count_82 : decode cX1_count 82 = .ok (.getfield 152, 3) := dk_180 0 152 (dk_at dksX1_count_3 2 rfl rfl)
theorem dX1_count_85 : decode cX1_count 85 = .ok (.ireturn, 1) := dk_172 (dk_at dksX1_count_3 5 rfl rfl)
theorem dX1_count_86 : decode cX1_count 86 = .ok (.aload_n 0, 1) := dk_42 (dk_at dksX1_count_3 6 rfl rfl)
theorem dX1_count_87 : decode cX1_count 87 = .ok (.getfield 171, 3) := dk_180 0 171 (dk_at dksX1_count_3 7 rfl rfl)
theorem dX1_count_90 : decode cX1_count 90 = .ok (.ireturn, 1) := dk_172 (dk_at dksX1_count_3 10 rfl rfl)
theorem dX1_count_91 : decode cX1_count 91 = .ok (.aload_n 0, 1) := dk_42 (dk_at dksX1_count_3 11 rfl rfl)
theorem dX1_count_92 : decode cX1_count 92 = .ok (.getfield 174, 3) := dk_180 0 174 (dk_at dksX1_count_3 12 rfl rfl)
theorem dX1_count_95 : decode cX1_count 95 = .ok (.ireturn, 1) := dk_172 (dk_at dksX1_count_3 15 rfl rfl)
theorem dX1_count_96 : decode cX1_count 96 = .ok (.aload_n 0, 1) := dk_42 (dk_at dksX1_count_3 16 rfl rfl)
theorem dX1_count_97 : decode cX1_count 97 = .ok (.getfield 86, 3) := dk_180 0 86 (dk_at dksX1_count_3 17 rfl rfl)
theorem dX1_count_100 : decode cX1_count 100 = .ok (.ifnonnull 7, 3) := dk_199 0 7 (dk_at dksX1_count_3 20 rfl rfl)
theorem dX1_count_103 : decode cX1_count 103 = .ok (.iconst (-1), 1) := dk_2 (dk_at dksX1_count_3 23 rfl rfl)
theorem dX1_count_104 : decode cX1_count 104 = .ok (.goto 10, 3) := dk_167 0 10 (dk_at dksX1_count_4 0 rfl rfl)
theorem dX1_count_107 : decode cX1_count 107 = .ok (.aload_n 0, 1) := dk_42 (dk_at dksX1_count_4 3 rfl rfl)
theorem dX1_count_108 : decode cX1_count 108 = .ok (.getfield 86, 3) := dk_180 0 86 (dk_at dksX1_count_4 4 rfl rfl)
theorem dX1_count_111 : decode cX1_count 111 = .ok (.getfield 90, 3) := dk_180 0 90 (dk_at dksX1_count_4 7 rfl rfl)
theorem dX1_count_114 : decode cX1_count 114 = .ok (.ireturn, 1) := dk_172 (dk_at dksX1_count_4 10 rfl rfl)
theorem dX1_count_115 : decode cX1_count 115 = .ok (.aload_n 0, 1) := dk_42 (dk_at dksX1_count_4 11 rfl rfl)
theorem dX1_count_116 : decode cX1_count 116 = .ok (.invokevirtual 199, 3) := dk_182 0 199 (dk_at dksX1_count_4 12 rfl rfl)
theorem dX1_count_119 : decode cX1_count 119 = .ok (.ireturn, 1) := dk_172 (dk_at dksX1_count_4 15 rfl rfl)
theorem dX1_count_120 : decode cX1_count 120 = .ok (.iconst (-1), 1) := dk_2 (dk_at dksX1_count_4 16 rfl rfl)
theorem dX1_count_121 : decode cX1_count 121 = .ok (.ireturn, 1) := dk_172 (dk_at dksX1_count_4 17 rfl rfl)
abbrev cX1_greatest : ByteArray := prog_1_method_29_code
def yX1_greatest : MethodName := ⟨RX1, "greatest", "()I"⟩
def dkwX1_greatest_1 : List UInt8 := [27, 172]
abbrev dktX1_greatest_1 : List UInt8 := dkwX1_greatest_1 ++ []
def dkwX1_greatest_0 : List UInt8 := [2, 60, 42, 180, 0, 86, 77, 44, 198, 0, 16, 44, 180, 0, 90, 60, 44, 180, 0, 93, 77, 167, 255, 242]
abbrev dktX1_greatest_0 : List UInt8 := dkwX1_greatest_0 ++ dktX1_greatest_1
theorem dksX1_greatest_0 : cX1_greatest.data.toList.drop 0 = dktX1_greatest_0 := by decide +kernel
theorem dksX1_greatest_1 : cX1_greatest.data.toList.drop 24 = dktX1_greatest_1 := dk_seg dksX1_greatest_0 24 rfl rfl
theorem dX1_greatest_0 : decode cX1_greatest 0 = .ok (.iconst (-1), 1) := dk_2 (dk_at dksX1_greatest_0 0 rfl rfl)
theorem dX1_greatest_1 : decode cX1_greatest 1 = .ok (.istore_n 1, 1) := dk_60 (dk_at dksX1_greatest_0 1 rfl rfl)
theorem dX1_greatest_2 : decode cX1_greatest 2 = .ok (.aload_n 0, 1) := dk_42 (dk_at dksX1_greatest_0 2 rfl rfl)
theorem dX1_greatest_3 : decode cX1_greatest 3 = .ok (.getfield 86, 3) := dk_180 0 86 (dk_at dksX1_greatest_0 3 rfl rfl)
theorem dX1_greatest_6 : decode cX1_greatest 6 = .ok (.astore_n 2, 1) := dk_77 (dk_at dksX1_greatest_0 6 rfl rfl)
theorem dX1_greatest_7 : decode cX1_greatest 7 = .ok (.aload_n 2, 1) := dk_44 (dk_at dksX1_greatest_0 7 rfl rfl)
theorem dX1_greatest_8 : decode cX1_greatest 8 = .ok (.ifnull 16, 3) := dk_198 0 16 (dk_at dksX1_greatest_0 8 rfl rfl)
theorem dX1_greatest_11 : decode cX1_greatest 11 = .ok (.aload_n 2, 1) := dk_44 (dk_at dksX1_greatest_0 11 rfl rfl)
theorem dX1_greatest_12 : decode cX1_greatest 12 = .ok (.getfield 90, 3) := dk_180 0 90 (dk_at dksX1_greatest_0 12 rfl rfl)
theorem dX1_greatest_15 : decode cX1_greatest 15 = .ok (.istore_n 1, 1) := dk_60 (dk_at dksX1_greatest_0 15 rfl rfl)
theorem dX1_greatest_16 : decode cX1_greatest 16 = .ok (.aload_n 2, 1) := dk_44 (dk_at dksX1_greatest_0 16 rfl rfl)
theorem dX1_greatest_17 : decode cX1_greatest 17 = .ok (.getfield 93, 3) := dk_180 0 93 (dk_at dksX1_greatest_0 17 rfl rfl)
theorem dX1_greatest_20 : decode cX1_greatest 20 = .ok (.astore_n 2, 1) := dk_77 (dk_at dksX1_greatest_0 20 rfl rfl)
theorem dX1_greatest_21 : decode cX1_greatest 21 = .ok (.goto (-14), 3) := dk_167 255 242 (dk_at dksX1_greatest_0 21 rfl rfl)
theorem dX1_greatest_24 : decode cX1_greatest 24 = .ok (.iload_n 1, 1) := dk_27 (dk_at dksX1_greatest_1 0 rfl rfl)
theorem dX1_greatest_25 : decode cX1_greatest 25 = .ok (.ireturn, 1) := dk_172 (dk_at dksX1_greatest_1 1 rfl rfl)
abbrev cX1_type : ByteArray := prog_1_method_4_code
def yX1_type : MethodName := ⟨RX1, "type", "(I)I"⟩
def dkwX1_type_2 : List UInt8 := [180, 0, 68, 4, 96, 181, 0, 68, 42, 180, 0, 68, 172]
abbrev dktX1_type_2 : List UInt8 := dkwX1_type_2 ++ []
def dkwX1_type_1 : List UInt8 := [160, 0, 11, 187, 0, 71, 89, 183, 0, 73, 191, 42, 180, 0, 16, 42, 180, 0, 68, 27, 146, 85, 42, 89]
abbrev dktX1_type_1 : List UInt8 := dkwX1_type_1 ++ dktX1_type_2
def dkwX1_type_0 : List UInt8 := [27, 155, 0, 9, 27, 16, 127, 164, 0, 11, 187, 0, 65, 89, 183, 0, 67, 191, 42, 180, 0, 68, 16, 60]
abbrev dktX1_type_0 : List UInt8 := dkwX1_type_0 ++ dktX1_type_1
theorem dksX1_type_0 : cX1_type.data.toList.drop 0 = dktX1_type_0 := by decide +kernel
theorem dksX1_type_1 : cX1_type.data.toList.drop 24 = dktX1_type_1 := dk_seg dksX1_type_0 24 rfl rfl
theorem dksX1_type_2 : cX1_type.data.toList.drop 48 = dktX1_type_2 := dk_seg dksX1_type_1 24 rfl rfl
theorem dX1_type_0 : decode cX1_type 0 = .ok (.iload_n 1, 1) := dk_27 (dk_at dksX1_type_0 0 rfl rfl)
theorem dX1_type_1 : decode cX1_type 1 = .ok (.ifCond .lt 9, 3) := dk_155 0 9 (dk_at dksX1_type_0 1 rfl rfl)
theorem dX1_type_4 : decode cX1_type 4 = .ok (.iload_n 1, 1) := dk_27 (dk_at dksX1_type_0 4 rfl rfl)
theorem dX1_type_5 : decode cX1_type 5 = .ok (.bipush 127, 2) := dk_16 127 (dk_at dksX1_type_0 5 rfl rfl)
theorem dX1_type_7 : decode cX1_type 7 = .ok (.if_icmp .le 11, 3) := dk_164 0 11 (dk_at dksX1_type_0 7 rfl rfl)
theorem dX1_type_10 : decode cX1_type 10 = .ok (.new 65, 3) := dk_187 0 65 (dk_at dksX1_type_0 10 rfl rfl)
theorem dX1_type_13 : decode cX1_type 13 = .ok (.dup, 1) := dk_89 (dk_at dksX1_type_0 13 rfl rfl)
theorem dX1_type_14 : decode cX1_type 14 = .ok (.invokespecial 67, 3) := dk_183 0 67 (dk_at dksX1_type_0 14 rfl rfl)
theorem dX1_type_17 : decode cX1_type 17 = .ok (.athrow, 1) := dk_191 (dk_at dksX1_type_0 17 rfl rfl)
theorem dX1_type_18 : decode cX1_type 18 = .ok (.aload_n 0, 1) := dk_42 (dk_at dksX1_type_0 18 rfl rfl)
theorem dX1_type_19 : decode cX1_type 19 = .ok (.getfield 68, 3) := dk_180 0 68 (dk_at dksX1_type_0 19 rfl rfl)
theorem dX1_type_22 : decode cX1_type 22 = .ok (.bipush 60, 2) := dk_16 60 (dk_at dksX1_type_0 22 rfl rfl)
theorem dX1_type_24 : decode cX1_type 24 = .ok (.if_icmp .ne 11, 3) := dk_160 0 11 (dk_at dksX1_type_1 0 rfl rfl)
theorem dX1_type_27 : decode cX1_type 27 = .ok (.new 71, 3) := dk_187 0 71 (dk_at dksX1_type_1 3 rfl rfl)
theorem dX1_type_30 : decode cX1_type 30 = .ok (.dup, 1) := dk_89 (dk_at dksX1_type_1 6 rfl rfl)
theorem dX1_type_31 : decode cX1_type 31 = .ok (.invokespecial 73, 3) := dk_183 0 73 (dk_at dksX1_type_1 7 rfl rfl)
theorem dX1_type_34 : decode cX1_type 34 = .ok (.athrow, 1) := dk_191 (dk_at dksX1_type_1 10 rfl rfl)
theorem dX1_type_35 : decode cX1_type 35 = .ok (.aload_n 0, 1) := dk_42 (dk_at dksX1_type_1 11 rfl rfl)
theorem dX1_type_36 : decode cX1_type 36 = .ok (.getfield 16, 3) := dk_180 0 16 (dk_at dksX1_type_1 12 rfl rfl)
theorem dX1_type_39 : decode cX1_type 39 = .ok (.aload_n 0, 1) := dk_42 (dk_at dksX1_type_1 15 rfl rfl)
theorem dX1_type_40 : decode cX1_type 40 = .ok (.getfield 68, 3) := dk_180 0 68 (dk_at dksX1_type_1 16 rfl rfl)
theorem dX1_type_43 : decode cX1_type 43 = .ok (.iload_n 1, 1) := dk_27 (dk_at dksX1_type_1 19 rfl rfl)
theorem dX1_type_44 : decode cX1_type 44 = .ok (.i2c, 1) := dk_146 (dk_at dksX1_type_1 20 rfl rfl)
theorem dX1_type_45 : decode cX1_type 45 = .ok (.castore, 1) := dk_85 (dk_at dksX1_type_1 21 rfl rfl)
theorem dX1_type_46 : decode cX1_type 46 = .ok (.aload_n 0, 1) := dk_42 (dk_at dksX1_type_1 22 rfl rfl)
theorem dX1_type_47 : decode cX1_type 47 = .ok (.dup, 1) := dk_89 (dk_at dksX1_type_1 23 rfl rfl)
theorem dX1_type_48 : decode cX1_type 48 = .ok (.getfield 68, 3) := dk_180 0 68 (dk_at dksX1_type_2 0 rfl rfl)
theorem dX1_type_51 : decode cX1_type 51 = .ok (.iconst 1, 1) := dk_4 (dk_at dksX1_type_2 3 rfl rfl)
theorem dX1_type_52 : decode cX1_type 52 = .ok (.iadd, 1) := dk_96 (dk_at dksX1_type_2 4 rfl rfl)
theorem dX1_type_53 : decode cX1_type 53 = .ok (.putfield 68, 3) := dk_181 0 68 (dk_at dksX1_type_2 5 rfl rfl)
theorem dX1_type_56 : decode cX1_type 56 = .ok (.aload_n 0, 1) := dk_42 (dk_at dksX1_type_2 8 rfl rfl)
theorem dX1_type_57 : decode cX1_type 57 = .ok (.getfield 68, 3) := dk_180 0 68 (dk_at dksX1_type_2 9 rfl rfl)
theorem dX1_type_60 : decode cX1_type 60 = .ok (.ireturn, 1) := dk_172 (dk_at dksX1_type_2 12 rfl rfl)
abbrev cX1_enter : ByteArray := prog_1_method_9_code
def yX1_enter : MethodName := ⟨RX1, "enter", "()I"⟩
def dkwX1_enter_3 : List UInt8 := [42, 43, 182, 0, 117, 42, 180, 0, 96, 172]
abbrev dktX1_enter_3 : List UInt8 := dkwX1_enter_3 ++ []
def dkwX1_enter_2 : List UInt8 := [187, 0, 71, 89, 183, 0, 73, 191, 44, 198, 0, 8, 42, 44, 182, 0, 113, 43, 180, 0, 106, 198, 0, 8]
abbrev dktX1_enter_2 : List UInt8 := dkwX1_enter_2 ++ dktX1_enter_3
def dkwX1_enter_1 : List UInt8 := [199, 0, 11, 187, 0, 110, 89, 183, 0, 112, 191, 44, 199, 0, 20, 42, 180, 0, 96, 16, 24, 160, 0, 11]
abbrev dktX1_enter_1 : List UInt8 := dkwX1_enter_1 ++ dktX1_enter_2
def dkwX1_enter_0 : List UInt8 := [42, 182, 0, 99, 76, 42, 43, 180, 0, 90, 182, 0, 102, 77, 43, 180, 0, 106, 199, 0, 15, 44]
abbrev dktX1_enter_0 : List UInt8 := dkwX1_enter_0 ++ dktX1_enter_1
theorem dksX1_enter_0 : cX1_enter.data.toList.drop 0 = dktX1_enter_0 := by decide +kernel
theorem dksX1_enter_1 : cX1_enter.data.toList.drop 22 = dktX1_enter_1 := dk_seg dksX1_enter_0 22 rfl rfl
theorem dksX1_enter_2 : cX1_enter.data.toList.drop 46 = dktX1_enter_2 := dk_seg dksX1_enter_1 24 rfl rfl
theorem dksX1_enter_3 : cX1_enter.data.toList.drop 70 = dktX1_enter_3 := dk_seg dksX1_enter_2 24 rfl rfl
theorem dX1_enter_0 : decode cX1_enter 0 = .ok (.aload_n 0, 1) := dk_42 (dk_at dksX1_enter_0 0 rfl rfl)
theorem dX1_enter_1 : decode cX1_enter 1 = .ok (.invokevirtual 99, 3) := dk_182 0 99 (dk_at dksX1_enter_0 1 rfl rfl)
theorem dX1_enter_4 : decode cX1_enter 4 = .ok (.astore_n 1, 1) := dk_76 (dk_at dksX1_enter_0 4 rfl rfl)
theorem dX1_enter_5 : decode cX1_enter 5 = .ok (.aload_n 0, 1) := dk_42 (dk_at dksX1_enter_0 5 rfl rfl)
theorem dX1_enter_6 : decode cX1_enter 6 = .ok (.aload_n 1, 1) := dk_43 (dk_at dksX1_enter_0 6 rfl rfl)
theorem dX1_enter_7 : decode cX1_enter 7 = .ok (.getfield 90, 3) := dk_180 0 90 (dk_at dksX1_enter_0 7 rfl rfl)
theorem dX1_enter_10 : decode cX1_enter 10 = .ok (.invokevirtual 102, 3) := dk_182 0 102 (dk_at dksX1_enter_0 10 rfl rfl)
theorem dX1_enter_13 : decode cX1_enter 13 = .ok (.astore_n 2, 1) := dk_77 (dk_at dksX1_enter_0 13 rfl rfl)
theorem dX1_enter_14 : decode cX1_enter 14 = .ok (.aload_n 1, 1) := dk_43 (dk_at dksX1_enter_0 14 rfl rfl)
theorem dX1_enter_15 : decode cX1_enter 15 = .ok (.getfield 106, 3) := dk_180 0 106 (dk_at dksX1_enter_0 15 rfl rfl)
theorem dX1_enter_18 : decode cX1_enter 18 = .ok (.ifnonnull 15, 3) := dk_199 0 15 (dk_at dksX1_enter_0 18 rfl rfl)
theorem dX1_enter_21 : decode cX1_enter 21 = .ok (.aload_n 2, 1) := dk_44 (dk_at dksX1_enter_0 21 rfl rfl)
theorem dX1_enter_22 : decode cX1_enter 22 = .ok (.ifnonnull 11, 3) := dk_199 0 11 (dk_at dksX1_enter_1 0 rfl rfl)
theorem dX1_enter_25 : decode cX1_enter 25 = .ok (.new 110, 3) := dk_187 0 110 (dk_at dksX1_enter_1 3 rfl rfl)
theorem dX1_enter_28 : decode cX1_enter 28 = .ok (.dup, 1) := dk_89 (dk_at dksX1_enter_1 6 rfl rfl)
theorem dX1_enter_29 : decode cX1_enter 29 = .ok (.invokespecial 112, 3) := dk_183 0 112 (dk_at dksX1_enter_1 7 rfl rfl)
theorem dX1_enter_32 : decode cX1_enter 32 = .ok (.athrow, 1) := dk_191 (dk_at dksX1_enter_1 10 rfl rfl)
theorem dX1_enter_33 : decode cX1_enter 33 = .ok (.aload_n 2, 1) := dk_44 (dk_at dksX1_enter_1 11 rfl rfl)
theorem dX1_enter_34 : decode cX1_enter 34 = .ok (.ifnonnull 20, 3) := dk_199 0 20 (dk_at dksX1_enter_1 12 rfl rfl)
theorem dX1_enter_37 : decode cX1_enter 37 = .ok (.aload_n 0, 1) := dk_42 (dk_at dksX1_enter_1 15 rfl rfl)
theorem dX1_enter_38 : decode cX1_enter 38 = .ok (.getfield 96, 3) := dk_180 0 96 (dk_at dksX1_enter_1 16 rfl rfl)
theorem dX1_enter_41 : decode cX1_enter 41 = .ok (.bipush 24, 2) := dk_16 24 (dk_at dksX1_enter_1 19 rfl rfl)
theorem dX1_enter_43 : decode cX1_enter 43 = .ok (.if_icmp .ne 11, 3) := dk_160 0 11 (dk_at dksX1_enter_1 21 rfl rfl)
theorem dX1_enter_46 : decode cX1_enter 46 = .ok (.new 71, 3) := dk_187 0 71 (dk_at dksX1_enter_2 0 rfl rfl)
theorem dX1_enter_49 : decode cX1_enter 49 = .ok (.dup, 1) := dk_89 (dk_at dksX1_enter_2 3 rfl rfl)
theorem dX1_enter_50 : decode cX1_enter 50 = .ok (.invokespecial 73, 3) := dk_183 0 73 (dk_at dksX1_enter_2 4 rfl rfl)
theorem dX1_enter_53 : decode cX1_enter 53 = .ok (.athrow, 1) := dk_191 (dk_at dksX1_enter_2 7 rfl rfl)
theorem dX1_enter_54 : decode cX1_enter 54 = .ok (.aload_n 2, 1) := dk_44 (dk_at dksX1_enter_2 8 rfl rfl)
theorem dX1_enter_55 : decode cX1_enter 55 = .ok (.ifnull 8, 3) := dk_198 0 8 (dk_at dksX1_enter_2 9 rfl rfl)
theorem dX1_enter_58 : decode cX1_enter 58 = .ok (.aload_n 0, 1) := dk_42 (dk_at dksX1_enter_2 12 rfl rfl)
theorem dX1_enter_59 : decode cX1_enter 59 = .ok (.aload_n 2, 1) := dk_44 (dk_at dksX1_enter_2 13 rfl rfl)
theorem dX1_enter_60 : decode cX1_enter 60 = .ok (.invokevirtual 113, 3) := dk_182 0 113 (dk_at dksX1_enter_2 14 rfl rfl)
theorem dX1_enter_63 : decode cX1_enter 63 = .ok (.aload_n 1, 1) := dk_43 (dk_at dksX1_enter_2 17 rfl rfl)
theorem dX1_enter_64 : decode cX1_enter 64 = .ok (.getfield 106, 3) := dk_180 0 106 (dk_at dksX1_enter_2 18 rfl rfl)
theorem dX1_enter_67 : decode cX1_enter 67 = .ok (.ifnull 8, 3) := dk_198 0 8 (dk_at dksX1_enter_2 21 rfl rfl)
theorem dX1_enter_70 : decode cX1_enter 70 = .ok (.aload_n 0, 1) := dk_42 (dk_at dksX1_enter_3 0 rfl rfl)
theorem dX1_enter_71 : decode cX1_enter 71 = .ok (.aload_n 1, 1) := dk_43 (dk_at dksX1_enter_3 1 rfl rfl)
theorem dX1_enter_72 : decode cX1_enter 72 = .ok (.invokevirtual 117, 3) := dk_182 0 117 (dk_at dksX1_enter_3 2 rfl rfl)
theorem dX1_enter_75 : decode cX1_enter 75 = .ok (.aload_n 0, 1) := dk_42 (dk_at dksX1_enter_3 5 rfl rfl)
theorem dX1_enter_76 : decode cX1_enter 76 = .ok (.getfield 96, 3) := dk_180 0 96 (dk_at dksX1_enter_3 6 rfl rfl)
theorem dX1_enter_79 : decode cX1_enter 79 = .ok (.ireturn, 1) := dk_172 (dk_at dksX1_enter_3 9 rfl rfl)
abbrev cX1_parse : ByteArray := prog_1_method_5_code
def yX1_parse : MethodName := ⟨RX1, "parse", "()LBasicMachine$Line;"⟩
def dkwX1_parse_3 : List UInt8 := [182, 0, 79, 176, 58, 4, 42, 45, 180, 0, 83, 181, 0, 20, 187, 0, 65, 89, 183, 0, 67, 191]
abbrev dktX1_parse_3 : List UInt8 := dkwX1_parse_3 ++ []
def dkwX1_parse_2 : List UInt8 := [167, 255, 219, 42, 3, 181, 0, 68, 42, 2, 181, 0, 20, 187, 0, 74, 89, 43, 28, 183, 0, 76, 78, 45]
abbrev dktX1_parse_2 : List UInt8 := dkwX1_parse_2 ++ dktX1_parse_3
def dkwX1_parse_1 : List UInt8 := [16, 32, 160, 0, 6, 167, 0, 15, 43, 28, 42, 180, 0, 16, 29, 52, 85, 132, 2, 1, 132, 3, 1]
abbrev dktX1_parse_1 : List UInt8 := dkwX1_parse_1 ++ dktX1_parse_2
def dkwX1_parse_0 : List UInt8 := [16, 60, 188, 5, 76, 3, 61, 3, 62, 29, 42, 180, 0, 68, 162, 0, 35, 42, 180, 0, 16, 29, 52]
abbrev dktX1_parse_0 : List UInt8 := dkwX1_parse_0 ++ dktX1_parse_1
theorem dksX1_parse_0 : cX1_parse.data.toList.drop 0 = dktX1_parse_0 := by decide +kernel
theorem dksX1_parse_1 : cX1_parse.data.toList.drop 23 = dktX1_parse_1 := dk_seg dksX1_parse_0 23 rfl rfl
theorem dksX1_parse_2 : cX1_parse.data.toList.drop 46 = dktX1_parse_2 := dk_seg dksX1_parse_1 23 rfl rfl
theorem dksX1_parse_3 : cX1_parse.data.toList.drop 70 = dktX1_parse_3 := dk_seg dksX1_parse_2 24 rfl rfl
theorem dX1_parse_0 : decode cX1_parse 0 = .ok (.bipush 60, 2) := dk_16 60 (dk_at dksX1_parse_0 0 rfl rfl)
theorem dX1_parse_2 : decode cX1_parse 2 = .ok (.newarray .char, 2) := dk_188_5 (dk_at dksX1_parse_0 2 rfl rfl)
theorem dX1_parse_4 : decode cX1_parse 4 = .ok (.astore_n 1, 1) := dk_76 (dk_at dksX1_parse_0 4 rfl rfl)
theorem dX1_parse_5 : decode cX1_parse 5 = .ok (.iconst 0, 1) := dk_3 (dk_at dksX1_parse_0 5 rfl rfl)
theorem dX1_parse_6 : decode cX1_parse 6 = .ok (.istore_n 2, 1) := dk_61 (dk_at dksX1_parse_0 6 rfl rfl)
theorem dX1_parse_7 : decode cX1_parse 7 = .ok (.iconst 0, 1) := dk_3 (dk_at dksX1_parse_0 7 rfl rfl)
theorem dX1_parse_8 : decode cX1_parse 8 = .ok (.istore_n 3, 1) := dk_62 (dk_at dksX1_parse_0 8 rfl rfl)
theorem dX1_parse_9 : decode cX1_parse 9 = .ok (.iload_n 3, 1) := dk_29 (dk_at dksX1_parse_0 9 rfl rfl)
theorem dX1_parse_10 : decode cX1_parse 10 = .ok (.aload_n 0, 1) := dk_42 (dk_at dksX1_parse_0 10 rfl rfl)
theorem dX1_parse_11 : decode cX1_parse 11 = .ok (.getfield 68, 3) := dk_180 0 68 (dk_at dksX1_parse_0 11 rfl rfl)
theorem dX1_parse_14 : decode cX1_parse 14 = .ok (.if_icmp .ge 35, 3) := dk_162 0 35 (dk_at dksX1_parse_0 14 rfl rfl)
theorem dX1_parse_17 : decode cX1_parse 17 = .ok (.aload_n 0, 1) := dk_42 (dk_at dksX1_parse_0 17 rfl rfl)
theorem dX1_parse_18 : decode cX1_parse 18 = .ok (.getfield 16, 3) := dk_180 0 16 (dk_at dksX1_parse_0 18 rfl rfl)
theorem dX1_parse_21 : decode cX1_parse 21 = .ok (.iload_n 3, 1) := dk_29 (dk_at dksX1_parse_0 21 rfl rfl)
theorem dX1_parse_22 : decode cX1_parse 22 = .ok (.caload, 1) := dk_52 (dk_at dksX1_parse_0 22 rfl rfl)
theorem dX1_parse_23 : decode cX1_parse 23 = .ok (.bipush 32, 2) := dk_16 32 (dk_at dksX1_parse_1 0 rfl rfl)
theorem dX1_parse_25 : decode cX1_parse 25 = .ok (.if_icmp .ne 6, 3) := dk_160 0 6 (dk_at dksX1_parse_1 2 rfl rfl)
theorem dX1_parse_28 : decode cX1_parse 28 = .ok (.goto 15, 3) := dk_167 0 15 (dk_at dksX1_parse_1 5 rfl rfl)
theorem dX1_parse_31 : decode cX1_parse 31 = .ok (.aload_n 1, 1) := dk_43 (dk_at dksX1_parse_1 8 rfl rfl)
theorem dX1_parse_32 : decode cX1_parse 32 = .ok (.iload_n 2, 1) := dk_28 (dk_at dksX1_parse_1 9 rfl rfl)
theorem dX1_parse_33 : decode cX1_parse 33 = .ok (.aload_n 0, 1) := dk_42 (dk_at dksX1_parse_1 10 rfl rfl)
theorem dX1_parse_34 : decode cX1_parse 34 = .ok (.getfield 16, 3) := dk_180 0 16 (dk_at dksX1_parse_1 11 rfl rfl)
theorem dX1_parse_37 : decode cX1_parse 37 = .ok (.iload_n 3, 1) := dk_29 (dk_at dksX1_parse_1 14 rfl rfl)
theorem dX1_parse_38 : decode cX1_parse 38 = .ok (.caload, 1) := dk_52 (dk_at dksX1_parse_1 15 rfl rfl)
theorem dX1_parse_39 : decode cX1_parse 39 = .ok (.castore, 1) := dk_85 (dk_at dksX1_parse_1 16 rfl rfl)
theorem dX1_parse_40 : decode cX1_parse 40 = .ok (.iinc 2 1, 3) := dk_132 2 1 (dk_at dksX1_parse_1 17 rfl rfl)
theorem dX1_parse_43 : decode cX1_parse 43 = .ok (.iinc 3 1, 3) := dk_132 3 1 (dk_at dksX1_parse_1 20 rfl rfl)
theorem dX1_parse_46 : decode cX1_parse 46 = .ok (.goto (-37), 3) := dk_167 255 219 (dk_at dksX1_parse_2 0 rfl rfl)
theorem dX1_parse_49 : decode cX1_parse 49 = .ok (.aload_n 0, 1) := dk_42 (dk_at dksX1_parse_2 3 rfl rfl)
theorem dX1_parse_50 : decode cX1_parse 50 = .ok (.iconst 0, 1) := dk_3 (dk_at dksX1_parse_2 4 rfl rfl)
theorem dX1_parse_51 : decode cX1_parse 51 = .ok (.putfield 68, 3) := dk_181 0 68 (dk_at dksX1_parse_2 5 rfl rfl)
theorem dX1_parse_54 : decode cX1_parse 54 = .ok (.aload_n 0, 1) := dk_42 (dk_at dksX1_parse_2 8 rfl rfl)
theorem dX1_parse_55 : decode cX1_parse 55 = .ok (.iconst (-1), 1) := dk_2 (dk_at dksX1_parse_2 9 rfl rfl)
theorem dX1_parse_56 : decode cX1_parse 56 = .ok (.putfield 20, 3) := dk_181 0 20 (dk_at dksX1_parse_2 10 rfl rfl)
theorem dX1_parse_59 : decode cX1_parse 59 = .ok (.new 74, 3) := dk_187 0 74 (dk_at dksX1_parse_2 13 rfl rfl)
theorem dX1_parse_62 : decode cX1_parse 62 = .ok (.dup, 1) := dk_89 (dk_at dksX1_parse_2 16 rfl rfl)
theorem dX1_parse_63 : decode cX1_parse 63 = .ok (.aload_n 1, 1) := dk_43 (dk_at dksX1_parse_2 17 rfl rfl)
theorem dX1_parse_64 : decode cX1_parse 64 = .ok (.iload_n 2, 1) := dk_28 (dk_at dksX1_parse_2 18 rfl rfl)
theorem dX1_parse_65 : decode cX1_parse 65 = .ok (.invokespecial 76, 3) := dk_183 0 76 (dk_at dksX1_parse_2 19 rfl rfl)
theorem dX1_parse_68 : decode cX1_parse 68 = .ok (.astore_n 3, 1) := dk_78 (dk_at dksX1_parse_2 22 rfl rfl)
theorem dX1_parse_69 : decode cX1_parse 69 = .ok (.aload_n 3, 1) := dk_45 (dk_at dksX1_parse_2 23 rfl rfl)
theorem dX1_parse_70 : decode cX1_parse 70 = .ok (.invokevirtual 79, 3) := dk_182 0 79 (dk_at dksX1_parse_3 0 rfl rfl)
theorem dX1_parse_73 : decode cX1_parse 73 = .ok (.areturn, 1) := dk_176 (dk_at dksX1_parse_3 3 rfl rfl)
theorem dX1_parse_74 : decode cX1_parse 74 = .ok (.astore 4, 2) := dk_58 4 (dk_at dksX1_parse_3 4 rfl rfl)
theorem dX1_parse_76 : decode cX1_parse 76 = .ok (.aload_n 0, 1) := dk_42 (dk_at dksX1_parse_3 6 rfl rfl)
theorem dX1_parse_77 : decode cX1_parse 77 = .ok (.aload_n 3, 1) := dk_45 (dk_at dksX1_parse_3 7 rfl rfl)
theorem dX1_parse_78 : decode cX1_parse 78 = .ok (.getfield 83, 3) := dk_180 0 83 (dk_at dksX1_parse_3 8 rfl rfl)
theorem dX1_parse_81 : decode cX1_parse 81 = .ok (.putfield 20, 3) := dk_181 0 20 (dk_at dksX1_parse_3 11 rfl rfl)
theorem dX1_parse_84 : decode cX1_parse 84 = .ok (.new 65, 3) := dk_187 0 65 (dk_at dksX1_parse_3 14 rfl rfl)
theorem dX1_parse_87 : decode cX1_parse 87 = .ok (.dup, 1) := dk_89 (dk_at dksX1_parse_3 17 rfl rfl)
theorem dX1_parse_88 : decode cX1_parse 88 = .ok (.invokespecial 67, 3) := dk_183 0 67 (dk_at dksX1_parse_3 18 rfl rfl)
theorem dX1_parse_91 : decode cX1_parse 91 = .ok (.athrow, 1) := dk_191 (dk_at dksX1_parse_3 21 rfl rfl)
abbrev cX1_lineOrNull : ByteArray := prog_1_method_6_code
def yX1_lineOrNull : MethodName := ⟨RX1, "lineOrNull", "(I)LBasicMachine$Line;"⟩
def dkwX1_lineOrNull_1 : List UInt8 := [167, 255, 239, 44, 176]
abbrev dktX1_lineOrNull_1 : List UInt8 := dkwX1_lineOrNull_1 ++ []
def dkwX1_lineOrNull_0 : List UInt8 := [42, 180, 0, 86, 77, 44, 198, 0, 19, 44, 180, 0, 90, 27, 159, 0, 11, 44, 180, 0, 93, 77]
abbrev dktX1_lineOrNull_0 : List UInt8 := dkwX1_lineOrNull_0 ++ dktX1_lineOrNull_1
theorem dksX1_lineOrNull_0 : cX1_lineOrNull.data.toList.drop 0 = dktX1_lineOrNull_0 := by decide +kernel
theorem dksX1_lineOrNull_1 : cX1_lineOrNull.data.toList.drop 22 = dktX1_lineOrNull_1 := dk_seg dksX1_lineOrNull_0 22 rfl rfl
theorem dX1_lineOrNull_0 : decode cX1_lineOrNull 0 = .ok (.aload_n 0, 1) := dk_42 (dk_at dksX1_lineOrNull_0 0 rfl rfl)
theorem dX1_lineOrNull_1 : decode cX1_lineOrNull 1 = .ok (.getfield 86, 3) := dk_180 0 86 (dk_at dksX1_lineOrNull_0 1 rfl rfl)
theorem dX1_lineOrNull_4 : decode cX1_lineOrNull 4 = .ok (.astore_n 2, 1) := dk_77 (dk_at dksX1_lineOrNull_0 4 rfl rfl)
theorem dX1_lineOrNull_5 : decode cX1_lineOrNull 5 = .ok (.aload_n 2, 1) := dk_44 (dk_at dksX1_lineOrNull_0 5 rfl rfl)
theorem dX1_lineOrNull_6 : decode cX1_lineOrNull 6 = .ok (.ifnull 19, 3) := dk_198 0 19 (dk_at dksX1_lineOrNull_0 6 rfl rfl)
theorem dX1_lineOrNull_9 : decode cX1_lineOrNull 9 = .ok (.aload_n 2, 1) := dk_44 (dk_at dksX1_lineOrNull_0 9 rfl rfl)
theorem dX1_lineOrNull_10 : decode cX1_lineOrNull 10 = .ok (.getfield 90, 3) := dk_180 0 90 (dk_at dksX1_lineOrNull_0 10 rfl rfl)
theorem dX1_lineOrNull_13 : decode cX1_lineOrNull 13 = .ok (.iload_n 1, 1) := dk_27 (dk_at dksX1_lineOrNull_0 13 rfl rfl)
theorem dX1_lineOrNull_14 : decode cX1_lineOrNull 14 = .ok (.if_icmp .eq 11, 3) := dk_159 0 11 (dk_at dksX1_lineOrNull_0 14 rfl rfl)
theorem dX1_lineOrNull_17 : decode cX1_lineOrNull 17 = .ok (.aload_n 2, 1) := dk_44 (dk_at dksX1_lineOrNull_0 17 rfl rfl)
theorem dX1_lineOrNull_18 : decode cX1_lineOrNull 18 = .ok (.getfield 93, 3) := dk_180 0 93 (dk_at dksX1_lineOrNull_0 18 rfl rfl)
theorem dX1_lineOrNull_21 : decode cX1_lineOrNull 21 = .ok (.astore_n 2, 1) := dk_77 (dk_at dksX1_lineOrNull_0 21 rfl rfl)
theorem dX1_lineOrNull_22 : decode cX1_lineOrNull 22 = .ok (.goto (-17), 3) := dk_167 255 239 (dk_at dksX1_lineOrNull_1 0 rfl rfl)
theorem dX1_lineOrNull_25 : decode cX1_lineOrNull 25 = .ok (.aload_n 2, 1) := dk_44 (dk_at dksX1_lineOrNull_1 3 rfl rfl)
theorem dX1_lineOrNull_26 : decode cX1_lineOrNull 26 = .ok (.areturn, 1) := dk_176 (dk_at dksX1_lineOrNull_1 4 rfl rfl)
abbrev cX1_unlink : ByteArray := prog_1_method_7_code
def yX1_unlink : MethodName := ⟨RX1, "unlink", "(LBasicMachine$Line;)V"⟩
def dkwX1_unlink_2 : List UInt8 := [167, 255, 231, 42, 89, 180, 0, 96, 4, 100, 181, 0, 96, 177]
abbrev dktX1_unlink_2 : List UInt8 := dkwX1_unlink_2 ++ []
def dkwX1_unlink_1 : List UInt8 := [198, 0, 27, 44, 180, 0, 93, 43, 166, 0, 11, 44, 43, 180, 0, 93, 181, 0, 93, 44, 180, 0, 93, 77]
abbrev dktX1_unlink_1 : List UInt8 := dkwX1_unlink_1 ++ dktX1_unlink_2
def dkwX1_unlink_0 : List UInt8 := [42, 180, 0, 86, 43, 166, 0, 11, 42, 43, 180, 0, 93, 181, 0, 86, 42, 180, 0, 86, 77, 44]
abbrev dktX1_unlink_0 : List UInt8 := dkwX1_unlink_0 ++ dktX1_unlink_1
theorem dksX1_unlink_0 : cX1_unlink.data.toList.drop 0 = dktX1_unlink_0 := by decide +kernel
theorem dksX1_unlink_1 : cX1_unlink.data.toList.drop 22 = dktX1_unlink_1 := dk_seg dksX1_unlink_0 22 rfl rfl
theorem dksX1_unlink_2 : cX1_unlink.data.toList.drop 46 = dktX1_unlink_2 := dk_seg dksX1_unlink_1 24 rfl rfl
theorem dX1_unlink_0 : decode cX1_unlink 0 = .ok (.aload_n 0, 1) := dk_42 (dk_at dksX1_unlink_0 0 rfl rfl)
theorem dX1_unlink_1 : decode cX1_unlink 1 = .ok (.getfield 86, 3) := dk_180 0 86 (dk_at dksX1_unlink_0 1 rfl rfl)
theorem dX1_unlink_4 : decode cX1_unlink 4 = .ok (.aload_n 1, 1) := dk_43 (dk_at dksX1_unlink_0 4 rfl rfl)
theorem dX1_unlink_5 : decode cX1_unlink 5 = .ok (.if_acmp .ne 11, 3) := dk_166 0 11 (dk_at dksX1_unlink_0 5 rfl rfl)
theorem dX1_unlink_8 : decode cX1_unlink 8 = .ok (.aload_n 0, 1) := dk_42 (dk_at dksX1_unlink_0 8 rfl rfl)
theorem dX1_unlink_9 : decode cX1_unlink 9 = .ok (.aload_n 1, 1) := dk_43 (dk_at dksX1_unlink_0 9 rfl rfl)
theorem dX1_unlink_10 : decode cX1_unlink 10 = .ok (.getfield 93, 3) := dk_180 0 93 (dk_at dksX1_unlink_0 10 rfl rfl)
theorem dX1_unlink_13 : decode cX1_unlink 13 = .ok (.putfield 86, 3) := dk_181 0 86 (dk_at dksX1_unlink_0 13 rfl rfl)
theorem dX1_unlink_16 : decode cX1_unlink 16 = .ok (.aload_n 0, 1) := dk_42 (dk_at dksX1_unlink_0 16 rfl rfl)
theorem dX1_unlink_17 : decode cX1_unlink 17 = .ok (.getfield 86, 3) := dk_180 0 86 (dk_at dksX1_unlink_0 17 rfl rfl)
theorem dX1_unlink_20 : decode cX1_unlink 20 = .ok (.astore_n 2, 1) := dk_77 (dk_at dksX1_unlink_0 20 rfl rfl)
theorem dX1_unlink_21 : decode cX1_unlink 21 = .ok (.aload_n 2, 1) := dk_44 (dk_at dksX1_unlink_0 21 rfl rfl)
theorem dX1_unlink_22 : decode cX1_unlink 22 = .ok (.ifnull 27, 3) := dk_198 0 27 (dk_at dksX1_unlink_1 0 rfl rfl)
theorem dX1_unlink_25 : decode cX1_unlink 25 = .ok (.aload_n 2, 1) := dk_44 (dk_at dksX1_unlink_1 3 rfl rfl)
theorem dX1_unlink_26 : decode cX1_unlink 26 = .ok (.getfield 93, 3) := dk_180 0 93 (dk_at dksX1_unlink_1 4 rfl rfl)
theorem dX1_unlink_29 : decode cX1_unlink 29 = .ok (.aload_n 1, 1) := dk_43 (dk_at dksX1_unlink_1 7 rfl rfl)
theorem dX1_unlink_30 : decode cX1_unlink 30 = .ok (.if_acmp .ne 11, 3) := dk_166 0 11 (dk_at dksX1_unlink_1 8 rfl rfl)
theorem dX1_unlink_33 : decode cX1_unlink 33 = .ok (.aload_n 2, 1) := dk_44 (dk_at dksX1_unlink_1 11 rfl rfl)
theorem dX1_unlink_34 : decode cX1_unlink 34 = .ok (.aload_n 1, 1) := dk_43 (dk_at dksX1_unlink_1 12 rfl rfl)
theorem dX1_unlink_35 : decode cX1_unlink 35 = .ok (.getfield 93, 3) := dk_180 0 93 (dk_at dksX1_unlink_1 13 rfl rfl)
theorem dX1_unlink_38 : decode cX1_unlink 38 = .ok (.putfield 93, 3) := dk_181 0 93 (dk_at dksX1_unlink_1 16 rfl rfl)
theorem dX1_unlink_41 : decode cX1_unlink 41 = .ok (.aload_n 2, 1) := dk_44 (dk_at dksX1_unlink_1 19 rfl rfl)
theorem dX1_unlink_42 : decode cX1_unlink 42 = .ok (.getfield 93, 3) := dk_180 0 93 (dk_at dksX1_unlink_1 20 rfl rfl)
theorem dX1_unlink_45 : decode cX1_unlink 45 = .ok (.astore_n 2, 1) := dk_77 (dk_at dksX1_unlink_1 23 rfl rfl)
theorem dX1_unlink_46 : decode cX1_unlink 46 = .ok (.goto (-25), 3) := dk_167 255 231 (dk_at dksX1_unlink_2 0 rfl rfl)
theorem dX1_unlink_49 : decode cX1_unlink 49 = .ok (.aload_n 0, 1) := dk_42 (dk_at dksX1_unlink_2 3 rfl rfl)
theorem dX1_unlink_50 : decode cX1_unlink 50 = .ok (.dup, 1) := dk_89 (dk_at dksX1_unlink_2 4 rfl rfl)
theorem dX1_unlink_51 : decode cX1_unlink 51 = .ok (.getfield 96, 3) := dk_180 0 96 (dk_at dksX1_unlink_2 5 rfl rfl)
theorem dX1_unlink_54 : decode cX1_unlink 54 = .ok (.iconst 1, 1) := dk_4 (dk_at dksX1_unlink_2 8 rfl rfl)
theorem dX1_unlink_55 : decode cX1_unlink 55 = .ok (.isub, 1) := dk_100 (dk_at dksX1_unlink_2 9 rfl rfl)
theorem dX1_unlink_56 : decode cX1_unlink 56 = .ok (.putfield 96, 3) := dk_181 0 96 (dk_at dksX1_unlink_2 10 rfl rfl)
theorem dX1_unlink_59 : decode cX1_unlink 59 = .ok (.return_, 1) := dk_177 (dk_at dksX1_unlink_2 13 rfl rfl)
abbrev cX1_link : ByteArray := prog_1_method_8_code
def yX1_link : MethodName := ⟨RX1, "link", "(LBasicMachine$Line;)V"⟩
def dkwX1_link_4 : List UInt8 := [177]
abbrev dktX1_link_4 : List UInt8 := dkwX1_link_4 ++ []
def dkwX1_link_3 : List UInt8 := [162, 0, 11, 44, 180, 0, 93, 77, 167, 255, 230, 43, 44, 180, 0, 93, 181, 0, 93, 44, 43, 181, 0, 93]
abbrev dktX1_link_3 : List UInt8 := dkwX1_link_3 ++ dktX1_link_4
def dkwX1_link_2 : List UInt8 := [180, 0, 86, 77, 44, 180, 0, 93, 198, 0, 25, 44, 180, 0, 93, 180, 0, 90, 43, 180, 0, 90]
abbrev dktX1_link_2 : List UInt8 := dkwX1_link_2 ++ dktX1_link_3
def dkwX1_link_1 : List UInt8 := [43, 180, 0, 90, 164, 0, 17, 43, 42, 180, 0, 86, 181, 0, 93, 42, 43, 181, 0, 86, 177, 42]
abbrev dktX1_link_1 : List UInt8 := dkwX1_link_1 ++ dktX1_link_2
def dkwX1_link_0 : List UInt8 := [42, 89, 180, 0, 96, 4, 96, 181, 0, 96, 42, 180, 0, 86, 198, 0, 17, 42, 180, 0, 86, 180, 0, 90]
abbrev dktX1_link_0 : List UInt8 := dkwX1_link_0 ++ dktX1_link_1
theorem dksX1_link_0 : cX1_link.data.toList.drop 0 = dktX1_link_0 := by decide +kernel
theorem dksX1_link_1 : cX1_link.data.toList.drop 24 = dktX1_link_1 := dk_seg dksX1_link_0 24 rfl rfl
theorem dksX1_link_2 : cX1_link.data.toList.drop 46 = dktX1_link_2 := dk_seg dksX1_link_1 22 rfl rfl
theorem dksX1_link_3 : cX1_link.data.toList.drop 68 = dktX1_link_3 := dk_seg dksX1_link_2 22 rfl rfl
theorem dksX1_link_4 : cX1_link.data.toList.drop 92 = dktX1_link_4 := dk_seg dksX1_link_3 24 rfl rfl
theorem dX1_link_0 : decode cX1_link 0 = .ok (.aload_n 0, 1) := dk_42 (dk_at dksX1_link_0 0 rfl rfl)
theorem dX1_link_1 : decode cX1_link 1 = .ok (.dup, 1) := dk_89 (dk_at dksX1_link_0 1 rfl rfl)
theorem dX1_link_2 : decode cX1_link 2 = .ok (.getfield 96, 3) := dk_180 0 96 (dk_at dksX1_link_0 2 rfl rfl)
theorem dX1_link_5 : decode cX1_link 5 = .ok (.iconst 1, 1) := dk_4 (dk_at dksX1_link_0 5 rfl rfl)
theorem dX1_link_6 : decode cX1_link 6 = .ok (.iadd, 1) := dk_96 (dk_at dksX1_link_0 6 rfl rfl)
theorem dX1_link_7 : decode cX1_link 7 = .ok (.putfield 96, 3) := dk_181 0 96 (dk_at dksX1_link_0 7 rfl rfl)
theorem dX1_link_10 : decode cX1_link 10 = .ok (.aload_n 0, 1) := dk_42 (dk_at dksX1_link_0 10 rfl rfl)
theorem dX1_link_11 : decode cX1_link 11 = .ok (.getfield 86, 3) := dk_180 0 86 (dk_at dksX1_link_0 11 rfl rfl)
theorem dX1_link_14 : decode cX1_link 14 = .ok (.ifnull 17, 3) := dk_198 0 17 (dk_at dksX1_link_0 14 rfl rfl)
theorem dX1_link_17 : decode cX1_link 17 = .ok (.aload_n 0, 1) := dk_42 (dk_at dksX1_link_0 17 rfl rfl)
theorem dX1_link_18 : decode cX1_link 18 = .ok (.getfield 86, 3) := dk_180 0 86 (dk_at dksX1_link_0 18 rfl rfl)
theorem dX1_link_21 : decode cX1_link 21 = .ok (.getfield 90, 3) := dk_180 0 90 (dk_at dksX1_link_0 21 rfl rfl)
theorem dX1_link_24 : decode cX1_link 24 = .ok (.aload_n 1, 1) := dk_43 (dk_at dksX1_link_1 0 rfl rfl)
theorem dX1_link_25 : decode cX1_link 25 = .ok (.getfield 90, 3) := dk_180 0 90 (dk_at dksX1_link_1 1 rfl rfl)
theorem dX1_link_28 : decode cX1_link 28 = .ok (.if_icmp .le 17, 3) := dk_164 0 17 (dk_at dksX1_link_1 4 rfl rfl)
theorem dX1_link_31 : decode cX1_link 31 = .ok (.aload_n 1, 1) := dk_43 (dk_at dksX1_link_1 7 rfl rfl)
theorem dX1_link_32 : decode cX1_link 32 = .ok (.aload_n 0, 1) := dk_42 (dk_at dksX1_link_1 8 rfl rfl)
theorem dX1_link_33 : decode cX1_link 33 = .ok (.getfield 86, 3) := dk_180 0 86 (dk_at dksX1_link_1 9 rfl rfl)
theorem dX1_link_36 : decode cX1_link 36 = .ok (.putfield 93, 3) := dk_181 0 93 (dk_at dksX1_link_1 12 rfl rfl)
theorem dX1_link_39 : decode cX1_link 39 = .ok (.aload_n 0, 1) := dk_42 (dk_at dksX1_link_1 15 rfl rfl)
theorem dX1_link_40 : decode cX1_link 40 = .ok (.aload_n 1, 1) := dk_43 (dk_at dksX1_link_1 16 rfl rfl)
theorem dX1_link_41 : decode cX1_link 41 = .ok (.putfield 86, 3) := dk_181 0 86 (dk_at dksX1_link_1 17 rfl rfl)
theorem dX1_link_44 : decode cX1_link 44 = .ok (.return_, 1) := dk_177 (dk_at dksX1_link_1 20 rfl rfl)
theorem dX1_link_45 : decode cX1_link 45 = .ok (.aload_n 0, 1) := dk_42 (dk_at dksX1_link_1 21 rfl rfl)
theorem dX1_link_46 : decode cX1_link 46 = .ok (.getfield 86, 3) := dk_180 0 86 (dk_at dksX1_link_2 0 rfl rfl)
theorem dX1_link_49 : decode cX1_link 49 = .ok (.astore_n 2, 1) := dk_77 (dk_at dksX1_link_2 3 rfl rfl)
theorem dX1_link_50 : decode cX1_link 50 = .ok (.aload_n 2, 1) := dk_44 (dk_at dksX1_link_2 4 rfl rfl)
theorem dX1_link_51 : decode cX1_link 51 = .ok (.getfield 93, 3) := dk_180 0 93 (dk_at dksX1_link_2 5 rfl rfl)
theorem dX1_link_54 : decode cX1_link 54 = .ok (.ifnull 25, 3) := dk_198 0 25 (dk_at dksX1_link_2 8 rfl rfl)
theorem dX1_link_57 : decode cX1_link 57 = .ok (.aload_n 2, 1) := dk_44 (dk_at dksX1_link_2 11 rfl rfl)
theorem dX1_link_58 : decode cX1_link 58 = .ok (.getfield 93, 3) := dk_180 0 93 (dk_at dksX1_link_2 12 rfl rfl)
theorem dX1_link_61 : decode cX1_link 61 = .ok (.getfield 90, 3) := dk_180 0 90 (dk_at dksX1_link_2 15 rfl rfl)
theorem dX1_link_64 : decode cX1_link 64 = .ok (.aload_n 1, 1) := dk_43 (dk_at dksX1_link_2 18 rfl rfl)
theorem dX1_link_65 : decode cX1_link 65 = .ok (.getfield 90, 3) := dk_180 0 90 (dk_at dksX1_link_2 19 rfl rfl)
theorem dX1_link_68 : decode cX1_link 68 = .ok (.if_icmp .ge 11, 3) := dk_162 0 11 (dk_at dksX1_link_3 0 rfl rfl)
theorem dX1_link_71 : decode cX1_link 71 = .ok (.aload_n 2, 1) := dk_44 (dk_at dksX1_link_3 3 rfl rfl)
theorem dX1_link_72 : decode cX1_link 72 = .ok (.getfield 93, 3) := dk_180 0 93 (dk_at dksX1_link_3 4 rfl rfl)
theorem dX1_link_75 : decode cX1_link 75 = .ok (.astore_n 2, 1) := dk_77 (dk_at dksX1_link_3 7 rfl rfl)
theorem dX1_link_76 : decode cX1_link 76 = .ok (.goto (-26), 3) := dk_167 255 230 (dk_at dksX1_link_3 8 rfl rfl)
theorem dX1_link_79 : decode cX1_link 79 = .ok (.aload_n 1, 1) := dk_43 (dk_at dksX1_link_3 11 rfl rfl)
theorem dX1_link_80 : decode cX1_link 80 = .ok (.aload_n 2, 1) := dk_44 (dk_at dksX1_link_3 12 rfl rfl)
theorem dX1_link_81 : decode cX1_link 81 = .ok (.getfield 93, 3) := dk_180 0 93 (dk_at dksX1_link_3 13 rfl rfl)
theorem dX1_link_84 : decode cX1_link 84 = .ok (.putfield 93, 3) := dk_181 0 93 (dk_at dksX1_link_3 16 rfl rfl)
theorem dX1_link_87 : decode cX1_link 87 = .ok (.aload_n 2, 1) := dk_44 (dk_at dksX1_link_3 19 rfl rfl)
theorem dX1_link_88 : decode cX1_link 88 = .ok (.aload_n 1, 1) := dk_43 (dk_at dksX1_link_3 20 rfl rfl)
theorem dX1_link_89 : decode cX1_link 89 = .ok (.putfield 93, 3) := dk_181 0 93 (dk_at dksX1_link_3 21 rfl rfl)
theorem dX1_link_92 : decode cX1_link 92 = .ok (.return_, 1) := dk_177 (dk_at dksX1_link_4 0 rfl rfl)
abbrev cX1_run : ByteArray := prog_1_method_24_code
def yX1_run : MethodName := ⟨RX1, "run", "()I"⟩
def dkwX1_run_4 : List UInt8 := [182, 0, 180, 42, 180, 0, 158, 172]
abbrev dktX1_run_4 : List UInt8 := dkwX1_run_4 ++ []
def dkwX1_run_3 : List UInt8 := [187, 0, 120, 89, 183, 0, 122, 191, 76, 42, 182, 0, 189, 187, 0, 123, 89, 183, 0, 125, 191, 42]
abbrev dktX1_run_3 : List UInt8 := dkwX1_run_3 ++ dktX1_run_4
def dkwX1_run_2 : List UInt8 := [183, 0, 112, 191, 76, 42, 182, 0, 189, 187, 0, 7, 89, 183, 0, 9, 191, 76, 42, 182, 0, 189]
abbrev dktX1_run_2 : List UInt8 := dkwX1_run_2 ++ dktX1_run_3
def dkwX1_run_1 : List UInt8 := [76, 42, 182, 0, 189, 187, 0, 71, 89, 183, 0, 73, 191, 76, 42, 182, 0, 189, 187, 0, 110, 89]
abbrev dktX1_run_1 : List UInt8 := dkwX1_run_1 ++ dktX1_run_2
def dkwX1_run_0 : List UInt8 := [42, 182, 0, 183, 42, 182, 0, 186, 167, 0, 81, 76, 42, 182, 0, 189, 187, 0, 65, 89, 183, 0, 67, 191]
abbrev dktX1_run_0 : List UInt8 := dkwX1_run_0 ++ dktX1_run_1
theorem dksX1_run_0 : cX1_run.data.toList.drop 0 = dktX1_run_0 := by decide +kernel
theorem dksX1_run_1 : cX1_run.data.toList.drop 24 = dktX1_run_1 := dk_seg dksX1_run_0 24 rfl rfl
theorem dksX1_run_2 : cX1_run.data.toList.drop 46 = dktX1_run_2 := dk_seg dksX1_run_1 22 rfl rfl
theorem dksX1_run_3 : cX1_run.data.toList.drop 68 = dktX1_run_3 := dk_seg dksX1_run_2 22 rfl rfl
theorem dksX1_run_4 : cX1_run.data.toList.drop 90 = dktX1_run_4 := dk_seg dksX1_run_3 22 rfl rfl
theorem dX1_run_0 : decode cX1_run 0 = .ok (.aload_n 0, 1) := dk_42 (dk_at dksX1_run_0 0 rfl rfl)
theorem dX1_run_1 : decode cX1_run 1 = .ok (.invokevirtual 183, 3) := dk_182 0 183 (dk_at dksX1_run_0 1 rfl rfl)
theorem dX1_run_4 : decode cX1_run 4 = .ok (.aload_n 0, 1) := dk_42 (dk_at dksX1_run_0 4 rfl rfl)
theorem dX1_run_5 : decode cX1_run 5 = .ok (.invokevirtual 186, 3) := dk_182 0 186 (dk_at dksX1_run_0 5 rfl rfl)
theorem dX1_run_8 : decode cX1_run 8 = .ok (.goto 81, 3) := dk_167 0 81 (dk_at dksX1_run_0 8 rfl rfl)
theorem dX1_run_11 : decode cX1_run 11 = .ok (.astore_n 1, 1) := dk_76 (dk_at dksX1_run_0 11 rfl rfl)
theorem dX1_run_12 : decode cX1_run 12 = .ok (.aload_n 0, 1) := dk_42 (dk_at dksX1_run_0 12 rfl rfl)
theorem dX1_run_13 : decode cX1_run 13 = .ok (.invokevirtual 189, 3) := dk_182 0 189 (dk_at dksX1_run_0 13 rfl rfl)
theorem dX1_run_16 : decode cX1_run 16 = .ok (.new 65, 3) := dk_187 0 65 (dk_at dksX1_run_0 16 rfl rfl)
theorem dX1_run_19 : decode cX1_run 19 = .ok (.dup, 1) := dk_89 (dk_at dksX1_run_0 19 rfl rfl)
theorem dX1_run_20 : decode cX1_run 20 = .ok (.invokespecial 67, 3) := dk_183 0 67 (dk_at dksX1_run_0 20 rfl rfl)
theorem dX1_run_23 : decode cX1_run 23 = .ok (.athrow, 1) := dk_191 (dk_at dksX1_run_0 23 rfl rfl)
theorem dX1_run_24 : decode cX1_run 24 = .ok (.astore_n 1, 1) := dk_76 (dk_at dksX1_run_1 0 rfl rfl)
theorem dX1_run_25 : decode cX1_run 25 = .ok (.aload_n 0, 1) := dk_42 (dk_at dksX1_run_1 1 rfl rfl)
theorem dX1_run_26 : decode cX1_run 26 = .ok (.invokevirtual 189, 3) := dk_182 0 189 (dk_at dksX1_run_1 2 rfl rfl)
theorem dX1_run_29 : decode cX1_run 29 = .ok (.new 71, 3) := dk_187 0 71 (dk_at dksX1_run_1 5 rfl rfl)
theorem dX1_run_32 : decode cX1_run 32 = .ok (.dup, 1) := dk_89 (dk_at dksX1_run_1 8 rfl rfl)
theorem dX1_run_33 : decode cX1_run 33 = .ok (.invokespecial 73, 3) := dk_183 0 73 (dk_at dksX1_run_1 9 rfl rfl)
theorem dX1_run_36 : decode cX1_run 36 = .ok (.athrow, 1) := dk_191 (dk_at dksX1_run_1 12 rfl rfl)
theorem dX1_run_37 : decode cX1_run 37 = .ok (.astore_n 1, 1) := dk_76 (dk_at dksX1_run_1 13 rfl rfl)
theorem dX1_run_38 : decode cX1_run 38 = .ok (.aload_n 0, 1) := dk_42 (dk_at dksX1_run_1 14 rfl rfl)
theorem dX1_run_39 : decode cX1_run 39 = .ok (.invokevirtual 189, 3) := dk_182 0 189 (dk_at dksX1_run_1 15 rfl rfl)
theorem dX1_run_42 : decode cX1_run 42 = .ok (.new 110, 3) := dk_187 0 110 (dk_at dksX1_run_1 18 rfl rfl)
theorem dX1_run_45 : decode cX1_run 45 = .ok (.dup, 1) := dk_89 (dk_at dksX1_run_1 21 rfl rfl)
theorem dX1_run_46 : decode cX1_run 46 = .ok (.invokespecial 112, 3) := dk_183 0 112 (dk_at dksX1_run_2 0 rfl rfl)
theorem dX1_run_49 : decode cX1_run 49 = .ok (.athrow, 1) := dk_191 (dk_at dksX1_run_2 3 rfl rfl)
theorem dX1_run_50 : decode cX1_run 50 = .ok (.astore_n 1, 1) := dk_76 (dk_at dksX1_run_2 4 rfl rfl)
theorem dX1_run_51 : decode cX1_run 51 = .ok (.aload_n 0, 1) := dk_42 (dk_at dksX1_run_2 5 rfl rfl)
theorem dX1_run_52 : decode cX1_run 52 = .ok (.invokevirtual 189, 3) := dk_182 0 189 (dk_at dksX1_run_2 6 rfl rfl)
theorem dX1_run_55 : decode cX1_run 55 = .ok (.new 7, 3) := dk_187 0 7 (dk_at dksX1_run_2 9 rfl rfl)
theorem dX1_run_58 : decode cX1_run 58 = .ok (.dup, 1) := dk_89 (dk_at dksX1_run_2 12 rfl rfl)
theorem dX1_run_59 : decode cX1_run 59 = .ok (.invokespecial 9, 3) := dk_183 0 9 (dk_at dksX1_run_2 13 rfl rfl)
theorem dX1_run_62 : decode cX1_run 62 = .ok (.athrow, 1) := dk_191 (dk_at dksX1_run_2 16 rfl rfl)
theorem dX1_run_63 : decode cX1_run 63 = .ok (.astore_n 1, 1) := dk_76 (dk_at dksX1_run_2 17 rfl rfl)
theorem dX1_run_64 : decode cX1_run 64 = .ok (.aload_n 0, 1) := dk_42 (dk_at dksX1_run_2 18 rfl rfl)
theorem dX1_run_65 : decode cX1_run 65 = .ok (.invokevirtual 189, 3) := dk_182 0 189 (dk_at dksX1_run_2 19 rfl rfl)
theorem dX1_run_68 : decode cX1_run 68 = .ok (.new 120, 3) := dk_187 0 120 (dk_at dksX1_run_3 0 rfl rfl)
theorem dX1_run_71 : decode cX1_run 71 = .ok (.dup, 1) := dk_89 (dk_at dksX1_run_3 3 rfl rfl)
theorem dX1_run_72 : decode cX1_run 72 = .ok (.invokespecial 122, 3) := dk_183 0 122 (dk_at dksX1_run_3 4 rfl rfl)
theorem dX1_run_75 : decode cX1_run 75 = .ok (.athrow, 1) := dk_191 (dk_at dksX1_run_3 7 rfl rfl)
theorem dX1_run_76 : decode cX1_run 76 = .ok (.astore_n 1, 1) := dk_76 (dk_at dksX1_run_3 8 rfl rfl)
theorem dX1_run_77 : decode cX1_run 77 = .ok (.aload_n 0, 1) := dk_42 (dk_at dksX1_run_3 9 rfl rfl)
theorem dX1_run_78 : decode cX1_run 78 = .ok (.invokevirtual 189, 3) := dk_182 0 189 (dk_at dksX1_run_3 10 rfl rfl)
theorem dX1_run_81 : decode cX1_run 81 = .ok (.new 123, 3) := dk_187 0 123 (dk_at dksX1_run_3 13 rfl rfl)
theorem dX1_run_84 : decode cX1_run 84 = .ok (.dup, 1) := dk_89 (dk_at dksX1_run_3 16 rfl rfl)
theorem dX1_run_85 : decode cX1_run 85 = .ok (.invokespecial 125, 3) := dk_183 0 125 (dk_at dksX1_run_3 17 rfl rfl)
theorem dX1_run_88 : decode cX1_run 88 = .ok (.athrow, 1) := dk_191 (dk_at dksX1_run_3 20 rfl rfl)
theorem dX1_run_89 : decode cX1_run 89 = .ok (.aload_n 0, 1) := dk_42 (dk_at dksX1_run_3 21 rfl rfl)
theorem dX1_run_90 : decode cX1_run 90 = .ok (.invokevirtual 180, 3) := dk_182 0 180 (dk_at dksX1_run_4 0 rfl rfl)
theorem dX1_run_93 : decode cX1_run 93 = .ok (.aload_n 0, 1) := dk_42 (dk_at dksX1_run_4 3 rfl rfl)
theorem dX1_run_94 : decode cX1_run 94 = .ok (.getfield 158, 3) := dk_180 0 158 (dk_at dksX1_run_4 4 rfl rfl)
theorem dX1_run_97 : decode cX1_run 97 = .ok (.ireturn, 1) := dk_172 (dk_at dksX1_run_4 7 rfl rfl)
abbrev cX1_begin : ByteArray := prog_1_method_19_code
def yX1_begin : MethodName := ⟨RX1, "begin", "()V"⟩
def dkwX1_begin_4 : List UInt8 := [167, 0, 4, 3, 181, 0, 126, 177]
abbrev dktX1_begin_4 : List UInt8 := dkwX1_begin_4 ++ []
def dkwX1_begin_3 : List UInt8 := [181, 0, 130, 42, 3, 181, 0, 158, 42, 2, 181, 0, 62, 42, 42, 180, 0, 86, 199, 0, 7, 4]
abbrev dktX1_begin_3 : List UInt8 := dkwX1_begin_3 ++ dktX1_begin_4
def dkwX1_begin_2 : List UInt8 := [42, 3, 181, 0, 149, 42, 3, 181, 0, 152, 42, 3, 181, 0, 139, 42, 3, 181, 0, 155, 42, 3]
abbrev dktX1_begin_2 : List UInt8 := dkwX1_begin_2 ++ dktX1_begin_3
def dkwX1_begin_1 : List UInt8 := [6, 162, 0, 23, 42, 180, 0, 30, 27, 1, 83, 42, 180, 0, 36, 27, 1, 83, 132, 1, 1, 167, 255, 234]
abbrev dktX1_begin_1 : List UInt8 := dkwX1_begin_1 ++ dktX1_begin_2
def dkwX1_begin_0 : List UInt8 := [3, 60, 27, 16, 26, 162, 0, 16, 42, 180, 0, 24, 27, 14, 82, 132, 1, 1, 167, 255, 240, 3, 60, 27]
abbrev dktX1_begin_0 : List UInt8 := dkwX1_begin_0 ++ dktX1_begin_1
theorem dksX1_begin_0 : cX1_begin.data.toList.drop 0 = dktX1_begin_0 := by decide +kernel
theorem dksX1_begin_1 : cX1_begin.data.toList.drop 24 = dktX1_begin_1 := dk_seg dksX1_begin_0 24 rfl rfl
theorem dksX1_begin_2 : cX1_begin.data.toList.drop 48 = dktX1_begin_2 := dk_seg dksX1_begin_1 24 rfl rfl
theorem dksX1_begin_3 : cX1_begin.data.toList.drop 70 = dktX1_begin_3 := dk_seg dksX1_begin_2 22 rfl rfl
theorem dksX1_begin_4 : cX1_begin.data.toList.drop 92 = dktX1_begin_4 := dk_seg dksX1_begin_3 22 rfl rfl
theorem dX1_begin_0 : decode cX1_begin 0 = .ok (.iconst 0, 1) := dk_3 (dk_at dksX1_begin_0 0 rfl rfl)
theorem dX1_begin_1 : decode cX1_begin 1 = .ok (.istore_n 1, 1) := dk_60 (dk_at dksX1_begin_0 1 rfl rfl)
theorem dX1_begin_2 : decode cX1_begin 2 = .ok (.iload_n 1, 1) := dk_27 (dk_at dksX1_begin_0 2 rfl rfl)
theorem dX1_begin_3 : decode cX1_begin 3 = .ok (.bipush 26, 2) := dk_16 26 (dk_at dksX1_begin_0 3 rfl rfl)
theorem dX1_begin_5 : decode cX1_begin 5 = .ok (.if_icmp .ge 16, 3) := dk_162 0 16 (dk_at dksX1_begin_0 5 rfl rfl)
theorem dX1_begin_8 : decode cX1_begin 8 = .ok (.aload_n 0, 1) := dk_42 (dk_at dksX1_begin_0 8 rfl rfl)
theorem dX1_begin_9 : decode cX1_begin 9 = .ok (.getfield 24, 3) := dk_180 0 24 (dk_at dksX1_begin_0 9 rfl rfl)
theorem dX1_begin_12 : decode cX1_begin 12 = .ok (.iload_n 1, 1) := dk_27 (dk_at dksX1_begin_0 12 rfl rfl)
theorem dX1_begin_13 : decode cX1_begin 13 = .ok (.dconst 0, 1) := dk_14 (dk_at dksX1_begin_0 13 rfl rfl)
theorem dX1_begin_14 : decode cX1_begin 14 = .ok (.dastore, 1) := dk_82 (dk_at dksX1_begin_0 14 rfl rfl)
theorem dX1_begin_15 : decode cX1_begin 15 = .ok (.iinc 1 1, 3) := dk_132 1 1 (dk_at dksX1_begin_0 15 rfl rfl)
theorem dX1_begin_18 : decode cX1_begin 18 = .ok (.goto (-16), 3) := dk_167 255 240 (dk_at dksX1_begin_0 18 rfl rfl)
theorem dX1_begin_21 : decode cX1_begin 21 = .ok (.iconst 0, 1) := dk_3 (dk_at dksX1_begin_0 21 rfl rfl)
theorem dX1_begin_22 : decode cX1_begin 22 = .ok (.istore_n 1, 1) := dk_60 (dk_at dksX1_begin_0 22 rfl rfl)
theorem dX1_begin_23 : decode cX1_begin 23 = .ok (.iload_n 1, 1) := dk_27 (dk_at dksX1_begin_0 23 rfl rfl)
theorem dX1_begin_24 : decode cX1_begin 24 = .ok (.iconst 3, 1) := dk_6 (dk_at dksX1_begin_1 0 rfl rfl)
theorem dX1_begin_25 : decode cX1_begin 25 = .ok (.if_icmp .ge 23, 3) := dk_162 0 23 (dk_at dksX1_begin_1 1 rfl rfl)
theorem dX1_begin_28 : decode cX1_begin 28 = .ok (.aload_n 0, 1) := dk_42 (dk_at dksX1_begin_1 4 rfl rfl)
theorem dX1_begin_29 : decode cX1_begin 29 = .ok (.getfield 30, 3) := dk_180 0 30 (dk_at dksX1_begin_1 5 rfl rfl)
theorem dX1_begin_32 : decode cX1_begin 32 = .ok (.iload_n 1, 1) := dk_27 (dk_at dksX1_begin_1 8 rfl rfl)
theorem dX1_begin_33 : decode cX1_begin 33 = .ok (.aconst_null, 1) := dk_1 (dk_at dksX1_begin_1 9 rfl rfl)
theorem dX1_begin_34 : decode cX1_begin 34 = .ok (.aastore, 1) := dk_83 (dk_at dksX1_begin_1 10 rfl rfl)
theorem dX1_begin_35 : decode cX1_begin 35 = .ok (.aload_n 0, 1) := dk_42 (dk_at dksX1_begin_1 11 rfl rfl)
theorem dX1_begin_36 : decode cX1_begin 36 = .ok (.getfield 36, 3) := dk_180 0 36 (dk_at dksX1_begin_1 12 rfl rfl)
theorem dX1_begin_39 : decode cX1_begin 39 = .ok (.iload_n 1, 1) := dk_27 (dk_at dksX1_begin_1 15 rfl rfl)
theorem dX1_begin_40 : decode cX1_begin 40 = .ok (.aconst_null, 1) := dk_1 (dk_at dksX1_begin_1 16 rfl rfl)
theorem dX1_begin_41 : decode cX1_begin 41 = .ok (.aastore, 1) := dk_83 (dk_at dksX1_begin_1 17 rfl rfl)
theorem dX1_begin_42 : decode cX1_begin 42 = .ok (.iinc 1 1, 3) := dk_132 1 1 (dk_at dksX1_begin_1 18 rfl rfl)
theorem dX1_begin_45 : decode cX1_begin 45 = .ok (.goto (-22), 3) := dk_167 255 234 (dk_at dksX1_begin_1 21 rfl rfl)
theorem dX1_begin_48 : decode cX1_begin 48 = .ok (.aload_n 0, 1) := dk_42 (dk_at dksX1_begin_2 0 rfl rfl)
theorem dX1_begin_49 : decode cX1_begin 49 = .ok (.iconst 0, 1) := dk_3 (dk_at dksX1_begin_2 1 rfl rfl)
theorem dX1_begin_50 : decode cX1_begin 50 = .ok (.putfield 149, 3) := dk_181 0 149 (dk_at dksX1_begin_2 2 rfl rfl)
theorem dX1_begin_53 : decode cX1_begin 53 = .ok (.aload_n 0, 1) := dk_42 (dk_at dksX1_begin_2 5 rfl rfl)
theorem dX1_begin_54 : decode cX1_begin 54 = .ok (.iconst 0, 1) := dk_3 (dk_at dksX1_begin_2 6 rfl rfl)
theorem dX1_begin_55 : decode cX1_begin 55 = .ok (.putfield 152, 3) := dk_181 0 152 (dk_at dksX1_begin_2 7 rfl rfl)
theorem dX1_begin_58 : decode cX1_begin 58 = .ok (.aload_n 0, 1) := dk_42 (dk_at dksX1_begin_2 10 rfl rfl)
theorem dX1_begin_59 : decode cX1_begin 59 = .ok (.iconst 0, 1) := dk_3 (dk_at dksX1_begin_2 11 rfl rfl)
theorem dX1_begin_60 : decode cX1_begin 60 = .ok (.putfield 139, 3) := dk_181 0 139 (dk_at dksX1_begin_2 12 rfl rfl)
theorem dX1_begin_63 : decode cX1_begin 63 = .ok (.aload_n 0, 1) := dk_42 (dk_at dksX1_begin_2 15 rfl rfl)
theorem dX1_begin_64 : decode cX1_begin 64 = .ok (.iconst 0, 1) := dk_3 (dk_at dksX1_begin_2 16 rfl rfl)
theorem dX1_begin_65 : decode cX1_begin 65 = .ok (.putfield 155, 3) := dk_181 0 155 (dk_at dksX1_begin_2 17 rfl rfl)
theorem dX1_begin_68 : decode cX1_begin 68 = .ok (.aload_n 0, 1) := dk_42 (dk_at dksX1_begin_2 20 rfl rfl)
theorem dX1_begin_69 : decode cX1_begin 69 = .ok (.iconst 0, 1) := dk_3 (dk_at dksX1_begin_2 21 rfl rfl)
theorem dX1_begin_70 : decode cX1_begin 70 = .ok (.putfield 130, 3) := dk_181 0 130 (dk_at dksX1_begin_3 0 rfl rfl)
theorem dX1_begin_73 : decode cX1_begin 73 = .ok (.aload_n 0, 1) := dk_42 (dk_at dksX1_begin_3 3 rfl rfl)
theorem dX1_begin_74 : decode cX1_begin 74 = .ok (.iconst 0, 1) := dk_3 (dk_at dksX1_begin_3 4 rfl rfl)
theorem dX1_begin_75 : decode cX1_begin 75 = .ok (.putfield 158, 3) := dk_181 0 158 (dk_at dksX1_begin_3 5 rfl rfl)
theorem dX1_begin_78 : decode cX1_begin 78 = .ok (.aload_n 0, 1) := dk_42 (dk_at dksX1_begin_3 8 rfl rfl)
theorem dX1_begin_79 : decode cX1_begin 79 = .ok (.iconst (-1), 1) := dk_2 (dk_at dksX1_begin_3 9 rfl rfl)
theorem dX1_begin_80 : decode cX1_begin 80 = .ok (.putfield 62, 3) := dk_181 0 62 (dk_at dksX1_begin_3 10 rfl rfl)
theorem dX1_begin_83 : decode cX1_begin 83 = .ok (.aload_n 0, 1) := dk_42 (dk_at dksX1_begin_3 13 rfl rfl)
theorem dX1_begin_84 : decode cX1_begin 84 = .ok (.aload_n 0, 1) := dk_42 (dk_at dksX1_begin_3 14 rfl rfl)
theorem dX1_begin_85 : decode cX1_begin 85 = .ok (.getfield 86, 3) := dk_180 0 86 (dk_at dksX1_begin_3 15 rfl rfl)
theorem dX1_begin_88 : decode cX1_begin 88 = .ok (.ifnonnull 7, 3) := dk_199 0 7 (dk_at dksX1_begin_3 18 rfl rfl)
theorem dX1_begin_91 : decode cX1_begin 91 = .ok (.iconst 1, 1) := dk_4 (dk_at dksX1_begin_3 21 rfl rfl)
theorem dX1_begin_92 : decode cX1_begin 92 = .ok (.goto 4, 3) := dk_167 0 4 (dk_at dksX1_begin_4 0 rfl rfl)
theorem dX1_begin_95 : decode cX1_begin 95 = .ok (.iconst 0, 1) := dk_3 (dk_at dksX1_begin_4 3 rfl rfl)
theorem dX1_begin_96 : decode cX1_begin 96 = .ok (.putfield 126, 3) := dk_181 0 126 (dk_at dksX1_begin_4 4 rfl rfl)
theorem dX1_begin_99 : decode cX1_begin 99 = .ok (.return_, 1) := dk_177 (dk_at dksX1_begin_4 7 rfl rfl)
abbrev cX1_go : ByteArray := prog_1_method_20_code
def yX1_go : MethodName := ⟨RX1, "go", "()V"⟩
def dkwX1_go_3 : List UInt8 := [153, 0, 7, 44, 167, 0, 8, 42, 43, 182, 0, 167, 76, 167, 255, 180, 177]
abbrev dktX1_go_3 : List UInt8 := dkwX1_go_3 ++ []
def dkwX1_go_2 : List UInt8 := [181, 0, 62, 43, 180, 0, 106, 42, 43, 185, 0, 161, 3, 0, 77, 44, 199, 0, 10, 42, 180, 0, 126]
abbrev dktX1_go_2 : List UInt8 := dkwX1_go_2 ++ dktX1_go_3
def dkwX1_go_1 : List UInt8 := [187, 0, 71, 89, 183, 0, 73, 191, 42, 89, 180, 0, 158, 4, 96, 181, 0, 158, 42, 43, 180, 0, 90]
abbrev dktX1_go_1 : List UInt8 := dkwX1_go_1 ++ dktX1_go_2
def dkwX1_go_0 : List UInt8 := [42, 180, 0, 86, 76, 42, 180, 0, 126, 154, 0, 75, 42, 180, 0, 158, 17, 1, 44, 160, 0, 11]
abbrev dktX1_go_0 : List UInt8 := dkwX1_go_0 ++ dktX1_go_1
theorem dksX1_go_0 : cX1_go.data.toList.drop 0 = dktX1_go_0 := by decide +kernel
theorem dksX1_go_1 : cX1_go.data.toList.drop 22 = dktX1_go_1 := dk_seg dksX1_go_0 22 rfl rfl
theorem dksX1_go_2 : cX1_go.data.toList.drop 45 = dktX1_go_2 := dk_seg dksX1_go_1 23 rfl rfl
theorem dksX1_go_3 : cX1_go.data.toList.drop 68 = dktX1_go_3 := dk_seg dksX1_go_2 23 rfl rfl
theorem dX1_go_0 : decode cX1_go 0 = .ok (.aload_n 0, 1) := dk_42 (dk_at dksX1_go_0 0 rfl rfl)
theorem dX1_go_1 : decode cX1_go 1 = .ok (.getfield 86, 3) := dk_180 0 86 (dk_at dksX1_go_0 1 rfl rfl)
theorem dX1_go_4 : decode cX1_go 4 = .ok (.astore_n 1, 1) := dk_76 (dk_at dksX1_go_0 4 rfl rfl)
theorem dX1_go_5 : decode cX1_go 5 = .ok (.aload_n 0, 1) := dk_42 (dk_at dksX1_go_0 5 rfl rfl)
theorem dX1_go_6 : decode cX1_go 6 = .ok (.getfield 126, 3) := dk_180 0 126 (dk_at dksX1_go_0 6 rfl rfl)
theorem dX1_go_9 : decode cX1_go 9 = .ok (.ifCond .ne 75, 3) := dk_154 0 75 (dk_at dksX1_go_0 9 rfl rfl)
theorem dX1_go_12 : decode cX1_go 12 = .ok (.aload_n 0, 1) := dk_42 (dk_at dksX1_go_0 12 rfl rfl)
theorem dX1_go_13 : decode cX1_go 13 = .ok (.getfield 158, 3) := dk_180 0 158 (dk_at dksX1_go_0 13 rfl rfl)
theorem dX1_go_16 : decode cX1_go 16 = .ok (.sipush 300, 3) := dk_17 1 44 (dk_at dksX1_go_0 16 rfl rfl)
theorem dX1_go_19 : decode cX1_go 19 = .ok (.if_icmp .ne 11, 3) := dk_160 0 11 (dk_at dksX1_go_0 19 rfl rfl)
theorem dX1_go_22 : decode cX1_go 22 = .ok (.new 71, 3) := dk_187 0 71 (dk_at dksX1_go_1 0 rfl rfl)
theorem dX1_go_25 : decode cX1_go 25 = .ok (.dup, 1) := dk_89 (dk_at dksX1_go_1 3 rfl rfl)
theorem dX1_go_26 : decode cX1_go 26 = .ok (.invokespecial 73, 3) := dk_183 0 73 (dk_at dksX1_go_1 4 rfl rfl)
theorem dX1_go_29 : decode cX1_go 29 = .ok (.athrow, 1) := dk_191 (dk_at dksX1_go_1 7 rfl rfl)
theorem dX1_go_30 : decode cX1_go 30 = .ok (.aload_n 0, 1) := dk_42 (dk_at dksX1_go_1 8 rfl rfl)
theorem dX1_go_31 : decode cX1_go 31 = .ok (.dup, 1) := dk_89 (dk_at dksX1_go_1 9 rfl rfl)
theorem dX1_go_32 : decode cX1_go 32 = .ok (.getfield 158, 3) := dk_180 0 158 (dk_at dksX1_go_1 10 rfl rfl)
theorem dX1_go_35 : decode cX1_go 35 = .ok (.iconst 1, 1) := dk_4 (dk_at dksX1_go_1 13 rfl rfl)
theorem dX1_go_36 : decode cX1_go 36 = .ok (.iadd, 1) := dk_96 (dk_at dksX1_go_1 14 rfl rfl)
theorem dX1_go_37 : decode cX1_go 37 = .ok (.putfield 158, 3) := dk_181 0 158 (dk_at dksX1_go_1 15 rfl rfl)
theorem dX1_go_40 : decode cX1_go 40 = .ok (.aload_n 0, 1) := dk_42 (dk_at dksX1_go_1 18 rfl rfl)
theorem dX1_go_41 : decode cX1_go 41 = .ok (.aload_n 1, 1) := dk_43 (dk_at dksX1_go_1 19 rfl rfl)
theorem dX1_go_42 : decode cX1_go 42 = .ok (.getfield 90, 3) := dk_180 0 90 (dk_at dksX1_go_1 20 rfl rfl)
theorem dX1_go_45 : decode cX1_go 45 = .ok (.putfield 62, 3) := dk_181 0 62 (dk_at dksX1_go_2 0 rfl rfl)
theorem dX1_go_48 : decode cX1_go 48 = .ok (.aload_n 1, 1) := dk_43 (dk_at dksX1_go_2 3 rfl rfl)
theorem dX1_go_49 : decode cX1_go 49 = .ok (.getfield 106, 3) := dk_180 0 106 (dk_at dksX1_go_2 4 rfl rfl)
theorem dX1_go_52 : decode cX1_go 52 = .ok (.aload_n 0, 1) := dk_42 (dk_at dksX1_go_2 7 rfl rfl)
theorem dX1_go_53 : decode cX1_go 53 = .ok (.aload_n 1, 1) := dk_43 (dk_at dksX1_go_2 8 rfl rfl)
theorem dX1_go_54 : decode cX1_go 54 = .ok (.invokeinterface 161 3, 5) := by decide +kernel
theorem dX1_go_59 : decode cX1_go 59 = .ok (.astore_n 2, 1) := dk_77 (dk_at dksX1_go_2 14 rfl rfl)
theorem dX1_go_60 : decode cX1_go 60 = .ok (.aload_n 2, 1) := dk_44 (dk_at dksX1_go_2 15 rfl rfl)
theorem dX1_go_61 : decode cX1_go 61 = .ok (.ifnonnull 10, 3) := dk_199 0 10 (dk_at dksX1_go_2 16 rfl rfl)
theorem dX1_go_64 : decode cX1_go 64 = .ok (.aload_n 0, 1) := dk_42 (dk_at dksX1_go_2 19 rfl rfl)
theorem dX1_go_65 : decode cX1_go 65 = .ok (.getfield 126, 3) := dk_180 0 126 (dk_at dksX1_go_2 20 rfl rfl)
theorem dX1_go_68 : decode cX1_go 68 = .ok (.ifCond .eq 7, 3) := dk_153 0 7 (dk_at dksX1_go_3 0 rfl rfl)
theorem dX1_go_71 : decode cX1_go 71 = .ok (.aload_n 2, 1) := dk_44 (dk_at dksX1_go_3 3 rfl rfl)
theorem dX1_go_72 : decode cX1_go 72 = .ok (.goto 8, 3) := dk_167 0 8 (dk_at dksX1_go_3 4 rfl rfl)
theorem dX1_go_75 : decode cX1_go 75 = .ok (.aload_n 0, 1) := dk_42 (dk_at dksX1_go_3 7 rfl rfl)
theorem dX1_go_76 : decode cX1_go 76 = .ok (.aload_n 1, 1) := dk_43 (dk_at dksX1_go_3 8 rfl rfl)
theorem dX1_go_77 : decode cX1_go 77 = .ok (.invokevirtual 167, 3) := dk_182 0 167 (dk_at dksX1_go_3 9 rfl rfl)
theorem dX1_go_80 : decode cX1_go 80 = .ok (.astore_n 1, 1) := dk_76 (dk_at dksX1_go_3 12 rfl rfl)
theorem dX1_go_81 : decode cX1_go 81 = .ok (.goto (-76), 3) := dk_167 255 180 (dk_at dksX1_go_3 13 rfl rfl)
theorem dX1_go_84 : decode cX1_go 84 = .ok (.return_, 1) := dk_177 (dk_at dksX1_go_3 16 rfl rfl)
abbrev cX1_whole : ByteArray := prog_1_method_2_code
def yX1_whole : MethodName := ⟨RX1, "whole", "(D)J"⟩
theorem dX1_whole_0 : decode cX1_whole 0 = .ok (.dload_n 0, 1) := by decide +kernel
theorem dX1_whole_1 : decode cX1_whole 1 = .ok (.d2l, 1) := by decide +kernel
theorem dX1_whole_2 : decode cX1_whole 2 = .ok (.lreturn, 1) := by decide +kernel
abbrev cX1_checked : ByteArray := prog_1_method_1_code
def yX1_checked : MethodName := ⟨RX1, "checked", "(D)D"⟩
def dkwX1_checked_1 : List UInt8 := [38, 175]
abbrev dktX1_checked_1 : List UInt8 := dkwX1_checked_1 ++ []
def dkwX1_checked_0 : List UInt8 := [38, 20, 0, 3, 151, 157, 0, 11, 38, 20, 0, 5, 152, 156, 0, 11, 187, 0, 7, 89, 183, 0, 9, 191]
abbrev dktX1_checked_0 : List UInt8 := dkwX1_checked_0 ++ dktX1_checked_1
theorem dksX1_checked_0 : cX1_checked.data.toList.drop 0 = dktX1_checked_0 := by decide +kernel
theorem dksX1_checked_1 : cX1_checked.data.toList.drop 24 = dktX1_checked_1 := dk_seg dksX1_checked_0 24 rfl rfl
theorem dX1_checked_0 : decode cX1_checked 0 = .ok (.dload_n 0, 1) := dk_38 (dk_at dksX1_checked_0 0 rfl rfl)
theorem dX1_checked_1 : decode cX1_checked 1 = .ok (.ldc2_w 3, 3) := dk_20 0 3 (dk_at dksX1_checked_0 1 rfl rfl)
theorem dX1_checked_4 : decode cX1_checked 4 = .ok (.dcmp .l, 1) := dk_151 (dk_at dksX1_checked_0 4 rfl rfl)
theorem dX1_checked_5 : decode cX1_checked 5 = .ok (.ifCond .gt 11, 3) := dk_157 0 11 (dk_at dksX1_checked_0 5 rfl rfl)
theorem dX1_checked_8 : decode cX1_checked 8 = .ok (.dload_n 0, 1) := dk_38 (dk_at dksX1_checked_0 8 rfl rfl)
theorem dX1_checked_9 : decode cX1_checked 9 = .ok (.ldc2_w 5, 3) := dk_20 0 5 (dk_at dksX1_checked_0 9 rfl rfl)
theorem dX1_checked_12 : decode cX1_checked 12 = .ok (.dcmp .g, 1) := dk_152 (dk_at dksX1_checked_0 12 rfl rfl)
theorem dX1_checked_13 : decode cX1_checked 13 = .ok (.ifCond .ge 11, 3) := dk_156 0 11 (dk_at dksX1_checked_0 13 rfl rfl)
theorem dX1_checked_16 : decode cX1_checked 16 = .ok (.new 7, 3) := dk_187 0 7 (dk_at dksX1_checked_0 16 rfl rfl)
theorem dX1_checked_19 : decode cX1_checked 19 = .ok (.dup, 1) := dk_89 (dk_at dksX1_checked_0 19 rfl rfl)
theorem dX1_checked_20 : decode cX1_checked 20 = .ok (.invokespecial 9, 3) := dk_183 0 9 (dk_at dksX1_checked_0 20 rfl rfl)
theorem dX1_checked_23 : decode cX1_checked 23 = .ok (.athrow, 1) := dk_191 (dk_at dksX1_checked_0 23 rfl rfl)
theorem dX1_checked_24 : decode cX1_checked 24 = .ok (.dload_n 0, 1) := dk_38 (dk_at dksX1_checked_1 0 rfl rfl)
theorem dX1_checked_25 : decode cX1_checked 25 = .ok (.dreturn, 1) := dk_175 (dk_at dksX1_checked_1 1 rfl rfl)
abbrev cX1_matrix : ByteArray := prog_1_method_12_code
def yX1_matrix : MethodName := ⟨RX1, "matrix", "(I)LBasicMachine$Matrix;"⟩
def dkwX1_matrix_0 : List UInt8 := [42, 180, 0, 30, 27, 50, 199, 0, 11, 187, 0, 120, 89, 183, 0, 122, 191, 42, 180, 0, 30, 27, 50, 176]
abbrev dktX1_matrix_0 : List UInt8 := dkwX1_matrix_0 ++ []
theorem dksX1_matrix_0 : cX1_matrix.data.toList.drop 0 = dktX1_matrix_0 := by decide +kernel
theorem dX1_matrix_0 : decode cX1_matrix 0 = .ok (.aload_n 0, 1) := dk_42 (dk_at dksX1_matrix_0 0 rfl rfl)
theorem dX1_matrix_1 : decode cX1_matrix 1 = .ok (.getfield 30, 3) := dk_180 0 30 (dk_at dksX1_matrix_0 1 rfl rfl)
theorem dX1_matrix_4 : decode cX1_matrix 4 = .ok (.iload_n 1, 1) := dk_27 (dk_at dksX1_matrix_0 4 rfl rfl)
theorem dX1_matrix_5 : decode cX1_matrix 5 = .ok (.aaload, 1) := dk_50 (dk_at dksX1_matrix_0 5 rfl rfl)
theorem dX1_matrix_6 : decode cX1_matrix 6 = .ok (.ifnonnull 11, 3) := dk_199 0 11 (dk_at dksX1_matrix_0 6 rfl rfl)
theorem dX1_matrix_9 : decode cX1_matrix 9 = .ok (.new 120, 3) := dk_187 0 120 (dk_at dksX1_matrix_0 9 rfl rfl)
theorem dX1_matrix_12 : decode cX1_matrix 12 = .ok (.dup, 1) := dk_89 (dk_at dksX1_matrix_0 12 rfl rfl)
theorem dX1_matrix_13 : decode cX1_matrix 13 = .ok (.invokespecial 122, 3) := dk_183 0 122 (dk_at dksX1_matrix_0 13 rfl rfl)
theorem dX1_matrix_16 : decode cX1_matrix 16 = .ok (.athrow, 1) := dk_191 (dk_at dksX1_matrix_0 16 rfl rfl)
theorem dX1_matrix_17 : decode cX1_matrix 17 = .ok (.aload_n 0, 1) := dk_42 (dk_at dksX1_matrix_0 17 rfl rfl)
theorem dX1_matrix_18 : decode cX1_matrix 18 = .ok (.getfield 30, 3) := dk_180 0 30 (dk_at dksX1_matrix_0 18 rfl rfl)
theorem dX1_matrix_21 : decode cX1_matrix 21 = .ok (.iload_n 1, 1) := dk_27 (dk_at dksX1_matrix_0 21 rfl rfl)
theorem dX1_matrix_22 : decode cX1_matrix 22 = .ok (.aaload, 1) := dk_50 (dk_at dksX1_matrix_0 22 rfl rfl)
theorem dX1_matrix_23 : decode cX1_matrix 23 = .ok (.areturn, 1) := dk_176 (dk_at dksX1_matrix_0 23 rfl rfl)
abbrev cX1_leave : ByteArray := prog_1_method_22_code
def yX1_leave : MethodName := ⟨RX1, "leave", "()V"⟩
def dkwX1_leave_1 : List UInt8 := [180, 0, 44, 42, 180, 0, 149, 49, 82, 177]
abbrev dktX1_leave_1 : List UInt8 := dkwX1_leave_1 ++ []
def dkwX1_leave_0 : List UInt8 := [42, 89, 180, 0, 149, 4, 100, 181, 0, 149, 42, 180, 0, 24, 42, 180, 0, 40, 42, 180, 0, 149, 46, 42]
abbrev dktX1_leave_0 : List UInt8 := dkwX1_leave_0 ++ dktX1_leave_1
theorem dksX1_leave_0 : cX1_leave.data.toList.drop 0 = dktX1_leave_0 := by decide +kernel
theorem dksX1_leave_1 : cX1_leave.data.toList.drop 24 = dktX1_leave_1 := dk_seg dksX1_leave_0 24 rfl rfl
theorem dX1_leave_0 : decode cX1_leave 0 = .ok (.aload_n 0, 1) := dk_42 (dk_at dksX1_leave_0 0 rfl rfl)
theorem dX1_leave_1 : decode cX1_leave 1 = .ok (.dup, 1) := dk_89 (dk_at dksX1_leave_0 1 rfl rfl)
theorem dX1_leave_2 : decode cX1_leave 2 = .ok (.getfield 149, 3) := dk_180 0 149 (dk_at dksX1_leave_0 2 rfl rfl)
theorem dX1_leave_5 : decode cX1_leave 5 = .ok (.iconst 1, 1) := dk_4 (dk_at dksX1_leave_0 5 rfl rfl)
theorem dX1_leave_6 : decode cX1_leave 6 = .ok (.isub, 1) := dk_100 (dk_at dksX1_leave_0 6 rfl rfl)
theorem dX1_leave_7 : decode cX1_leave 7 = .ok (.putfield 149, 3) := dk_181 0 149 (dk_at dksX1_leave_0 7 rfl rfl)
theorem dX1_leave_10 : decode cX1_leave 10 = .ok (.aload_n 0, 1) := dk_42 (dk_at dksX1_leave_0 10 rfl rfl)
theorem dX1_leave_11 : decode cX1_leave 11 = .ok (.getfield 24, 3) := dk_180 0 24 (dk_at dksX1_leave_0 11 rfl rfl)
theorem dX1_leave_14 : decode cX1_leave 14 = .ok (.aload_n 0, 1) := dk_42 (dk_at dksX1_leave_0 14 rfl rfl)
theorem dX1_leave_15 : decode cX1_leave 15 = .ok (.getfield 40, 3) := dk_180 0 40 (dk_at dksX1_leave_0 15 rfl rfl)
theorem dX1_leave_18 : decode cX1_leave 18 = .ok (.aload_n 0, 1) := dk_42 (dk_at dksX1_leave_0 18 rfl rfl)
theorem dX1_leave_19 : decode cX1_leave 19 = .ok (.getfield 149, 3) := dk_180 0 149 (dk_at dksX1_leave_0 19 rfl rfl)
theorem dX1_leave_22 : decode cX1_leave 22 = .ok (.iaload, 1) := dk_46 (dk_at dksX1_leave_0 22 rfl rfl)
theorem dX1_leave_23 : decode cX1_leave 23 = .ok (.aload_n 0, 1) := dk_42 (dk_at dksX1_leave_0 23 rfl rfl)
theorem dX1_leave_24 : decode cX1_leave 24 = .ok (.getfield 44, 3) := dk_180 0 44 (dk_at dksX1_leave_1 0 rfl rfl)
theorem dX1_leave_27 : decode cX1_leave 27 = .ok (.aload_n 0, 1) := dk_42 (dk_at dksX1_leave_1 3 rfl rfl)
theorem dX1_leave_28 : decode cX1_leave 28 = .ok (.getfield 149, 3) := dk_180 0 149 (dk_at dksX1_leave_1 4 rfl rfl)
theorem dX1_leave_31 : decode cX1_leave 31 = .ok (.daload, 1) := dk_49 (dk_at dksX1_leave_1 7 rfl rfl)
theorem dX1_leave_32 : decode cX1_leave 32 = .ok (.dastore, 1) := dk_82 (dk_at dksX1_leave_1 8 rfl rfl)
theorem dX1_leave_33 : decode cX1_leave 33 = .ok (.return_, 1) := dk_177 (dk_at dksX1_leave_1 9 rfl rfl)
abbrev cX1_loop : ByteArray := prog_1_method_17_code
def yX1_loop : MethodName := ⟨RX1, "loop", "(I)I"⟩
def dkwX1_loop_1 : List UInt8 := [132, 2, 255, 167, 255, 236, 28, 172]
abbrev dktX1_loop_1 : List UInt8 := dkwX1_loop_1 ++ []
def dkwX1_loop_0 : List UInt8 := [42, 180, 0, 139, 4, 100, 61, 28, 155, 0, 22, 42, 180, 0, 55, 28, 50, 182, 0, 142, 27, 159, 0, 9]
abbrev dktX1_loop_0 : List UInt8 := dkwX1_loop_0 ++ dktX1_loop_1
theorem dksX1_loop_0 : cX1_loop.data.toList.drop 0 = dktX1_loop_0 := by decide +kernel
theorem dksX1_loop_1 : cX1_loop.data.toList.drop 24 = dktX1_loop_1 := dk_seg dksX1_loop_0 24 rfl rfl
theorem dX1_loop_0 : decode cX1_loop 0 = .ok (.aload_n 0, 1) := dk_42 (dk_at dksX1_loop_0 0 rfl rfl)
theorem dX1_loop_1 : decode cX1_loop 1 = .ok (.getfield 139, 3) := dk_180 0 139 (dk_at dksX1_loop_0 1 rfl rfl)
theorem dX1_loop_4 : decode cX1_loop 4 = .ok (.iconst 1, 1) := dk_4 (dk_at dksX1_loop_0 4 rfl rfl)
theorem dX1_loop_5 : decode cX1_loop 5 = .ok (.isub, 1) := dk_100 (dk_at dksX1_loop_0 5 rfl rfl)
theorem dX1_loop_6 : decode cX1_loop 6 = .ok (.istore_n 2, 1) := dk_61 (dk_at dksX1_loop_0 6 rfl rfl)
theorem dX1_loop_7 : decode cX1_loop 7 = .ok (.iload_n 2, 1) := dk_28 (dk_at dksX1_loop_0 7 rfl rfl)
theorem dX1_loop_8 : decode cX1_loop 8 = .ok (.ifCond .lt 22, 3) := dk_155 0 22 (dk_at dksX1_loop_0 8 rfl rfl)
theorem dX1_loop_11 : decode cX1_loop 11 = .ok (.aload_n 0, 1) := dk_42 (dk_at dksX1_loop_0 11 rfl rfl)
theorem dX1_loop_12 : decode cX1_loop 12 = .ok (.getfield 55, 3) := dk_180 0 55 (dk_at dksX1_loop_0 12 rfl rfl)
theorem dX1_loop_15 : decode cX1_loop 15 = .ok (.iload_n 2, 1) := dk_28 (dk_at dksX1_loop_0 15 rfl rfl)
theorem dX1_loop_16 : decode cX1_loop 16 = .ok (.aaload, 1) := dk_50 (dk_at dksX1_loop_0 16 rfl rfl)
theorem dX1_loop_17 : decode cX1_loop 17 = .ok (.invokevirtual 142, 3) := dk_182 0 142 (dk_at dksX1_loop_0 17 rfl rfl)
theorem dX1_loop_20 : decode cX1_loop 20 = .ok (.iload_n 1, 1) := dk_27 (dk_at dksX1_loop_0 20 rfl rfl)
theorem dX1_loop_21 : decode cX1_loop 21 = .ok (.if_icmp .eq 9, 3) := dk_159 0 9 (dk_at dksX1_loop_0 21 rfl rfl)
theorem dX1_loop_24 : decode cX1_loop 24 = .ok (.iinc 2 (-1), 3) := dk_132 2 255 (dk_at dksX1_loop_1 0 rfl rfl)
theorem dX1_loop_27 : decode cX1_loop 27 = .ok (.goto (-20), 3) := dk_167 255 236 (dk_at dksX1_loop_1 3 rfl rfl)
theorem dX1_loop_30 : decode cX1_loop 30 = .ok (.iload_n 2, 1) := dk_28 (dk_at dksX1_loop_1 6 rfl rfl)
theorem dX1_loop_31 : decode cX1_loop 31 = .ok (.ireturn, 1) := dk_172 (dk_at dksX1_loop_1 7 rfl rfl)
abbrev cX1_nextOf : ByteArray := prog_1_method_18_code
def yX1_nextOf : MethodName := ⟨RX1, "nextOf", "(ILBasicMachine$Line;)LBasicMachine$Line;"⟩
def dkwX1_nextOf_2 : List UInt8 := [183, 0, 73, 191]
abbrev dktX1_nextOf_2 : List UInt8 := dkwX1_nextOf_2 ++ []
def dkwX1_nextOf_1 : List UInt8 := [192, 0, 146, 182, 0, 148, 27, 160, 0, 5, 45, 176, 45, 180, 0, 93, 78, 167, 255, 221, 187, 0, 71, 89]
abbrev dktX1_nextOf_1 : List UInt8 := dkwX1_nextOf_1 ++ dktX1_nextOf_2
def dkwX1_nextOf_0 : List UInt8 := [44, 180, 0, 93, 78, 45, 198, 0, 37, 45, 180, 0, 106, 193, 0, 146, 153, 0, 19, 45, 180, 0, 106]
abbrev dktX1_nextOf_0 : List UInt8 := dkwX1_nextOf_0 ++ dktX1_nextOf_1
theorem dksX1_nextOf_0 : cX1_nextOf.data.toList.drop 0 = dktX1_nextOf_0 := by decide +kernel
theorem dksX1_nextOf_1 : cX1_nextOf.data.toList.drop 23 = dktX1_nextOf_1 := dk_seg dksX1_nextOf_0 23 rfl rfl
theorem dksX1_nextOf_2 : cX1_nextOf.data.toList.drop 47 = dktX1_nextOf_2 := dk_seg dksX1_nextOf_1 24 rfl rfl
theorem dX1_nextOf_0 : decode cX1_nextOf 0 = .ok (.aload_n 2, 1) := dk_44 (dk_at dksX1_nextOf_0 0 rfl rfl)
theorem dX1_nextOf_1 : decode cX1_nextOf 1 = .ok (.getfield 93, 3) := dk_180 0 93 (dk_at dksX1_nextOf_0 1 rfl rfl)
theorem dX1_nextOf_4 : decode cX1_nextOf 4 = .ok (.astore_n 3, 1) := dk_78 (dk_at dksX1_nextOf_0 4 rfl rfl)
theorem dX1_nextOf_5 : decode cX1_nextOf 5 = .ok (.aload_n 3, 1) := dk_45 (dk_at dksX1_nextOf_0 5 rfl rfl)
theorem dX1_nextOf_6 : decode cX1_nextOf 6 = .ok (.ifnull 37, 3) := dk_198 0 37 (dk_at dksX1_nextOf_0 6 rfl rfl)
theorem dX1_nextOf_9 : decode cX1_nextOf 9 = .ok (.aload_n 3, 1) := dk_45 (dk_at dksX1_nextOf_0 9 rfl rfl)
theorem dX1_nextOf_10 : decode cX1_nextOf 10 = .ok (.getfield 106, 3) := dk_180 0 106 (dk_at dksX1_nextOf_0 10 rfl rfl)
theorem dX1_nextOf_13 : decode cX1_nextOf 13 = .ok (.instanceof 146, 3) := dk_193 0 146 (dk_at dksX1_nextOf_0 13 rfl rfl)
theorem dX1_nextOf_16 : decode cX1_nextOf 16 = .ok (.ifCond .eq 19, 3) := dk_153 0 19 (dk_at dksX1_nextOf_0 16 rfl rfl)
theorem dX1_nextOf_19 : decode cX1_nextOf 19 = .ok (.aload_n 3, 1) := dk_45 (dk_at dksX1_nextOf_0 19 rfl rfl)
theorem dX1_nextOf_20 : decode cX1_nextOf 20 = .ok (.getfield 106, 3) := dk_180 0 106 (dk_at dksX1_nextOf_0 20 rfl rfl)
theorem dX1_nextOf_23 : decode cX1_nextOf 23 = .ok (.checkcast 146, 3) := dk_192 0 146 (dk_at dksX1_nextOf_1 0 rfl rfl)
theorem dX1_nextOf_26 : decode cX1_nextOf 26 = .ok (.invokevirtual 148, 3) := dk_182 0 148 (dk_at dksX1_nextOf_1 3 rfl rfl)
theorem dX1_nextOf_29 : decode cX1_nextOf 29 = .ok (.iload_n 1, 1) := dk_27 (dk_at dksX1_nextOf_1 6 rfl rfl)
theorem dX1_nextOf_30 : decode cX1_nextOf 30 = .ok (.if_icmp .ne 5, 3) := dk_160 0 5 (dk_at dksX1_nextOf_1 7 rfl rfl)
theorem dX1_nextOf_33 : decode cX1_nextOf 33 = .ok (.aload_n 3, 1) := dk_45 (dk_at dksX1_nextOf_1 10 rfl rfl)
theorem dX1_nextOf_34 : decode cX1_nextOf 34 = .ok (.areturn, 1) := dk_176 (dk_at dksX1_nextOf_1 11 rfl rfl)
theorem dX1_nextOf_35 : decode cX1_nextOf 35 = .ok (.aload_n 3, 1) := dk_45 (dk_at dksX1_nextOf_1 12 rfl rfl)
theorem dX1_nextOf_36 : decode cX1_nextOf 36 = .ok (.getfield 93, 3) := dk_180 0 93 (dk_at dksX1_nextOf_1 13 rfl rfl)
theorem dX1_nextOf_39 : decode cX1_nextOf 39 = .ok (.astore_n 3, 1) := dk_78 (dk_at dksX1_nextOf_1 16 rfl rfl)
theorem dX1_nextOf_40 : decode cX1_nextOf 40 = .ok (.goto (-35), 3) := dk_167 255 221 (dk_at dksX1_nextOf_1 17 rfl rfl)
theorem dX1_nextOf_43 : decode cX1_nextOf 43 = .ok (.new 71, 3) := dk_187 0 71 (dk_at dksX1_nextOf_1 20 rfl rfl)
theorem dX1_nextOf_46 : decode cX1_nextOf 46 = .ok (.dup, 1) := dk_89 (dk_at dksX1_nextOf_1 23 rfl rfl)
theorem dX1_nextOf_47 : decode cX1_nextOf 47 = .ok (.invokespecial 73, 3) := dk_183 0 73 (dk_at dksX1_nextOf_2 0 rfl rfl)
theorem dX1_nextOf_50 : decode cX1_nextOf 50 = .ok (.athrow, 1) := dk_191 (dk_at dksX1_nextOf_2 3 rfl rfl)
abbrev cX1_after : ByteArray := prog_1_method_15_code
def yX1_after : MethodName := ⟨RX1, "after", "(LBasicMachine$Line;)LBasicMachine$Line;"⟩
def dkwX1_after_0 : List UInt8 := [43, 180, 0, 93, 199, 0, 8, 42, 4, 181, 0, 126, 43, 180, 0, 93, 176]
abbrev dktX1_after_0 : List UInt8 := dkwX1_after_0 ++ []
theorem dksX1_after_0 : cX1_after.data.toList.drop 0 = dktX1_after_0 := by decide +kernel
theorem dX1_after_0 : decode cX1_after 0 = .ok (.aload_n 1, 1) := dk_43 (dk_at dksX1_after_0 0 rfl rfl)
theorem dX1_after_1 : decode cX1_after 1 = .ok (.getfield 93, 3) := dk_180 0 93 (dk_at dksX1_after_0 1 rfl rfl)
theorem dX1_after_4 : decode cX1_after 4 = .ok (.ifnonnull 8, 3) := dk_199 0 8 (dk_at dksX1_after_0 4 rfl rfl)
theorem dX1_after_7 : decode cX1_after 7 = .ok (.aload_n 0, 1) := dk_42 (dk_at dksX1_after_0 7 rfl rfl)
theorem dX1_after_8 : decode cX1_after 8 = .ok (.iconst 1, 1) := dk_4 (dk_at dksX1_after_0 8 rfl rfl)
theorem dX1_after_9 : decode cX1_after 9 = .ok (.putfield 126, 3) := dk_181 0 126 (dk_at dksX1_after_0 9 rfl rfl)
theorem dX1_after_12 : decode cX1_after 12 = .ok (.aload_n 1, 1) := dk_43 (dk_at dksX1_after_0 12 rfl rfl)
theorem dX1_after_13 : decode cX1_after 13 = .ok (.getfield 93, 3) := dk_180 0 93 (dk_at dksX1_after_0 13 rfl rfl)
theorem dX1_after_16 : decode cX1_after 16 = .ok (.areturn, 1) := dk_176 (dk_at dksX1_after_0 16 rfl rfl)
abbrev cX1_line : ByteArray := prog_1_method_14_code
def yX1_line : MethodName := ⟨RX1, "line", "(I)LBasicMachine$Line;"⟩
def dkwX1_line_0 : List UInt8 := [42, 27, 182, 0, 102, 77, 44, 199, 0, 11, 187, 0, 110, 89, 183, 0, 112, 191, 44, 176]
abbrev dktX1_line_0 : List UInt8 := dkwX1_line_0 ++ []
theorem dksX1_line_0 : cX1_line.data.toList.drop 0 = dktX1_line_0 := by decide +kernel
theorem dX1_line_0 : decode cX1_line 0 = .ok (.aload_n 0, 1) := dk_42 (dk_at dksX1_line_0 0 rfl rfl)
theorem dX1_line_1 : decode cX1_line 1 = .ok (.iload_n 1, 1) := dk_27 (dk_at dksX1_line_0 1 rfl rfl)
theorem dX1_line_2 : decode cX1_line 2 = .ok (.invokevirtual 102, 3) := dk_182 0 102 (dk_at dksX1_line_0 2 rfl rfl)
theorem dX1_line_5 : decode cX1_line 5 = .ok (.astore_n 2, 1) := dk_77 (dk_at dksX1_line_0 5 rfl rfl)
theorem dX1_line_6 : decode cX1_line 6 = .ok (.aload_n 2, 1) := dk_44 (dk_at dksX1_line_0 6 rfl rfl)
theorem dX1_line_7 : decode cX1_line 7 = .ok (.ifnonnull 11, 3) := dk_199 0 11 (dk_at dksX1_line_0 7 rfl rfl)
theorem dX1_line_10 : decode cX1_line 10 = .ok (.new 110, 3) := dk_187 0 110 (dk_at dksX1_line_0 10 rfl rfl)
theorem dX1_line_13 : decode cX1_line 13 = .ok (.dup, 1) := dk_89 (dk_at dksX1_line_0 13 rfl rfl)
theorem dX1_line_14 : decode cX1_line 14 = .ok (.invokespecial 112, 3) := dk_183 0 112 (dk_at dksX1_line_0 14 rfl rfl)
theorem dX1_line_17 : decode cX1_line 17 = .ok (.athrow, 1) := dk_191 (dk_at dksX1_line_0 17 rfl rfl)
theorem dX1_line_18 : decode cX1_line 18 = .ok (.aload_n 2, 1) := dk_44 (dk_at dksX1_line_0 18 rfl rfl)
theorem dX1_line_19 : decode cX1_line 19 = .ok (.areturn, 1) := dk_176 (dk_at dksX1_line_0 19 rfl rfl)
abbrev cX1_known : ByteArray := prog_1_method_13_code
def yX1_known : MethodName := ⟨RX1, "known", "(I)LBasicMachine$Matrix;"⟩
def dkwX1_known_0 : List UInt8 := [42, 180, 0, 30, 27, 50, 199, 0, 11, 187, 0, 123, 89, 183, 0, 125, 191, 42, 180, 0, 30, 27, 50, 176]
abbrev dktX1_known_0 : List UInt8 := dkwX1_known_0 ++ []
theorem dksX1_known_0 : cX1_known.data.toList.drop 0 = dktX1_known_0 := by decide +kernel
theorem dX1_known_0 : decode cX1_known 0 = .ok (.aload_n 0, 1) := dk_42 (dk_at dksX1_known_0 0 rfl rfl)
theorem dX1_known_1 : decode cX1_known 1 = .ok (.getfield 30, 3) := dk_180 0 30 (dk_at dksX1_known_0 1 rfl rfl)
theorem dX1_known_4 : decode cX1_known 4 = .ok (.iload_n 1, 1) := dk_27 (dk_at dksX1_known_0 4 rfl rfl)
theorem dX1_known_5 : decode cX1_known 5 = .ok (.aaload, 1) := dk_50 (dk_at dksX1_known_0 5 rfl rfl)
theorem dX1_known_6 : decode cX1_known 6 = .ok (.ifnonnull 11, 3) := dk_199 0 11 (dk_at dksX1_known_0 6 rfl rfl)
theorem dX1_known_9 : decode cX1_known 9 = .ok (.new 123, 3) := dk_187 0 123 (dk_at dksX1_known_0 9 rfl rfl)
theorem dX1_known_12 : decode cX1_known 12 = .ok (.dup, 1) := dk_89 (dk_at dksX1_known_0 12 rfl rfl)
theorem dX1_known_13 : decode cX1_known 13 = .ok (.invokespecial 125, 3) := dk_183 0 125 (dk_at dksX1_known_0 13 rfl rfl)
theorem dX1_known_16 : decode cX1_known 16 = .ok (.athrow, 1) := dk_191 (dk_at dksX1_known_0 16 rfl rfl)
theorem dX1_known_17 : decode cX1_known 17 = .ok (.aload_n 0, 1) := dk_42 (dk_at dksX1_known_0 17 rfl rfl)
theorem dX1_known_18 : decode cX1_known 18 = .ok (.getfield 30, 3) := dk_180 0 30 (dk_at dksX1_known_0 18 rfl rfl)
theorem dX1_known_21 : decode cX1_known 21 = .ok (.iload_n 1, 1) := dk_27 (dk_at dksX1_known_0 21 rfl rfl)
theorem dX1_known_22 : decode cX1_known 22 = .ok (.aaload, 1) := dk_50 (dk_at dksX1_known_0 22 rfl rfl)
theorem dX1_known_23 : decode cX1_known 23 = .ok (.areturn, 1) := dk_176 (dk_at dksX1_known_0 23 rfl rfl)
abbrev cX1_read : ByteArray := prog_1_method_16_code
def yX1_read : MethodName := ⟨RX1, "read", "()D"⟩
def dkwX1_read_3 : List UInt8 := [167, 255, 198, 187, 0, 110, 89, 183, 0, 112, 191]
abbrev dktX1_read_3 : List UInt8 := dkwX1_read_3 ++ []
def dkwX1_read_2 : List UInt8 := [180, 0, 130, 4, 96, 181, 0, 130, 45, 27, 49, 175, 27, 45, 190, 100, 60, 44, 180, 0, 93, 77]
abbrev dktX1_read_2 : List UInt8 := dkwX1_read_2 ++ dktX1_read_3
def dkwX1_read_1 : List UInt8 := [167, 0, 39, 44, 180, 0, 106, 192, 0, 133, 182, 0, 135, 78, 27, 45, 190, 162, 0, 17, 42, 89]
abbrev dktX1_read_1 : List UInt8 := dkwX1_read_1 ++ dktX1_read_2
def dkwX1_read_0 : List UInt8 := [42, 180, 0, 130, 60, 42, 180, 0, 86, 77, 44, 198, 0, 60, 44, 180, 0, 106, 193, 0, 133, 154, 0, 6]
abbrev dktX1_read_0 : List UInt8 := dkwX1_read_0 ++ dktX1_read_1
theorem dksX1_read_0 : cX1_read.data.toList.drop 0 = dktX1_read_0 := by decide +kernel
theorem dksX1_read_1 : cX1_read.data.toList.drop 24 = dktX1_read_1 := dk_seg dksX1_read_0 24 rfl rfl
theorem dksX1_read_2 : cX1_read.data.toList.drop 46 = dktX1_read_2 := dk_seg dksX1_read_1 22 rfl rfl
theorem dksX1_read_3 : cX1_read.data.toList.drop 68 = dktX1_read_3 := dk_seg dksX1_read_2 22 rfl rfl
theorem dX1_read_0 : decode cX1_read 0 = .ok (.aload_n 0, 1) := dk_42 (dk_at dksX1_read_0 0 rfl rfl)
theorem dX1_read_1 : decode cX1_read 1 = .ok (.getfield 130, 3) := dk_180 0 130 (dk_at dksX1_read_0 1 rfl rfl)
theorem dX1_read_4 : decode cX1_read 4 = .ok (.istore_n 1, 1) := dk_60 (dk_at dksX1_read_0 4 rfl rfl)
theorem dX1_read_5 : decode cX1_read 5 = .ok (.aload_n 0, 1) := dk_42 (dk_at dksX1_read_0 5 rfl rfl)
theorem dX1_read_6 : decode cX1_read 6 = .ok (.getfield 86, 3) := dk_180 0 86 (dk_at dksX1_read_0 6 rfl rfl)
theorem dX1_read_9 : decode cX1_read 9 = .ok (.astore_n 2, 1) := dk_77 (dk_at dksX1_read_0 9 rfl rfl)
theorem dX1_read_10 : decode cX1_read 10 = .ok (.aload_n 2, 1) := dk_44 (dk_at dksX1_read_0 10 rfl rfl)
theorem dX1_read_11 : decode cX1_read 11 = .ok (.ifnull 60, 3) := dk_198 0 60 (dk_at dksX1_read_0 11 rfl rfl)
theorem dX1_read_14 : decode cX1_read 14 = .ok (.aload_n 2, 1) := dk_44 (dk_at dksX1_read_0 14 rfl rfl)
theorem dX1_read_15 : decode cX1_read 15 = .ok (.getfield 106, 3) := dk_180 0 106 (dk_at dksX1_read_0 15 rfl rfl)
theorem dX1_read_18 : decode cX1_read 18 = .ok (.instanceof 133, 3) := dk_193 0 133 (dk_at dksX1_read_0 18 rfl rfl)
theorem dX1_read_21 : decode cX1_read 21 = .ok (.ifCond .ne 6, 3) := dk_154 0 6 (dk_at dksX1_read_0 21 rfl rfl)
theorem dX1_read_24 : decode cX1_read 24 = .ok (.goto 39, 3) := dk_167 0 39 (dk_at dksX1_read_1 0 rfl rfl)
theorem dX1_read_27 : decode cX1_read 27 = .ok (.aload_n 2, 1) := dk_44 (dk_at dksX1_read_1 3 rfl rfl)
theorem dX1_read_28 : decode cX1_read 28 = .ok (.getfield 106, 3) := dk_180 0 106 (dk_at dksX1_read_1 4 rfl rfl)
theorem dX1_read_31 : decode cX1_read 31 = .ok (.checkcast 133, 3) := dk_192 0 133 (dk_at dksX1_read_1 7 rfl rfl)
theorem dX1_read_34 : decode cX1_read 34 = .ok (.invokevirtual 135, 3) := dk_182 0 135 (dk_at dksX1_read_1 10 rfl rfl)
theorem dX1_read_37 : decode cX1_read 37 = .ok (.astore_n 3, 1) := dk_78 (dk_at dksX1_read_1 13 rfl rfl)
theorem dX1_read_38 : decode cX1_read 38 = .ok (.iload_n 1, 1) := dk_27 (dk_at dksX1_read_1 14 rfl rfl)
theorem dX1_read_39 : decode cX1_read 39 = .ok (.aload_n 3, 1) := dk_45 (dk_at dksX1_read_1 15 rfl rfl)
theorem dX1_read_40 : decode cX1_read 40 = .ok (.arraylength, 1) := dk_190 (dk_at dksX1_read_1 16 rfl rfl)
theorem dX1_read_41 : decode cX1_read 41 = .ok (.if_icmp .ge 17, 3) := dk_162 0 17 (dk_at dksX1_read_1 17 rfl rfl)
theorem dX1_read_44 : decode cX1_read 44 = .ok (.aload_n 0, 1) := dk_42 (dk_at dksX1_read_1 20 rfl rfl)
theorem dX1_read_45 : decode cX1_read 45 = .ok (.dup, 1) := dk_89 (dk_at dksX1_read_1 21 rfl rfl)
theorem dX1_read_46 : decode cX1_read 46 = .ok (.getfield 130, 3) := dk_180 0 130 (dk_at dksX1_read_2 0 rfl rfl)
theorem dX1_read_49 : decode cX1_read 49 = .ok (.iconst 1, 1) := dk_4 (dk_at dksX1_read_2 3 rfl rfl)
theorem dX1_read_50 : decode cX1_read 50 = .ok (.iadd, 1) := dk_96 (dk_at dksX1_read_2 4 rfl rfl)
theorem dX1_read_51 : decode cX1_read 51 = .ok (.putfield 130, 3) := dk_181 0 130 (dk_at dksX1_read_2 5 rfl rfl)
theorem dX1_read_54 : decode cX1_read 54 = .ok (.aload_n 3, 1) := dk_45 (dk_at dksX1_read_2 8 rfl rfl)
theorem dX1_read_55 : decode cX1_read 55 = .ok (.iload_n 1, 1) := dk_27 (dk_at dksX1_read_2 9 rfl rfl)
theorem dX1_read_56 : decode cX1_read 56 = .ok (.daload, 1) := dk_49 (dk_at dksX1_read_2 10 rfl rfl)
theorem dX1_read_57 : decode cX1_read 57 = .ok (.dreturn, 1) := dk_175 (dk_at dksX1_read_2 11 rfl rfl)
theorem dX1_read_58 : decode cX1_read 58 = .ok (.iload_n 1, 1) := dk_27 (dk_at dksX1_read_2 12 rfl rfl)
theorem dX1_read_59 : decode cX1_read 59 = .ok (.aload_n 3, 1) := dk_45 (dk_at dksX1_read_2 13 rfl rfl)
theorem dX1_read_60 : decode cX1_read 60 = .ok (.arraylength, 1) := dk_190 (dk_at dksX1_read_2 14 rfl rfl)
theorem dX1_read_61 : decode cX1_read 61 = .ok (.isub, 1) := dk_100 (dk_at dksX1_read_2 15 rfl rfl)
theorem dX1_read_62 : decode cX1_read 62 = .ok (.istore_n 1, 1) := dk_60 (dk_at dksX1_read_2 16 rfl rfl)
theorem dX1_read_63 : decode cX1_read 63 = .ok (.aload_n 2, 1) := dk_44 (dk_at dksX1_read_2 17 rfl rfl)
theorem dX1_read_64 : decode cX1_read 64 = .ok (.getfield 93, 3) := dk_180 0 93 (dk_at dksX1_read_2 18 rfl rfl)
theorem dX1_read_67 : decode cX1_read 67 = .ok (.astore_n 2, 1) := dk_77 (dk_at dksX1_read_2 21 rfl rfl)
theorem dX1_read_68 : decode cX1_read 68 = .ok (.goto (-58), 3) := dk_167 255 198 (dk_at dksX1_read_3 0 rfl rfl)
theorem dX1_read_71 : decode cX1_read 71 = .ok (.new 110, 3) := dk_187 0 110 (dk_at dksX1_read_3 3 rfl rfl)
theorem dX1_read_74 : decode cX1_read 74 = .ok (.dup, 1) := dk_89 (dk_at dksX1_read_3 6 rfl rfl)
theorem dX1_read_75 : decode cX1_read 75 = .ok (.invokespecial 112, 3) := dk_183 0 112 (dk_at dksX1_read_3 7 rfl rfl)
theorem dX1_read_78 : decode cX1_read 78 = .ok (.athrow, 1) := dk_191 (dk_at dksX1_read_3 10 rfl rfl)
abbrev cX1_failed : ByteArray := prog_1_method_23_code
def yX1_failed : MethodName := ⟨RX1, "failed", "()V"⟩
def dkwX1_failed_1 : List UInt8 := [42, 182, 0, 180, 177]
abbrev dktX1_failed_1 : List UInt8 := dkwX1_failed_1 ++ []
def dkwX1_failed_0 : List UInt8 := [42, 89, 180, 0, 174, 4, 96, 181, 0, 174, 42, 180, 0, 149, 158, 0, 10, 42, 182, 0, 177, 167, 255, 245]
abbrev dktX1_failed_0 : List UInt8 := dkwX1_failed_0 ++ dktX1_failed_1
theorem dksX1_failed_0 : cX1_failed.data.toList.drop 0 = dktX1_failed_0 := by decide +kernel
theorem dksX1_failed_1 : cX1_failed.data.toList.drop 24 = dktX1_failed_1 := dk_seg dksX1_failed_0 24 rfl rfl
theorem dX1_failed_0 : decode cX1_failed 0 = .ok (.aload_n 0, 1) := dk_42 (dk_at dksX1_failed_0 0 rfl rfl)
theorem dX1_failed_1 : decode cX1_failed 1 = .ok (.dup, 1) := dk_89 (dk_at dksX1_failed_0 1 rfl rfl)
theorem dX1_failed_2 : decode cX1_failed 2 = .ok (.getfield 174, 3) := dk_180 0 174 (dk_at dksX1_failed_0 2 rfl rfl)
theorem dX1_failed_5 : decode cX1_failed 5 = .ok (.iconst 1, 1) := dk_4 (dk_at dksX1_failed_0 5 rfl rfl)
theorem dX1_failed_6 : decode cX1_failed 6 = .ok (.iadd, 1) := dk_96 (dk_at dksX1_failed_0 6 rfl rfl)
theorem dX1_failed_7 : decode cX1_failed 7 = .ok (.putfield 174, 3) := dk_181 0 174 (dk_at dksX1_failed_0 7 rfl rfl)
theorem dX1_failed_10 : decode cX1_failed 10 = .ok (.aload_n 0, 1) := dk_42 (dk_at dksX1_failed_0 10 rfl rfl)
theorem dX1_failed_11 : decode cX1_failed 11 = .ok (.getfield 149, 3) := dk_180 0 149 (dk_at dksX1_failed_0 11 rfl rfl)
theorem dX1_failed_14 : decode cX1_failed 14 = .ok (.ifCond .le 10, 3) := dk_158 0 10 (dk_at dksX1_failed_0 14 rfl rfl)
theorem dX1_failed_17 : decode cX1_failed 17 = .ok (.aload_n 0, 1) := dk_42 (dk_at dksX1_failed_0 17 rfl rfl)
theorem dX1_failed_18 : decode cX1_failed 18 = .ok (.invokevirtual 177, 3) := dk_182 0 177 (dk_at dksX1_failed_0 18 rfl rfl)
theorem dX1_failed_21 : decode cX1_failed 21 = .ok (.goto (-11), 3) := dk_167 255 245 (dk_at dksX1_failed_0 21 rfl rfl)
theorem dX1_failed_24 : decode cX1_failed 24 = .ok (.aload_n 0, 1) := dk_42 (dk_at dksX1_failed_1 0 rfl rfl)
theorem dX1_failed_25 : decode cX1_failed 25 = .ok (.invokevirtual 180, 3) := dk_182 0 180 (dk_at dksX1_failed_1 1 rfl rfl)
theorem dX1_failed_28 : decode cX1_failed 28 = .ok (.return_, 1) := dk_177 (dk_at dksX1_failed_1 4 rfl rfl)
abbrev cX1_settle : ByteArray := prog_1_method_21_code
def yX1_settle : MethodName := ⟨RX1, "settle", "()V"⟩
def dkwX1_settle_2 : List UInt8 := [181, 0, 171, 43, 180, 0, 93, 76, 167, 255, 217, 177]
abbrev dktX1_settle_2 : List UInt8 := dkwX1_settle_2 ++ []
def dkwX1_settle_1 : List UInt8 := [193, 0, 133, 153, 0, 23, 42, 89, 180, 0, 171, 43, 180, 0, 106, 192, 0, 133, 182, 0, 135, 190, 96]
abbrev dktX1_settle_1 : List UInt8 := dkwX1_settle_1 ++ dktX1_settle_2
def dkwX1_settle_0 : List UInt8 := [42, 42, 180, 0, 130, 116, 181, 0, 171, 42, 180, 0, 86, 76, 43, 198, 0, 41, 43, 180, 0, 106]
abbrev dktX1_settle_0 : List UInt8 := dkwX1_settle_0 ++ dktX1_settle_1
theorem dksX1_settle_0 : cX1_settle.data.toList.drop 0 = dktX1_settle_0 := by decide +kernel
theorem dksX1_settle_1 : cX1_settle.data.toList.drop 22 = dktX1_settle_1 := dk_seg dksX1_settle_0 22 rfl rfl
theorem dksX1_settle_2 : cX1_settle.data.toList.drop 45 = dktX1_settle_2 := dk_seg dksX1_settle_1 23 rfl rfl
theorem dX1_settle_0 : decode cX1_settle 0 = .ok (.aload_n 0, 1) := dk_42 (dk_at dksX1_settle_0 0 rfl rfl)
theorem dX1_settle_1 : decode cX1_settle 1 = .ok (.aload_n 0, 1) := dk_42 (dk_at dksX1_settle_0 1 rfl rfl)
theorem dX1_settle_2 : decode cX1_settle 2 = .ok (.getfield 130, 3) := dk_180 0 130 (dk_at dksX1_settle_0 2 rfl rfl)
theorem dX1_settle_5 : decode cX1_settle 5 = .ok (.ineg, 1) := dk_116 (dk_at dksX1_settle_0 5 rfl rfl)
theorem dX1_settle_6 : decode cX1_settle 6 = .ok (.putfield 171, 3) := dk_181 0 171 (dk_at dksX1_settle_0 6 rfl rfl)
theorem dX1_settle_9 : decode cX1_settle 9 = .ok (.aload_n 0, 1) := dk_42 (dk_at dksX1_settle_0 9 rfl rfl)
theorem dX1_settle_10 : decode cX1_settle 10 = .ok (.getfield 86, 3) := dk_180 0 86 (dk_at dksX1_settle_0 10 rfl rfl)
theorem dX1_settle_13 : decode cX1_settle 13 = .ok (.astore_n 1, 1) := dk_76 (dk_at dksX1_settle_0 13 rfl rfl)
theorem dX1_settle_14 : decode cX1_settle 14 = .ok (.aload_n 1, 1) := dk_43 (dk_at dksX1_settle_0 14 rfl rfl)
theorem dX1_settle_15 : decode cX1_settle 15 = .ok (.ifnull 41, 3) := dk_198 0 41 (dk_at dksX1_settle_0 15 rfl rfl)
theorem dX1_settle_18 : decode cX1_settle 18 = .ok (.aload_n 1, 1) := dk_43 (dk_at dksX1_settle_0 18 rfl rfl)
theorem dX1_settle_19 : decode cX1_settle 19 = .ok (.getfield 106, 3) := dk_180 0 106 (dk_at dksX1_settle_0 19 rfl rfl)
theorem dX1_settle_22 : decode cX1_settle 22 = .ok (.instanceof 133, 3) := dk_193 0 133 (dk_at dksX1_settle_1 0 rfl rfl)
theorem dX1_settle_25 : decode cX1_settle 25 = .ok (.ifCond .eq 23, 3) := dk_153 0 23 (dk_at dksX1_settle_1 3 rfl rfl)
theorem dX1_settle_28 : decode cX1_settle 28 = .ok (.aload_n 0, 1) := dk_42 (dk_at dksX1_settle_1 6 rfl rfl)
theorem dX1_settle_29 : decode cX1_settle 29 = .ok (.dup, 1) := dk_89 (dk_at dksX1_settle_1 7 rfl rfl)
theorem dX1_settle_30 : decode cX1_settle 30 = .ok (.getfield 171, 3) := dk_180 0 171 (dk_at dksX1_settle_1 8 rfl rfl)
theorem dX1_settle_33 : decode cX1_settle 33 = .ok (.aload_n 1, 1) := dk_43 (dk_at dksX1_settle_1 11 rfl rfl)
theorem dX1_settle_34 : decode cX1_settle 34 = .ok (.getfield 106, 3) := dk_180 0 106 (dk_at dksX1_settle_1 12 rfl rfl)
theorem dX1_settle_37 : decode cX1_settle 37 = .ok (.checkcast 133, 3) := dk_192 0 133 (dk_at dksX1_settle_1 15 rfl rfl)
theorem dX1_settle_40 : decode cX1_settle 40 = .ok (.invokevirtual 135, 3) := dk_182 0 135 (dk_at dksX1_settle_1 18 rfl rfl)
theorem dX1_settle_43 : decode cX1_settle 43 = .ok (.arraylength, 1) := dk_190 (dk_at dksX1_settle_1 21 rfl rfl)
theorem dX1_settle_44 : decode cX1_settle 44 = .ok (.iadd, 1) := dk_96 (dk_at dksX1_settle_1 22 rfl rfl)
theorem dX1_settle_45 : decode cX1_settle 45 = .ok (.putfield 171, 3) := dk_181 0 171 (dk_at dksX1_settle_2 0 rfl rfl)
theorem dX1_settle_48 : decode cX1_settle 48 = .ok (.aload_n 1, 1) := dk_43 (dk_at dksX1_settle_2 3 rfl rfl)
theorem dX1_settle_49 : decode cX1_settle 49 = .ok (.getfield 93, 3) := dk_180 0 93 (dk_at dksX1_settle_2 4 rfl rfl)
theorem dX1_settle_52 : decode cX1_settle 52 = .ok (.astore_n 1, 1) := dk_76 (dk_at dksX1_settle_2 7 rfl rfl)
theorem dX1_settle_53 : decode cX1_settle 53 = .ok (.goto (-39), 3) := dk_167 255 217 (dk_at dksX1_settle_2 8 rfl rfl)
theorem dX1_settle_56 : decode cX1_settle 56 = .ok (.return_, 1) := dk_177 (dk_at dksX1_settle_2 11 rfl rfl)
abbrev cX1_printed : ByteArray := prog_1_method_25_code
def yX1_printed : MethodName := ⟨RX1, "printed", "(I)D"⟩
def dkwX1_printed_1 : List UInt8 := [183, 0, 112, 191, 42, 180, 0, 59, 27, 49, 175]
abbrev dktX1_printed_1 : List UInt8 := dkwX1_printed_1 ++ []
def dkwX1_printed_0 : List UInt8 := [27, 155, 0, 17, 27, 42, 180, 0, 155, 162, 0, 9, 27, 16, 40, 161, 0, 11, 187, 0, 110, 89]
abbrev dktX1_printed_0 : List UInt8 := dkwX1_printed_0 ++ dktX1_printed_1
theorem dksX1_printed_0 : cX1_printed.data.toList.drop 0 = dktX1_printed_0 := by decide +kernel
theorem dksX1_printed_1 : cX1_printed.data.toList.drop 22 = dktX1_printed_1 := dk_seg dksX1_printed_0 22 rfl rfl
theorem dX1_printed_0 : decode cX1_printed 0 = .ok (.iload_n 1, 1) := dk_27 (dk_at dksX1_printed_0 0 rfl rfl)
theorem dX1_printed_1 : decode cX1_printed 1 = .ok (.ifCond .lt 17, 3) := dk_155 0 17 (dk_at dksX1_printed_0 1 rfl rfl)
theorem dX1_printed_4 : decode cX1_printed 4 = .ok (.iload_n 1, 1) := dk_27 (dk_at dksX1_printed_0 4 rfl rfl)
theorem dX1_printed_5 : decode cX1_printed 5 = .ok (.aload_n 0, 1) := dk_42 (dk_at dksX1_printed_0 5 rfl rfl)
theorem dX1_printed_6 : decode cX1_printed 6 = .ok (.getfield 155, 3) := dk_180 0 155 (dk_at dksX1_printed_0 6 rfl rfl)
theorem dX1_printed_9 : decode cX1_printed 9 = .ok (.if_icmp .ge 9, 3) := dk_162 0 9 (dk_at dksX1_printed_0 9 rfl rfl)
theorem dX1_printed_12 : decode cX1_printed 12 = .ok (.iload_n 1, 1) := dk_27 (dk_at dksX1_printed_0 12 rfl rfl)
theorem dX1_printed_13 : decode cX1_printed 13 = .ok (.bipush 40, 2) := dk_16 40 (dk_at dksX1_printed_0 13 rfl rfl)
theorem dX1_printed_15 : decode cX1_printed 15 = .ok (.if_icmp .lt 11, 3) := dk_161 0 11 (dk_at dksX1_printed_0 15 rfl rfl)
theorem dX1_printed_18 : decode cX1_printed 18 = .ok (.new 110, 3) := dk_187 0 110 (dk_at dksX1_printed_0 18 rfl rfl)
theorem dX1_printed_21 : decode cX1_printed 21 = .ok (.dup, 1) := dk_89 (dk_at dksX1_printed_0 21 rfl rfl)
theorem dX1_printed_22 : decode cX1_printed 22 = .ok (.invokespecial 112, 3) := dk_183 0 112 (dk_at dksX1_printed_1 0 rfl rfl)
theorem dX1_printed_25 : decode cX1_printed 25 = .ok (.athrow, 1) := dk_191 (dk_at dksX1_printed_1 3 rfl rfl)
theorem dX1_printed_26 : decode cX1_printed 26 = .ok (.aload_n 0, 1) := dk_42 (dk_at dksX1_printed_1 4 rfl rfl)
theorem dX1_printed_27 : decode cX1_printed 27 = .ok (.getfield 59, 3) := dk_180 0 59 (dk_at dksX1_printed_1 5 rfl rfl)
theorem dX1_printed_30 : decode cX1_printed 30 = .ok (.iload_n 1, 1) := dk_27 (dk_at dksX1_printed_1 8 rfl rfl)
theorem dX1_printed_31 : decode cX1_printed 31 = .ok (.daload, 1) := dk_49 (dk_at dksX1_printed_1 9 rfl rfl)
theorem dX1_printed_32 : decode cX1_printed 32 = .ok (.dreturn, 1) := dk_175 (dk_at dksX1_printed_1 10 rfl rfl)
abbrev cX1_variable : ByteArray := prog_1_method_26_code
def yX1_variable : MethodName := ⟨RX1, "variable", "(I)D"⟩
def dkwX1_variable_1 : List UInt8 := [187, 0, 65, 89, 183, 0, 67, 191, 42, 180, 0, 24, 27, 49, 175]
abbrev dktX1_variable_1 : List UInt8 := dkwX1_variable_1 ++ []
def dkwX1_variable_0 : List UInt8 := [27, 155, 0, 21, 27, 16, 25, 163, 0, 15, 27, 16, 15, 161, 0, 17, 27, 16, 17, 163, 0, 11]
abbrev dktX1_variable_0 : List UInt8 := dkwX1_variable_0 ++ dktX1_variable_1
theorem dksX1_variable_0 : cX1_variable.data.toList.drop 0 = dktX1_variable_0 := by decide +kernel
theorem dksX1_variable_1 : cX1_variable.data.toList.drop 22 = dktX1_variable_1 := dk_seg dksX1_variable_0 22 rfl rfl
theorem dX1_variable_0 : decode cX1_variable 0 = .ok (.iload_n 1, 1) := dk_27 (dk_at dksX1_variable_0 0 rfl rfl)
theorem dX1_variable_1 : decode cX1_variable 1 = .ok (.ifCond .lt 21, 3) := dk_155 0 21 (dk_at dksX1_variable_0 1 rfl rfl)
theorem dX1_variable_4 : decode cX1_variable 4 = .ok (.iload_n 1, 1) := dk_27 (dk_at dksX1_variable_0 4 rfl rfl)
theorem dX1_variable_5 : decode cX1_variable 5 = .ok (.bipush 25, 2) := dk_16 25 (dk_at dksX1_variable_0 5 rfl rfl)
theorem dX1_variable_7 : decode cX1_variable 7 = .ok (.if_icmp .gt 15, 3) := dk_163 0 15 (dk_at dksX1_variable_0 7 rfl rfl)
theorem dX1_variable_10 : decode cX1_variable 10 = .ok (.iload_n 1, 1) := dk_27 (dk_at dksX1_variable_0 10 rfl rfl)
theorem dX1_variable_11 : decode cX1_variable 11 = .ok (.bipush 15, 2) := dk_16 15 (dk_at dksX1_variable_0 11 rfl rfl)
theorem dX1_variable_13 : decode cX1_variable 13 = .ok (.if_icmp .lt 17, 3) := dk_161 0 17 (dk_at dksX1_variable_0 13 rfl rfl)
theorem dX1_variable_16 : decode cX1_variable 16 = .ok (.iload_n 1, 1) := dk_27 (dk_at dksX1_variable_0 16 rfl rfl)
theorem dX1_variable_17 : decode cX1_variable 17 = .ok (.bipush 17, 2) := dk_16 17 (dk_at dksX1_variable_0 17 rfl rfl)
theorem dX1_variable_19 : decode cX1_variable 19 = .ok (.if_icmp .gt 11, 3) := dk_163 0 11 (dk_at dksX1_variable_0 19 rfl rfl)
theorem dX1_variable_22 : decode cX1_variable 22 = .ok (.new 65, 3) := dk_187 0 65 (dk_at dksX1_variable_1 0 rfl rfl)
theorem dX1_variable_25 : decode cX1_variable 25 = .ok (.dup, 1) := dk_89 (dk_at dksX1_variable_1 3 rfl rfl)
theorem dX1_variable_26 : decode cX1_variable 26 = .ok (.invokespecial 67, 3) := dk_183 0 67 (dk_at dksX1_variable_1 4 rfl rfl)
theorem dX1_variable_29 : decode cX1_variable 29 = .ok (.athrow, 1) := dk_191 (dk_at dksX1_variable_1 7 rfl rfl)
theorem dX1_variable_30 : decode cX1_variable 30 = .ok (.aload_n 0, 1) := dk_42 (dk_at dksX1_variable_1 8 rfl rfl)
theorem dX1_variable_31 : decode cX1_variable 31 = .ok (.getfield 24, 3) := dk_180 0 24 (dk_at dksX1_variable_1 9 rfl rfl)
theorem dX1_variable_34 : decode cX1_variable 34 = .ok (.iload_n 1, 1) := dk_27 (dk_at dksX1_variable_1 12 rfl rfl)
theorem dX1_variable_35 : decode cX1_variable 35 = .ok (.daload, 1) := dk_49 (dk_at dksX1_variable_1 13 rfl rfl)
theorem dX1_variable_36 : decode cX1_variable 36 = .ok (.dreturn, 1) := dk_175 (dk_at dksX1_variable_1 14 rfl rfl)
abbrev cX1_element : ByteArray := prog_1_method_27_code
def yX1_element : MethodName := ⟨RX1, "element", "(III)D"⟩
def dkwX1_element_1 : List UInt8 := [29, 133, 182, 0, 196, 175]
abbrev dktX1_element_1 : List UInt8 := dkwX1_element_1 ++ []
def dkwX1_element_0 : List UInt8 := [27, 155, 0, 8, 27, 5, 164, 0, 11, 187, 0, 65, 89, 183, 0, 67, 191, 42, 27, 182, 0, 192, 28, 133]
abbrev dktX1_element_0 : List UInt8 := dkwX1_element_0 ++ dktX1_element_1
theorem dksX1_element_0 : cX1_element.data.toList.drop 0 = dktX1_element_0 := by decide +kernel
theorem dksX1_element_1 : cX1_element.data.toList.drop 24 = dktX1_element_1 := dk_seg dksX1_element_0 24 rfl rfl
theorem dX1_element_0 : decode cX1_element 0 = .ok (.iload_n 1, 1) := dk_27 (dk_at dksX1_element_0 0 rfl rfl)
theorem dX1_element_1 : decode cX1_element 1 = .ok (.ifCond .lt 8, 3) := dk_155 0 8 (dk_at dksX1_element_0 1 rfl rfl)
theorem dX1_element_4 : decode cX1_element 4 = .ok (.iload_n 1, 1) := dk_27 (dk_at dksX1_element_0 4 rfl rfl)
theorem dX1_element_5 : decode cX1_element 5 = .ok (.iconst 2, 1) := dk_5 (dk_at dksX1_element_0 5 rfl rfl)
theorem dX1_element_6 : decode cX1_element 6 = .ok (.if_icmp .le 11, 3) := dk_164 0 11 (dk_at dksX1_element_0 6 rfl rfl)
theorem dX1_element_9 : decode cX1_element 9 = .ok (.new 65, 3) := dk_187 0 65 (dk_at dksX1_element_0 9 rfl rfl)
theorem dX1_element_12 : decode cX1_element 12 = .ok (.dup, 1) := dk_89 (dk_at dksX1_element_0 12 rfl rfl)
theorem dX1_element_13 : decode cX1_element 13 = .ok (.invokespecial 67, 3) := dk_183 0 67 (dk_at dksX1_element_0 13 rfl rfl)
theorem dX1_element_16 : decode cX1_element 16 = .ok (.athrow, 1) := dk_191 (dk_at dksX1_element_0 16 rfl rfl)
theorem dX1_element_17 : decode cX1_element 17 = .ok (.aload_n 0, 1) := dk_42 (dk_at dksX1_element_0 17 rfl rfl)
theorem dX1_element_18 : decode cX1_element 18 = .ok (.iload_n 1, 1) := dk_27 (dk_at dksX1_element_0 18 rfl rfl)
theorem dX1_element_19 : decode cX1_element 19 = .ok (.invokevirtual 192, 3) := dk_182 0 192 (dk_at dksX1_element_0 19 rfl rfl)
theorem dX1_element_22 : decode cX1_element 22 = .ok (.iload_n 2, 1) := dk_28 (dk_at dksX1_element_0 22 rfl rfl)
theorem dX1_element_23 : decode cX1_element 23 = .ok (.i2l, 1) := dk_133 (dk_at dksX1_element_0 23 rfl rfl)
theorem dX1_element_24 : decode cX1_element 24 = .ok (.iload_n 3, 1) := dk_29 (dk_at dksX1_element_1 0 rfl rfl)
theorem dX1_element_25 : decode cX1_element 25 = .ok (.i2l, 1) := dk_133 (dk_at dksX1_element_1 1 rfl rfl)
theorem dX1_element_26 : decode cX1_element 26 = .ok (.invokevirtual 196, 3) := dk_182 0 196 (dk_at dksX1_element_1 2 rfl rfl)
theorem dX1_element_29 : decode cX1_element 29 = .ok (.dreturn, 1) := dk_175 (dk_at dksX1_element_1 5 rfl rfl)
theorem q122 : (Jvm.Cond.initialized "BasicMachine") ∈ lw_all := lw_g (lw_at lw_m1 1 rfl) rfl
theorem q175 : (Jvm.Cond.instantiable "BasicMachine" (24 : Nat)) ∈ lw_all := lw_g (lw_at lw_m1 54 rfl) rfl
theorem q177 : (Jvm.Cond.instanceMethod ({ cls := "BasicMachine", name := "<init>", desc := "()V" } : Jvm.MethodName)) ∈ lw_all := lw_g (lw_at lw_m1 56 rfl) rfl
theorem q178 : (Jvm.Cond.code ({ cls := "BasicMachine", name := "<init>", desc := "()V" } : Jvm.MethodName) prog_1_method_3_code (1 : Nat) (Option.none : Option Jvm.ClassFile.FieldType)) ∈ lw_all := lw_g (lw_at lw_m1 57 rfl) rfl
theorem q179 : (Jvm.Cond.methodLink "BasicMachine" (13 : Nat) ({ cls := "java/lang/Object", name := "<init>", desc := "()V" } : Jvm.MethodName)) ∈ lw_all := lw_g (lw_at lw_m1 58 rfl) rfl
theorem q182 : (Jvm.Cond.classLink "BasicMachine" (28 : Nat) "BasicMachine$Matrix") ∈ lw_all := lw_g (lw_at lw_m1 61 rfl) rfl
theorem q184 : (Jvm.Cond.classLink "BasicMachine" (34 : Nat) "BasicMachine$Define") ∈ lw_all := lw_g (lw_at lw_m1 63 rfl) rfl
theorem q186 : (Jvm.Cond.classLink "BasicMachine" (47 : Nat) "BasicMachine$Line") ∈ lw_all := lw_g (lw_at lw_m1 65 rfl) rfl
theorem q188 : (Jvm.Cond.classLink "BasicMachine" (53 : Nat) "BasicMachine$Loop") ∈ lw_all := lw_g (lw_at lw_m1 67 rfl) rfl
theorem q190 : (Jvm.Cond.fieldLink "BasicMachine" (16 : Nat) "BasicMachine" "typed" "[C") ∈ lw_all := lw_g (lw_at lw_m1 69 rfl) rfl
theorem q191 : (Jvm.Cond.fieldLink "BasicMachine" (68 : Nat) "BasicMachine" "length" "I") ∈ lw_all := lw_g (lw_at lw_m1 70 rfl) rfl
theorem q192 : (Jvm.Cond.fieldLink "BasicMachine" (20 : Nat) "BasicMachine" "errorAt" "I") ∈ lw_all := lw_g (lw_at lw_m1 71 rfl) rfl
theorem q193 : (Jvm.Cond.fieldLink "BasicMachine" (86 : Nat) "BasicMachine" "first" "LBasicMachine$Line;") ∈ lw_all := lw_g (lw_at lw_m1 72 rfl) rfl
theorem q194 : (Jvm.Cond.fieldLink "BasicMachine" (96 : Nat) "BasicMachine" "lines" "I") ∈ lw_all := lw_g (lw_at lw_m1 73 rfl) rfl
theorem q200 : (Jvm.Cond.fieldLink "BasicMachine" (24 : Nat) "BasicMachine" "variables" "[D") ∈ lw_all := lw_g (lw_at lw_m1 79 rfl) rfl
theorem q204 : (Jvm.Cond.fieldLink "BasicMachine" (30 : Nat) "BasicMachine" "matrices" "[LBasicMachine$Matrix;") ∈ lw_all := lw_g (lw_at lw_m1 83 rfl) rfl
theorem q208 : (Jvm.Cond.fieldLink "BasicMachine" (36 : Nat) "BasicMachine" "functions" "[LBasicMachine$Define;") ∈ lw_all := lw_g (lw_at lw_m1 87 rfl) rfl
theorem q210 : (Jvm.Cond.fieldLink "BasicMachine" (149 : Nat) "BasicMachine" "calls" "I") ∈ lw_all := lw_g (lw_at lw_m1 89 rfl) rfl
theorem q212 : (Jvm.Cond.fieldLink "BasicMachine" (40 : Nat) "BasicMachine" "callRow" "[I") ∈ lw_all := lw_g (lw_at lw_m1 91 rfl) rfl
theorem q214 : (Jvm.Cond.fieldLink "BasicMachine" (44 : Nat) "BasicMachine" "callOld" "[D") ∈ lw_all := lw_g (lw_at lw_m1 93 rfl) rfl
theorem q217 : (Jvm.Cond.fieldLink "BasicMachine" (49 : Nat) "BasicMachine" "back" "[LBasicMachine$Line;") ∈ lw_all := lw_g (lw_at lw_m1 96 rfl) rfl
theorem q220 : (Jvm.Cond.fieldLink "BasicMachine" (152 : Nat) "BasicMachine" "returns" "I") ∈ lw_all := lw_g (lw_at lw_m1 99 rfl) rfl
theorem q223 : (Jvm.Cond.fieldLink "BasicMachine" (55 : Nat) "BasicMachine" "loopRow" "[LBasicMachine$Loop;") ∈ lw_all := lw_g (lw_at lw_m1 102 rfl) rfl
theorem q226 : (Jvm.Cond.fieldLink "BasicMachine" (139 : Nat) "BasicMachine" "loops" "I") ∈ lw_all := lw_g (lw_at lw_m1 105 rfl) rfl
theorem q228 : (Jvm.Cond.fieldLink "BasicMachine" (59 : Nat) "BasicMachine" "printed" "[D") ∈ lw_all := lw_g (lw_at lw_m1 107 rfl) rfl
theorem q230 : (Jvm.Cond.fieldLink "BasicMachine" (155 : Nat) "BasicMachine" "prints" "I") ∈ lw_all := lw_g (lw_at lw_m1 109 rfl) rfl
theorem q232 : (Jvm.Cond.fieldLink "BasicMachine" (130 : Nat) "BasicMachine" "readPlace" "I") ∈ lw_all := lw_g (lw_at lw_m1 111 rfl) rfl
theorem q233 : (Jvm.Cond.fieldLink "BasicMachine" (171 : Nat) "BasicMachine" "unread" "I") ∈ lw_all := lw_g (lw_at lw_m1 112 rfl) rfl
theorem q235 : (Jvm.Cond.fieldLink "BasicMachine" (126 : Nat) "BasicMachine" "over" "Z") ∈ lw_all := lw_g (lw_at lw_m1 114 rfl) rfl
theorem q236 : (Jvm.Cond.fieldLink "BasicMachine" (158 : Nat) "BasicMachine" "steps" "I") ∈ lw_all := lw_g (lw_at lw_m1 115 rfl) rfl
theorem q237 : (Jvm.Cond.fieldLink "BasicMachine" (62 : Nat) "BasicMachine" "lastNumber" "I") ∈ lw_all := lw_g (lw_at lw_m1 116 rfl) rfl
theorem q238 : (Jvm.Cond.fieldLink "BasicMachine" (174 : Nat) "BasicMachine" "faults" "I") ∈ lw_all := lw_g (lw_at lw_m1 117 rfl) rfl
theorem q239 : (Jvm.Cond.laysFinal "BasicMachine" "BasicMachine" "typed" "[C") ∈ lw_all := lw_g (lw_at lw_m1 118 rfl) rfl
theorem q240 : (Jvm.Cond.soleField "BasicMachine" "typed") ∈ lw_all := lw_g (lw_at lw_m1 119 rfl) rfl
theorem q241 : (Jvm.Cond.lays "BasicMachine" "BasicMachine" "length" "I") ∈ lw_all := lw_g (lw_at lw_m1 120 rfl) rfl
theorem q242 : (Jvm.Cond.soleField "BasicMachine" "length") ∈ lw_all := lw_g (lw_at lw_m1 121 rfl) rfl
theorem q243 : (Jvm.Cond.lays "BasicMachine" "BasicMachine" "errorAt" "I") ∈ lw_all := lw_g (lw_at lw_m1 122 rfl) rfl
theorem q244 : (Jvm.Cond.soleField "BasicMachine" "errorAt") ∈ lw_all := lw_g (lw_at lw_m1 123 rfl) rfl
theorem q245 : (Jvm.Cond.lays "BasicMachine" "BasicMachine" "first" "LBasicMachine$Line;") ∈ lw_all := lw_g (lw_at lw_m1 124 rfl) rfl
theorem q246 : (Jvm.Cond.soleField "BasicMachine" "first") ∈ lw_all := lw_g (lw_at lw_m1 125 rfl) rfl
theorem q247 : (Jvm.Cond.lays "BasicMachine" "BasicMachine" "lines" "I") ∈ lw_all := lw_g (lw_at lw_m1 126 rfl) rfl
theorem q248 : (Jvm.Cond.soleField "BasicMachine" "lines") ∈ lw_all := lw_g (lw_at lw_m1 127 rfl) rfl
theorem q249 : (Jvm.Cond.laysFinal "BasicMachine" "BasicMachine" "variables" "[D") ∈ lw_all := lw_g (lw_at lw_m1 128 rfl) rfl
theorem q250 : (Jvm.Cond.soleField "BasicMachine" "variables") ∈ lw_all := lw_g (lw_at lw_m1 129 rfl) rfl
theorem q251 : (Jvm.Cond.laysFinal "BasicMachine" "BasicMachine" "matrices" "[LBasicMachine$Matrix;") ∈ lw_all := lw_g (lw_at lw_m1 130 rfl) rfl
theorem q252 : (Jvm.Cond.soleField "BasicMachine" "matrices") ∈ lw_all := lw_g (lw_at lw_m1 131 rfl) rfl
theorem q253 : (Jvm.Cond.lays "BasicMachine" "BasicMachine" "spare" "LBasicMachine$Matrix;") ∈ lw_all := lw_g (lw_at lw_m1 132 rfl) rfl
theorem q254 : (Jvm.Cond.soleField "BasicMachine" "spare") ∈ lw_all := lw_g (lw_at lw_m1 133 rfl) rfl
theorem q255 : (Jvm.Cond.laysFinal "BasicMachine" "BasicMachine" "functions" "[LBasicMachine$Define;") ∈ lw_all := lw_g (lw_at lw_m1 134 rfl) rfl
theorem q256 : (Jvm.Cond.soleField "BasicMachine" "functions") ∈ lw_all := lw_g (lw_at lw_m1 135 rfl) rfl
theorem q257 : (Jvm.Cond.lays "BasicMachine" "BasicMachine" "calls" "I") ∈ lw_all := lw_g (lw_at lw_m1 136 rfl) rfl
theorem q258 : (Jvm.Cond.soleField "BasicMachine" "calls") ∈ lw_all := lw_g (lw_at lw_m1 137 rfl) rfl
theorem q259 : (Jvm.Cond.laysFinal "BasicMachine" "BasicMachine" "callRow" "[I") ∈ lw_all := lw_g (lw_at lw_m1 138 rfl) rfl
theorem q260 : (Jvm.Cond.soleField "BasicMachine" "callRow") ∈ lw_all := lw_g (lw_at lw_m1 139 rfl) rfl
theorem q261 : (Jvm.Cond.laysFinal "BasicMachine" "BasicMachine" "callOld" "[D") ∈ lw_all := lw_g (lw_at lw_m1 140 rfl) rfl
theorem q262 : (Jvm.Cond.soleField "BasicMachine" "callOld") ∈ lw_all := lw_g (lw_at lw_m1 141 rfl) rfl
theorem q263 : (Jvm.Cond.laysFinal "BasicMachine" "BasicMachine" "back" "[LBasicMachine$Line;") ∈ lw_all := lw_g (lw_at lw_m1 142 rfl) rfl
theorem q264 : (Jvm.Cond.soleField "BasicMachine" "back") ∈ lw_all := lw_g (lw_at lw_m1 143 rfl) rfl
theorem q265 : (Jvm.Cond.lays "BasicMachine" "BasicMachine" "returns" "I") ∈ lw_all := lw_g (lw_at lw_m1 144 rfl) rfl
theorem q266 : (Jvm.Cond.soleField "BasicMachine" "returns") ∈ lw_all := lw_g (lw_at lw_m1 145 rfl) rfl
theorem q267 : (Jvm.Cond.laysFinal "BasicMachine" "BasicMachine" "loopRow" "[LBasicMachine$Loop;") ∈ lw_all := lw_g (lw_at lw_m1 146 rfl) rfl
theorem q268 : (Jvm.Cond.soleField "BasicMachine" "loopRow") ∈ lw_all := lw_g (lw_at lw_m1 147 rfl) rfl
theorem q269 : (Jvm.Cond.lays "BasicMachine" "BasicMachine" "loops" "I") ∈ lw_all := lw_g (lw_at lw_m1 148 rfl) rfl
theorem q270 : (Jvm.Cond.soleField "BasicMachine" "loops") ∈ lw_all := lw_g (lw_at lw_m1 149 rfl) rfl
theorem q271 : (Jvm.Cond.laysFinal "BasicMachine" "BasicMachine" "printed" "[D") ∈ lw_all := lw_g (lw_at lw_m1 150 rfl) rfl
theorem q272 : (Jvm.Cond.soleField "BasicMachine" "printed") ∈ lw_all := lw_g (lw_at lw_m1 151 rfl) rfl
theorem q273 : (Jvm.Cond.lays "BasicMachine" "BasicMachine" "prints" "I") ∈ lw_all := lw_g (lw_at lw_m1 152 rfl) rfl
theorem q274 : (Jvm.Cond.soleField "BasicMachine" "prints") ∈ lw_all := lw_g (lw_at lw_m1 153 rfl) rfl
theorem q275 : (Jvm.Cond.lays "BasicMachine" "BasicMachine" "readPlace" "I") ∈ lw_all := lw_g (lw_at lw_m1 154 rfl) rfl
theorem q276 : (Jvm.Cond.soleField "BasicMachine" "readPlace") ∈ lw_all := lw_g (lw_at lw_m1 155 rfl) rfl
theorem q277 : (Jvm.Cond.lays "BasicMachine" "BasicMachine" "unread" "I") ∈ lw_all := lw_g (lw_at lw_m1 156 rfl) rfl
theorem q278 : (Jvm.Cond.soleField "BasicMachine" "unread") ∈ lw_all := lw_g (lw_at lw_m1 157 rfl) rfl
theorem q279 : (Jvm.Cond.lays "BasicMachine" "BasicMachine" "over" "Z") ∈ lw_all := lw_g (lw_at lw_m1 158 rfl) rfl
theorem q280 : (Jvm.Cond.soleField "BasicMachine" "over") ∈ lw_all := lw_g (lw_at lw_m1 159 rfl) rfl
theorem q281 : (Jvm.Cond.lays "BasicMachine" "BasicMachine" "steps" "I") ∈ lw_all := lw_g (lw_at lw_m1 160 rfl) rfl
theorem q282 : (Jvm.Cond.soleField "BasicMachine" "steps") ∈ lw_all := lw_g (lw_at lw_m1 161 rfl) rfl
theorem q283 : (Jvm.Cond.lays "BasicMachine" "BasicMachine" "lastNumber" "I") ∈ lw_all := lw_g (lw_at lw_m1 162 rfl) rfl
theorem q284 : (Jvm.Cond.soleField "BasicMachine" "lastNumber") ∈ lw_all := lw_g (lw_at lw_m1 163 rfl) rfl
theorem q285 : (Jvm.Cond.lays "BasicMachine" "BasicMachine" "faults" "I") ∈ lw_all := lw_g (lw_at lw_m1 164 rfl) rfl
theorem q286 : (Jvm.Cond.soleField "BasicMachine" "faults") ∈ lw_all := lw_g (lw_at lw_m1 165 rfl) rfl
theorem q287 : (Jvm.Cond.superclass "BasicMachine" "java/lang/Object") ∈ lw_all := lw_g (lw_at lw_m1 166 rfl) rfl
theorem q292 : (Jvm.Cond.instanceMethod ({ cls := "BasicMachine", name := "errorAt", desc := "()I" } : Jvm.MethodName)) ∈ lw_all := lw_g (lw_at lw_m1 171 rfl) rfl
theorem q293 : (Jvm.Cond.selects "BasicMachine" ({ cls := "BasicMachine", name := "errorAt", desc := "()I" } : Jvm.MethodName) ({ cls := "BasicMachine", name := "errorAt", desc := "()I" } : Jvm.MethodName)) ∈ lw_all := lw_g (lw_at lw_m1 172 rfl) rfl
theorem q294 : (Jvm.Cond.code ({ cls := "BasicMachine", name := "errorAt", desc := "()I" } : Jvm.MethodName) prog_1_method_10_code (1 : Nat) (Option.some Jvm.ClassFile.FieldType.int)) ∈ lw_all := lw_g (lw_at lw_m1 173 rfl) rfl
theorem q296 : (Jvm.Cond.instanceMethod ({ cls := "BasicMachine", name := "wipe", desc := "()I" } : Jvm.MethodName)) ∈ lw_all := lw_g (lw_at lw_m1 175 rfl) rfl
theorem q297 : (Jvm.Cond.selects "BasicMachine" ({ cls := "BasicMachine", name := "wipe", desc := "()I" } : Jvm.MethodName) ({ cls := "BasicMachine", name := "wipe", desc := "()I" } : Jvm.MethodName)) ∈ lw_all := lw_g (lw_at lw_m1 176 rfl) rfl
theorem q298 : (Jvm.Cond.code ({ cls := "BasicMachine", name := "wipe", desc := "()I" } : Jvm.MethodName) prog_1_method_11_code (2 : Nat) (Option.some Jvm.ClassFile.FieldType.int)) ∈ lw_all := lw_g (lw_at lw_m1 177 rfl) rfl
theorem q300 : (Jvm.Cond.instanceMethod ({ cls := "BasicMachine", name := "at", desc := "()I" } : Jvm.MethodName)) ∈ lw_all := lw_g (lw_at lw_m1 179 rfl) rfl
theorem q301 : (Jvm.Cond.selects "BasicMachine" ({ cls := "BasicMachine", name := "at", desc := "()I" } : Jvm.MethodName) ({ cls := "BasicMachine", name := "at", desc := "()I" } : Jvm.MethodName)) ∈ lw_all := lw_g (lw_at lw_m1 180 rfl) rfl
theorem q302 : (Jvm.Cond.code ({ cls := "BasicMachine", name := "at", desc := "()I" } : Jvm.MethodName) prog_1_method_28_code (1 : Nat) (Option.some Jvm.ClassFile.FieldType.int)) ∈ lw_all := lw_g (lw_at lw_m1 181 rfl) rfl
theorem q304 : (Jvm.Cond.instanceMethod ({ cls := "BasicMachine", name := "count", desc := "(I)I" } : Jvm.MethodName)) ∈ lw_all := lw_g (lw_at lw_m1 183 rfl) rfl
theorem q305 : (Jvm.Cond.selects "BasicMachine" ({ cls := "BasicMachine", name := "count", desc := "(I)I" } : Jvm.MethodName) ({ cls := "BasicMachine", name := "count", desc := "(I)I" } : Jvm.MethodName)) ∈ lw_all := lw_g (lw_at lw_m1 184 rfl) rfl
theorem q306 : (Jvm.Cond.code ({ cls := "BasicMachine", name := "count", desc := "(I)I" } : Jvm.MethodName) prog_1_method_30_code (2 : Nat) (Option.some Jvm.ClassFile.FieldType.int)) ∈ lw_all := lw_g (lw_at lw_m1 185 rfl) rfl
theorem q307 : (Jvm.Cond.methodLink "BasicMachine" (199 : Nat) ({ cls := "BasicMachine", name := "greatest", desc := "()I" } : Jvm.MethodName)) ∈ lw_all := lw_g (lw_at lw_m1 186 rfl) rfl
theorem q308 : (Jvm.Cond.privateMethod ({ cls := "BasicMachine", name := "greatest", desc := "()I" } : Jvm.MethodName)) ∈ lw_tbl := lw_at lw_m1 187 rfl
theorem q309 : (Jvm.Cond.instanceMethod ({ cls := "BasicMachine", name := "greatest", desc := "()I" } : Jvm.MethodName)) ∈ lw_all := lw_g (lw_at lw_m1 188 rfl) rfl
theorem q310 : (Jvm.Cond.code ({ cls := "BasicMachine", name := "greatest", desc := "()I" } : Jvm.MethodName) prog_1_method_29_code (3 : Nat) (Option.some Jvm.ClassFile.FieldType.int)) ∈ lw_all := lw_g (lw_at lw_m1 189 rfl) rfl
theorem q317 : (Jvm.Cond.instanceMethod ({ cls := "BasicMachine", name := "type", desc := "(I)I" } : Jvm.MethodName)) ∈ lw_all := lw_g (lw_at lw_m1 196 rfl) rfl
theorem q318 : (Jvm.Cond.selects "BasicMachine" ({ cls := "BasicMachine", name := "type", desc := "(I)I" } : Jvm.MethodName) ({ cls := "BasicMachine", name := "type", desc := "(I)I" } : Jvm.MethodName)) ∈ lw_all := lw_g (lw_at lw_m1 197 rfl) rfl
theorem q319 : (Jvm.Cond.code ({ cls := "BasicMachine", name := "type", desc := "(I)I" } : Jvm.MethodName) prog_1_method_4_code (2 : Nat) (Option.some Jvm.ClassFile.FieldType.int)) ∈ lw_all := lw_g (lw_at lw_m1 198 rfl) rfl
theorem q320 : (Jvm.Cond.classLink "BasicMachine" (65 : Nat) "java/lang/IllegalArgumentException") ∈ lw_all := lw_g (lw_at lw_m1 199 rfl) rfl
theorem q365 : (Jvm.Cond.methodLink "BasicMachine" (67 : Nat) ({ cls := "java/lang/IllegalArgumentException", name := "<init>", desc := "()V" } : Jvm.MethodName)) ∈ lw_all := lw_g (lw_at lw_m2 4 rfl) rfl
theorem q388 : (Jvm.Cond.classLink "BasicMachine" (71 : Nat) "java/lang/IllegalStateException") ∈ lw_all := lw_g (lw_at lw_m2 27 rfl) rfl
theorem q397 : (Jvm.Cond.methodLink "BasicMachine" (73 : Nat) ({ cls := "java/lang/IllegalStateException", name := "<init>", desc := "()V" } : Jvm.MethodName)) ∈ lw_all := lw_g (lw_at lw_m2 36 rfl) rfl
theorem q408 : (Jvm.Cond.instanceMethod ({ cls := "BasicMachine", name := "enter", desc := "()I" } : Jvm.MethodName)) ∈ lw_all := lw_g (lw_at lw_m2 47 rfl) rfl
theorem q409 : (Jvm.Cond.selects "BasicMachine" ({ cls := "BasicMachine", name := "enter", desc := "()I" } : Jvm.MethodName) ({ cls := "BasicMachine", name := "enter", desc := "()I" } : Jvm.MethodName)) ∈ lw_all := lw_g (lw_at lw_m2 48 rfl) rfl
theorem q410 : (Jvm.Cond.code ({ cls := "BasicMachine", name := "enter", desc := "()I" } : Jvm.MethodName) prog_1_method_9_code (3 : Nat) (Option.some Jvm.ClassFile.FieldType.int)) ∈ lw_all := lw_g (lw_at lw_m2 49 rfl) rfl
theorem q411 : (Jvm.Cond.methodLink "BasicMachine" (99 : Nat) ({ cls := "BasicMachine", name := "parse", desc := "()LBasicMachine$Line;" } : Jvm.MethodName)) ∈ lw_all := lw_g (lw_at lw_m2 50 rfl) rfl
theorem q412 : (Jvm.Cond.privateMethod ({ cls := "BasicMachine", name := "parse", desc := "()LBasicMachine$Line;" } : Jvm.MethodName)) ∈ lw_tbl := lw_at lw_m2 51 rfl
theorem q413 : (Jvm.Cond.instanceMethod ({ cls := "BasicMachine", name := "parse", desc := "()LBasicMachine$Line;" } : Jvm.MethodName)) ∈ lw_all := lw_g (lw_at lw_m2 52 rfl) rfl
theorem q414 : (Jvm.Cond.codeWith ({ cls := "BasicMachine", name := "parse", desc := "()LBasicMachine$Line;" } : Jvm.MethodName) prog_1_method_5_code (5 : Nat) (Option.some (Jvm.ClassFile.FieldType.object "BasicMachine$Line")) [((69 : Nat), (73 : Nat), (74 : Nat), (65 : Nat))]) ∈ lw_all := lw_g (lw_at lw_m2 53 rfl) rfl
theorem q415 : (Jvm.Cond.classLink "BasicMachine" (74 : Nat) "BasicMachine$Parser") ∈ lw_all := lw_g (lw_at lw_m2 54 rfl) rfl
theorem q417 : (Jvm.Cond.methodLink "BasicMachine" (76 : Nat) ({ cls := "BasicMachine$Parser", name := "<init>", desc := "([CI)V" } : Jvm.MethodName)) ∈ lw_all := lw_g (lw_at lw_m2 56 rfl) rfl
theorem q443 : (Jvm.Cond.fieldLink "BasicMachine" (83 : Nat) "BasicMachine$Parser" "at" "I") ∈ lw_all := lw_g (lw_at lw_m2 82 rfl) rfl
theorem q461 : (Jvm.Cond.methodLink "BasicMachine" (79 : Nat) ({ cls := "BasicMachine$Parser", name := "line", desc := "()LBasicMachine$Line;" } : Jvm.MethodName)) ∈ lw_all := lw_g (lw_at lw_m2 100 rfl) rfl
theorem q489 : (Jvm.Cond.fieldLink "BasicMachine" (90 : Nat) "BasicMachine$Line" "number" "I") ∈ lw_all := lw_g (lw_at lw_m2 128 rfl) rfl
theorem q491 : (Jvm.Cond.fieldLink "BasicMachine" (106 : Nat) "BasicMachine$Line" "statement" "LBasicMachine$Statement;") ∈ lw_all := lw_g (lw_at lw_m2 130 rfl) rfl
theorem q492 : (Jvm.Cond.fieldLink "BasicMachine" (93 : Nat) "BasicMachine$Line" "next" "LBasicMachine$Line;") ∈ lw_all := lw_g (lw_at lw_m2 131 rfl) rfl
theorem q1274 : (Jvm.Cond.methodLink "BasicMachine" (102 : Nat) ({ cls := "BasicMachine", name := "lineOrNull", desc := "(I)LBasicMachine$Line;" } : Jvm.MethodName)) ∈ lw_all := lw_g (lw_at lw_m5 193 rfl) rfl
theorem q1275 : (Jvm.Cond.privateMethod ({ cls := "BasicMachine", name := "lineOrNull", desc := "(I)LBasicMachine$Line;" } : Jvm.MethodName)) ∈ lw_tbl := lw_at lw_m5 194 rfl
theorem q1276 : (Jvm.Cond.instanceMethod ({ cls := "BasicMachine", name := "lineOrNull", desc := "(I)LBasicMachine$Line;" } : Jvm.MethodName)) ∈ lw_all := lw_g (lw_at lw_m5 195 rfl) rfl
theorem q1277 : (Jvm.Cond.code ({ cls := "BasicMachine", name := "lineOrNull", desc := "(I)LBasicMachine$Line;" } : Jvm.MethodName) prog_1_method_6_code (3 : Nat) (Option.some (Jvm.ClassFile.FieldType.object "BasicMachine$Line"))) ∈ lw_all := lw_g (lw_at lw_m5 196 rfl) rfl
theorem q1278 : (Jvm.Cond.classLink "BasicMachine" (110 : Nat) "java/util/NoSuchElementException") ∈ lw_all := lw_g (lw_at lw_m5 197 rfl) rfl
theorem q1287 : (Jvm.Cond.methodLink "BasicMachine" (112 : Nat) ({ cls := "java/util/NoSuchElementException", name := "<init>", desc := "()V" } : Jvm.MethodName)) ∈ lw_all := lw_g (lw_at lw_m5 206 rfl) rfl
theorem q1293 : (Jvm.Cond.methodLink "BasicMachine" (113 : Nat) ({ cls := "BasicMachine", name := "unlink", desc := "(LBasicMachine$Line;)V" } : Jvm.MethodName)) ∈ lw_all := lw_g (lw_at lw_m5 212 rfl) rfl
theorem q1294 : (Jvm.Cond.privateMethod ({ cls := "BasicMachine", name := "unlink", desc := "(LBasicMachine$Line;)V" } : Jvm.MethodName)) ∈ lw_tbl := lw_at lw_m5 213 rfl
theorem q1295 : (Jvm.Cond.instanceMethod ({ cls := "BasicMachine", name := "unlink", desc := "(LBasicMachine$Line;)V" } : Jvm.MethodName)) ∈ lw_all := lw_g (lw_at lw_m5 214 rfl) rfl
theorem q1296 : (Jvm.Cond.code ({ cls := "BasicMachine", name := "unlink", desc := "(LBasicMachine$Line;)V" } : Jvm.MethodName) prog_1_method_7_code (3 : Nat) (Option.none : Option Jvm.ClassFile.FieldType)) ∈ lw_all := lw_g (lw_at lw_m5 215 rfl) rfl
theorem q1297 : (Jvm.Cond.methodLink "BasicMachine" (117 : Nat) ({ cls := "BasicMachine", name := "link", desc := "(LBasicMachine$Line;)V" } : Jvm.MethodName)) ∈ lw_all := lw_g (lw_at lw_m5 216 rfl) rfl
theorem q1298 : (Jvm.Cond.privateMethod ({ cls := "BasicMachine", name := "link", desc := "(LBasicMachine$Line;)V" } : Jvm.MethodName)) ∈ lw_tbl := lw_at lw_m5 217 rfl
theorem q1299 : (Jvm.Cond.instanceMethod ({ cls := "BasicMachine", name := "link", desc := "(LBasicMachine$Line;)V" } : Jvm.MethodName)) ∈ lw_all := lw_g (lw_at lw_m5 218 rfl) rfl
theorem q1300 : (Jvm.Cond.code ({ cls := "BasicMachine", name := "link", desc := "(LBasicMachine$Line;)V" } : Jvm.MethodName) prog_1_method_8_code (3 : Nat) (Option.none : Option Jvm.ClassFile.FieldType)) ∈ lw_all := lw_g (lw_at lw_m5 219 rfl) rfl
theorem q1339 : (Jvm.Cond.instanceMethod ({ cls := "BasicMachine", name := "run", desc := "()I" } : Jvm.MethodName)) ∈ lw_all := lw_g (lw_at lw_m6 18 rfl) rfl
theorem q1340 : (Jvm.Cond.selects "BasicMachine" ({ cls := "BasicMachine", name := "run", desc := "()I" } : Jvm.MethodName) ({ cls := "BasicMachine", name := "run", desc := "()I" } : Jvm.MethodName)) ∈ lw_all := lw_g (lw_at lw_m6 19 rfl) rfl
theorem q1341 : (Jvm.Cond.codeWith ({ cls := "BasicMachine", name := "run", desc := "()I" } : Jvm.MethodName) prog_1_method_24_code (2 : Nat) (Option.some Jvm.ClassFile.FieldType.int) [((4 : Nat), (8 : Nat), (11 : Nat), (65 : Nat)), ((4 : Nat), (8 : Nat), (24 : Nat), (71 : Nat)), ((4 : Nat), (8 : Nat), (37 : Nat), (110 : Nat)), ((4 : Nat), (8 : Nat), (50 : Nat), (7 : Nat)), ((4 : Nat), (8 : Nat), (63 : Nat), (120 : Nat)), ((4 : Nat), (8 : Nat), (76 : Nat), (123 : Nat))]) ∈ lw_all := lw_g (lw_at lw_m6 20 rfl) rfl
theorem q1342 : (Jvm.Cond.classLink "BasicMachine" (7 : Nat) "java/lang/ArithmeticException") ∈ lw_all := lw_g (lw_at lw_m6 21 rfl) rfl
theorem q1343 : (Jvm.Cond.classLink "BasicMachine" (120 : Nat) "java/lang/IndexOutOfBoundsException") ∈ lw_all := lw_g (lw_at lw_m6 22 rfl) rfl
theorem q1344 : (Jvm.Cond.classLink "BasicMachine" (123 : Nat) "java/lang/UnsupportedOperationException") ∈ lw_all := lw_g (lw_at lw_m6 23 rfl) rfl
theorem q1345 : (Jvm.Cond.methodLink "BasicMachine" (183 : Nat) ({ cls := "BasicMachine", name := "begin", desc := "()V" } : Jvm.MethodName)) ∈ lw_all := lw_g (lw_at lw_m6 24 rfl) rfl
theorem q1346 : (Jvm.Cond.privateMethod ({ cls := "BasicMachine", name := "begin", desc := "()V" } : Jvm.MethodName)) ∈ lw_tbl := lw_at lw_m6 25 rfl
theorem q1347 : (Jvm.Cond.instanceMethod ({ cls := "BasicMachine", name := "begin", desc := "()V" } : Jvm.MethodName)) ∈ lw_all := lw_g (lw_at lw_m6 26 rfl) rfl
theorem q1348 : (Jvm.Cond.code ({ cls := "BasicMachine", name := "begin", desc := "()V" } : Jvm.MethodName) prog_1_method_19_code (2 : Nat) (Option.none : Option Jvm.ClassFile.FieldType)) ∈ lw_all := lw_g (lw_at lw_m6 27 rfl) rfl
theorem q1349 : (Jvm.Cond.methodLink "BasicMachine" (186 : Nat) ({ cls := "BasicMachine", name := "go", desc := "()V" } : Jvm.MethodName)) ∈ lw_all := lw_g (lw_at lw_m6 28 rfl) rfl
theorem q1350 : (Jvm.Cond.privateMethod ({ cls := "BasicMachine", name := "go", desc := "()V" } : Jvm.MethodName)) ∈ lw_tbl := lw_at lw_m6 29 rfl
theorem q1351 : (Jvm.Cond.instanceMethod ({ cls := "BasicMachine", name := "go", desc := "()V" } : Jvm.MethodName)) ∈ lw_all := lw_g (lw_at lw_m6 30 rfl) rfl
theorem q1352 : (Jvm.Cond.code ({ cls := "BasicMachine", name := "go", desc := "()V" } : Jvm.MethodName) prog_1_method_20_code (3 : Nat) (Option.none : Option Jvm.ClassFile.FieldType)) ∈ lw_all := lw_g (lw_at lw_m6 31 rfl) rfl
theorem q1353 : (Jvm.Cond.interfaceEntry "BasicMachine" (161 : Nat)) ∈ lw_tbl := lw_at lw_m6 32 rfl
theorem q1354 : (Jvm.Cond.methodLink "BasicMachine" (161 : Nat) ({ cls := "BasicMachine$Statement", name := "run", desc := "(LBasicMachine;LBasicMachine$Line;)LBasicMachine$Line;" } : Jvm.MethodName)) ∈ lw_all := lw_g (lw_at lw_m6 33 rfl) rfl
theorem q1461 : (Jvm.Cond.static ({ cls := "BasicMachine", name := "whole", desc := "(D)J" } : Jvm.MethodName)) ∈ lw_all := lw_g (lw_at lw_m6 140 rfl) rfl
theorem q1462 : (Jvm.Cond.code ({ cls := "BasicMachine", name := "whole", desc := "(D)J" } : Jvm.MethodName) prog_1_method_2_code (2 : Nat) (Option.some Jvm.ClassFile.FieldType.long)) ∈ lw_all := lw_g (lw_at lw_m6 141 rfl) rfl
theorem q1465 : (Jvm.Cond.static ({ cls := "BasicMachine", name := "checked", desc := "(D)D" } : Jvm.MethodName)) ∈ lw_all := lw_g (lw_at lw_m6 144 rfl) rfl
theorem q1466 : (Jvm.Cond.code ({ cls := "BasicMachine", name := "checked", desc := "(D)D" } : Jvm.MethodName) prog_1_method_1_code (2 : Nat) (Option.some Jvm.ClassFile.FieldType.double)) ∈ lw_all := lw_g (lw_at lw_m6 145 rfl) rfl
theorem q1467 : (Jvm.Cond.constantDouble "BasicMachine" (3 : Nat) (4877398396442247168 : UInt64)) ∈ lw_all := lw_g (lw_at lw_m6 146 rfl) rfl
theorem q1468 : (Jvm.Cond.constantDouble "BasicMachine" (5 : Nat) (14100770433297022976 : UInt64)) ∈ lw_all := lw_g (lw_at lw_m6 147 rfl) rfl
theorem q1469 : (Jvm.Cond.methodLink "BasicMachine" (9 : Nat) ({ cls := "java/lang/ArithmeticException", name := "<init>", desc := "()V" } : Jvm.MethodName)) ∈ lw_all := lw_g (lw_at lw_m6 148 rfl) rfl
theorem q1486 : (Jvm.Cond.privateMethod ({ cls := "BasicMachine", name := "matrix", desc := "(I)LBasicMachine$Matrix;" } : Jvm.MethodName)) ∈ lw_tbl := lw_at lw_m6 165 rfl
theorem q1487 : (Jvm.Cond.instanceMethod ({ cls := "BasicMachine", name := "matrix", desc := "(I)LBasicMachine$Matrix;" } : Jvm.MethodName)) ∈ lw_all := lw_g (lw_at lw_m6 166 rfl) rfl
theorem q1488 : (Jvm.Cond.code ({ cls := "BasicMachine", name := "matrix", desc := "(I)LBasicMachine$Matrix;" } : Jvm.MethodName) prog_1_method_12_code (2 : Nat) (Option.some (Jvm.ClassFile.FieldType.object "BasicMachine$Matrix"))) ∈ lw_all := lw_g (lw_at lw_m6 167 rfl) rfl
theorem q1497 : (Jvm.Cond.methodLink "BasicMachine" (122 : Nat) ({ cls := "java/lang/IndexOutOfBoundsException", name := "<init>", desc := "()V" } : Jvm.MethodName)) ∈ lw_all := lw_g (lw_at lw_m6 176 rfl) rfl
theorem q1524 : (Jvm.Cond.privateMethod ({ cls := "BasicMachine", name := "leave", desc := "()V" } : Jvm.MethodName)) ∈ lw_tbl := lw_at lw_m6 203 rfl
theorem q1525 : (Jvm.Cond.instanceMethod ({ cls := "BasicMachine", name := "leave", desc := "()V" } : Jvm.MethodName)) ∈ lw_all := lw_g (lw_at lw_m6 204 rfl) rfl
theorem q1526 : (Jvm.Cond.code ({ cls := "BasicMachine", name := "leave", desc := "()V" } : Jvm.MethodName) prog_1_method_22_code (1 : Nat) (Option.none : Option Jvm.ClassFile.FieldType)) ∈ lw_all := lw_g (lw_at lw_m6 205 rfl) rfl
theorem q1528 : (Jvm.Cond.privateMethod ({ cls := "BasicMachine", name := "loop", desc := "(I)I" } : Jvm.MethodName)) ∈ lw_tbl := lw_at lw_m6 207 rfl
theorem q1529 : (Jvm.Cond.instanceMethod ({ cls := "BasicMachine", name := "loop", desc := "(I)I" } : Jvm.MethodName)) ∈ lw_all := lw_g (lw_at lw_m6 208 rfl) rfl
theorem q1530 : (Jvm.Cond.code ({ cls := "BasicMachine", name := "loop", desc := "(I)I" } : Jvm.MethodName) prog_1_method_17_code (3 : Nat) (Option.some Jvm.ClassFile.FieldType.int)) ∈ lw_all := lw_g (lw_at lw_m6 209 rfl) rfl
theorem q1531 : (Jvm.Cond.methodLink "BasicMachine" (142 : Nat) ({ cls := "BasicMachine$Loop", name := "s", desc := "()I" } : Jvm.MethodName)) ∈ lw_all := lw_g (lw_at lw_m6 210 rfl) rfl
theorem q1539 : (Jvm.Cond.privateMethod ({ cls := "BasicMachine", name := "nextOf", desc := "(ILBasicMachine$Line;)LBasicMachine$Line;" } : Jvm.MethodName)) ∈ lw_tbl := lw_at lw_m6 218 rfl
theorem q1540 : (Jvm.Cond.instanceMethod ({ cls := "BasicMachine", name := "nextOf", desc := "(ILBasicMachine$Line;)LBasicMachine$Line;" } : Jvm.MethodName)) ∈ lw_all := lw_g (lw_at lw_m6 219 rfl) rfl
theorem q1541 : (Jvm.Cond.code ({ cls := "BasicMachine", name := "nextOf", desc := "(ILBasicMachine$Line;)LBasicMachine$Line;" } : Jvm.MethodName) prog_1_method_18_code (4 : Nat) (Option.some (Jvm.ClassFile.FieldType.object "BasicMachine$Line"))) ∈ lw_all := lw_g (lw_at lw_m6 220 rfl) rfl
theorem q1542 : (Jvm.Cond.classLink "BasicMachine" (146 : Nat) "BasicMachine$Next") ∈ lw_all := lw_g (lw_at lw_m6 221 rfl) rfl
theorem q1543 : (Jvm.Cond.methodLink "BasicMachine" (148 : Nat) ({ cls := "BasicMachine$Next", name := "s", desc := "()I" } : Jvm.MethodName)) ∈ lw_all := lw_g (lw_at lw_m6 222 rfl) rfl
theorem q1548 : (Jvm.Cond.privateMethod ({ cls := "BasicMachine", name := "after", desc := "(LBasicMachine$Line;)LBasicMachine$Line;" } : Jvm.MethodName)) ∈ lw_tbl := lw_at lw_m6 227 rfl
theorem q1549 : (Jvm.Cond.instanceMethod ({ cls := "BasicMachine", name := "after", desc := "(LBasicMachine$Line;)LBasicMachine$Line;" } : Jvm.MethodName)) ∈ lw_all := lw_g (lw_at lw_m6 228 rfl) rfl
theorem q1550 : (Jvm.Cond.code ({ cls := "BasicMachine", name := "after", desc := "(LBasicMachine$Line;)LBasicMachine$Line;" } : Jvm.MethodName) prog_1_method_15_code (2 : Nat) (Option.some (Jvm.ClassFile.FieldType.object "BasicMachine$Line"))) ∈ lw_all := lw_g (lw_at lw_m6 229 rfl) rfl
theorem q1581 : (Jvm.Cond.privateMethod ({ cls := "BasicMachine", name := "line", desc := "(I)LBasicMachine$Line;" } : Jvm.MethodName)) ∈ lw_tbl := lw_at lw_m7 20 rfl
theorem q1582 : (Jvm.Cond.instanceMethod ({ cls := "BasicMachine", name := "line", desc := "(I)LBasicMachine$Line;" } : Jvm.MethodName)) ∈ lw_all := lw_g (lw_at lw_m7 21 rfl) rfl
theorem q1583 : (Jvm.Cond.code ({ cls := "BasicMachine", name := "line", desc := "(I)LBasicMachine$Line;" } : Jvm.MethodName) prog_1_method_14_code (3 : Nat) (Option.some (Jvm.ClassFile.FieldType.object "BasicMachine$Line"))) ∈ lw_all := lw_g (lw_at lw_m7 22 rfl) rfl
theorem q1645 : (Jvm.Cond.privateMethod ({ cls := "BasicMachine", name := "known", desc := "(I)LBasicMachine$Matrix;" } : Jvm.MethodName)) ∈ lw_tbl := lw_at lw_m7 84 rfl
theorem q1646 : (Jvm.Cond.instanceMethod ({ cls := "BasicMachine", name := "known", desc := "(I)LBasicMachine$Matrix;" } : Jvm.MethodName)) ∈ lw_all := lw_g (lw_at lw_m7 85 rfl) rfl
theorem q1647 : (Jvm.Cond.code ({ cls := "BasicMachine", name := "known", desc := "(I)LBasicMachine$Matrix;" } : Jvm.MethodName) prog_1_method_13_code (2 : Nat) (Option.some (Jvm.ClassFile.FieldType.object "BasicMachine$Matrix"))) ∈ lw_all := lw_g (lw_at lw_m7 86 rfl) rfl
theorem q1656 : (Jvm.Cond.methodLink "BasicMachine" (125 : Nat) ({ cls := "java/lang/UnsupportedOperationException", name := "<init>", desc := "()V" } : Jvm.MethodName)) ∈ lw_all := lw_g (lw_at lw_m7 95 rfl) rfl
theorem q1740 : (Jvm.Cond.privateMethod ({ cls := "BasicMachine", name := "read", desc := "()D" } : Jvm.MethodName)) ∈ lw_tbl := lw_at lw_m7 179 rfl
theorem q1741 : (Jvm.Cond.instanceMethod ({ cls := "BasicMachine", name := "read", desc := "()D" } : Jvm.MethodName)) ∈ lw_all := lw_g (lw_at lw_m7 180 rfl) rfl
theorem q1742 : (Jvm.Cond.code ({ cls := "BasicMachine", name := "read", desc := "()D" } : Jvm.MethodName) prog_1_method_16_code (4 : Nat) (Option.some Jvm.ClassFile.FieldType.double)) ∈ lw_all := lw_g (lw_at lw_m7 181 rfl) rfl
theorem q1743 : (Jvm.Cond.classLink "BasicMachine" (133 : Nat) "BasicMachine$Data") ∈ lw_all := lw_g (lw_at lw_m7 182 rfl) rfl
theorem q1744 : (Jvm.Cond.methodLink "BasicMachine" (135 : Nat) ({ cls := "BasicMachine$Data", name := "values", desc := "()[D" } : Jvm.MethodName)) ∈ lw_all := lw_g (lw_at lw_m7 183 rfl) rfl
theorem q1764 : (Jvm.Cond.methodLink "BasicMachine" (167 : Nat) ({ cls := "BasicMachine", name := "after", desc := "(LBasicMachine$Line;)LBasicMachine$Line;" } : Jvm.MethodName)) ∈ lw_all := lw_g (lw_at lw_m7 203 rfl) rfl
theorem q1765 : (Jvm.Cond.methodLink "BasicMachine" (189 : Nat) ({ cls := "BasicMachine", name := "failed", desc := "()V" } : Jvm.MethodName)) ∈ lw_all := lw_g (lw_at lw_m7 204 rfl) rfl
theorem q1766 : (Jvm.Cond.privateMethod ({ cls := "BasicMachine", name := "failed", desc := "()V" } : Jvm.MethodName)) ∈ lw_tbl := lw_at lw_m7 205 rfl
theorem q1767 : (Jvm.Cond.instanceMethod ({ cls := "BasicMachine", name := "failed", desc := "()V" } : Jvm.MethodName)) ∈ lw_all := lw_g (lw_at lw_m7 206 rfl) rfl
theorem q1768 : (Jvm.Cond.code ({ cls := "BasicMachine", name := "failed", desc := "()V" } : Jvm.MethodName) prog_1_method_23_code (1 : Nat) (Option.none : Option Jvm.ClassFile.FieldType)) ∈ lw_all := lw_g (lw_at lw_m7 207 rfl) rfl
theorem q1769 : (Jvm.Cond.methodLink "BasicMachine" (177 : Nat) ({ cls := "BasicMachine", name := "leave", desc := "()V" } : Jvm.MethodName)) ∈ lw_all := lw_g (lw_at lw_m7 208 rfl) rfl
theorem q1770 : (Jvm.Cond.methodLink "BasicMachine" (180 : Nat) ({ cls := "BasicMachine", name := "settle", desc := "()V" } : Jvm.MethodName)) ∈ lw_all := lw_g (lw_at lw_m7 209 rfl) rfl
theorem q1771 : (Jvm.Cond.privateMethod ({ cls := "BasicMachine", name := "settle", desc := "()V" } : Jvm.MethodName)) ∈ lw_tbl := lw_at lw_m7 210 rfl
theorem q1772 : (Jvm.Cond.instanceMethod ({ cls := "BasicMachine", name := "settle", desc := "()V" } : Jvm.MethodName)) ∈ lw_all := lw_g (lw_at lw_m7 211 rfl) rfl
theorem q1773 : (Jvm.Cond.code ({ cls := "BasicMachine", name := "settle", desc := "()V" } : Jvm.MethodName) prog_1_method_21_code (2 : Nat) (Option.none : Option Jvm.ClassFile.FieldType)) ∈ lw_all := lw_g (lw_at lw_m7 212 rfl) rfl
theorem q1778 : (Jvm.Cond.instanceMethod ({ cls := "BasicMachine", name := "printed", desc := "(I)D" } : Jvm.MethodName)) ∈ lw_all := lw_g (lw_at lw_m7 217 rfl) rfl
theorem q1779 : (Jvm.Cond.selects "BasicMachine" ({ cls := "BasicMachine", name := "printed", desc := "(I)D" } : Jvm.MethodName) ({ cls := "BasicMachine", name := "printed", desc := "(I)D" } : Jvm.MethodName)) ∈ lw_all := lw_g (lw_at lw_m7 218 rfl) rfl
theorem q1780 : (Jvm.Cond.code ({ cls := "BasicMachine", name := "printed", desc := "(I)D" } : Jvm.MethodName) prog_1_method_25_code (2 : Nat) (Option.some Jvm.ClassFile.FieldType.double)) ∈ lw_all := lw_g (lw_at lw_m7 219 rfl) rfl
theorem q1785 : (Jvm.Cond.instanceMethod ({ cls := "BasicMachine", name := "variable", desc := "(I)D" } : Jvm.MethodName)) ∈ lw_all := lw_g (lw_at lw_m7 224 rfl) rfl
theorem q1786 : (Jvm.Cond.selects "BasicMachine" ({ cls := "BasicMachine", name := "variable", desc := "(I)D" } : Jvm.MethodName) ({ cls := "BasicMachine", name := "variable", desc := "(I)D" } : Jvm.MethodName)) ∈ lw_all := lw_g (lw_at lw_m7 225 rfl) rfl
theorem q1787 : (Jvm.Cond.code ({ cls := "BasicMachine", name := "variable", desc := "(I)D" } : Jvm.MethodName) prog_1_method_26_code (2 : Nat) (Option.some Jvm.ClassFile.FieldType.double)) ∈ lw_all := lw_g (lw_at lw_m7 226 rfl) rfl
theorem q1792 : (Jvm.Cond.instanceMethod ({ cls := "BasicMachine", name := "element", desc := "(III)D" } : Jvm.MethodName)) ∈ lw_all := lw_g (lw_at lw_m7 231 rfl) rfl
theorem q1793 : (Jvm.Cond.selects "BasicMachine" ({ cls := "BasicMachine", name := "element", desc := "(III)D" } : Jvm.MethodName) ({ cls := "BasicMachine", name := "element", desc := "(III)D" } : Jvm.MethodName)) ∈ lw_all := lw_g (lw_at lw_m7 232 rfl) rfl
theorem q1794 : (Jvm.Cond.code ({ cls := "BasicMachine", name := "element", desc := "(III)D" } : Jvm.MethodName) prog_1_method_27_code (4 : Nat) (Option.some Jvm.ClassFile.FieldType.double)) ∈ lw_all := lw_g (lw_at lw_m7 233 rfl) rfl
theorem q1795 : (Jvm.Cond.methodLink "BasicMachine" (192 : Nat) ({ cls := "BasicMachine", name := "matrix", desc := "(I)LBasicMachine$Matrix;" } : Jvm.MethodName)) ∈ lw_all := lw_g (lw_at lw_m7 234 rfl) rfl
theorem q1796 : (Jvm.Cond.methodLink "BasicMachine" (196 : Nat) ({ cls := "BasicMachine$Matrix", name := "at", desc := "(JJ)D" } : Jvm.MethodName)) ∈ lw_all := lw_g (lw_at lw_m7 235 rfl) rfl
theorem q2305 : (Jvm.Cond.castable "BasicMachine" "java/lang/Object") ∈ lw_tbl := lw_at lw_m10 24 rfl
theorem in_X1 : ∀ w ∈ wsX10, w ∈ lw_all := lw_in wsX10 [239, 241, 243, 245, 247, 249, 251, 253, 255, 257, 259, 261, 263, 265, 267, 269, 271, 273, 275, 277, 279, 281, 283, 285] (by decide +kernel) (by decide +kernel)
/-! BasicMachine$Parser -/
set_option maxRecDepth 100000
def RX3 : String := "BasicMachine$Parser"
def TX3 : u_T := fun k => match k with
  | 0 => ("BasicMachine$Parser", "text", "[C", true)
  | 1 => ("BasicMachine$Parser", "length", "I", true)
  | 2 => ("BasicMachine$Parser", "at", "I", false)
  | 3 => ("BasicMachine$Parser", "open", "I", false)
  | 4 => ("BasicMachine$Parser", "goes", "Z", false)
  | _ => ("BasicMachine$Parser", "words", "[Ljava/lang/String;", true)
def tyX3 : Nat → FieldType := fun k => match k with
  | 0 => .array .char
  | 1 => .int
  | 2 => .int
  | 3 => .int
  | 4 => .boolean
  | _ => .array (.object "java/lang/String")
abbrev wsX30 : List Cond := u_ws RX3 TX3 6
theorem nmX3 : ∀ a, a < 6 → ∀ b, b < 6 → a ≠ b → (TX3 a).2.1 ≠ (TX3 b).2.1 := by decide +kernel
theorem tyX3_ok : ∀ k, k < 6 → parseFieldDescriptor (TX3 k).2.2.1 = some (tyX3 k) := by decide +kernel
abbrev cX3_init : ByteArray := prog_22_method_1_code
def yX3_init : MethodName := ⟨RX3, "<init>", "([CI)V"⟩
def dkwX3_init_5 : List UInt8 := [177]
abbrev dktX3_init_5 : List UInt8 := dkwX3_init_5 ++ []
def dkwX3_init_4 : List UInt8 := [16, 15, 18, 39, 83, 89, 16, 16, 18, 41, 83, 181, 0, 43, 42, 43, 181, 0, 49, 42, 28, 181, 0, 53]
abbrev dktX3_init_4 : List UInt8 := dkwX3_init_4 ++ dktX3_init_5
def dkwX3_init_3 : List UInt8 := [16, 11, 18, 31, 83, 89, 16, 12, 18, 33, 83, 89, 16, 13, 18, 35, 83, 89, 16, 14, 18, 37, 83, 89]
abbrev dktX3_init_3 : List UInt8 := dkwX3_init_3 ++ dktX3_init_4
def dkwX3_init_2 : List UInt8 := [16, 7, 18, 23, 83, 89, 16, 8, 18, 25, 83, 89, 16, 9, 18, 27, 83, 89, 16, 10, 18, 29, 83, 89]
abbrev dktX3_init_2 : List UInt8 := dkwX3_init_2 ++ dktX3_init_3
def dkwX3_init_1 : List UInt8 := [83, 89, 6, 18, 15, 83, 89, 7, 18, 17, 83, 89, 8, 18, 19, 83, 89, 16, 6, 18, 21, 83, 89]
abbrev dktX3_init_1 : List UInt8 := dkwX3_init_1 ++ dktX3_init_2
def dkwX3_init_0 : List UInt8 := [42, 183, 0, 1, 42, 16, 17, 189, 0, 7, 89, 3, 18, 9, 83, 89, 4, 18, 11, 83, 89, 5, 18, 13]
abbrev dktX3_init_0 : List UInt8 := dkwX3_init_0 ++ dktX3_init_1
theorem dksX3_init_0 : cX3_init.data.toList.drop 0 = dktX3_init_0 := by decide +kernel
theorem dksX3_init_1 : cX3_init.data.toList.drop 24 = dktX3_init_1 := dk_seg dksX3_init_0 24 rfl rfl
theorem dksX3_init_2 : cX3_init.data.toList.drop 47 = dktX3_init_2 := dk_seg dksX3_init_1 23 rfl rfl
theorem dksX3_init_3 : cX3_init.data.toList.drop 71 = dktX3_init_3 := dk_seg dksX3_init_2 24 rfl rfl
theorem dksX3_init_4 : cX3_init.data.toList.drop 95 = dktX3_init_4 := dk_seg dksX3_init_3 24 rfl rfl
theorem dksX3_init_5 : cX3_init.data.toList.drop 119 = dktX3_init_5 := dk_seg dksX3_init_4 24 rfl rfl
theorem dX3_init_0 : decode cX3_init 0 = .ok (.aload_n 0, 1) := dk_42 (dk_at dksX3_init_0 0 rfl rfl)
theorem dX3_init_1 : decode cX3_init 1 = .ok (.invokespecial 1, 3) := dk_183 0 1 (dk_at dksX3_init_0 1 rfl rfl)
theorem dX3_init_4 : decode cX3_init 4 = .ok (.aload_n 0, 1) := dk_42 (dk_at dksX3_init_0 4 rfl rfl)
theorem dX3_init_5 : decode cX3_init 5 = .ok (.bipush 17, 2) := dk_16 17 (dk_at dksX3_init_0 5 rfl rfl)
theorem dX3_init_7 : decode cX3_init 7 = .ok (.anewarray 7, 3) := dk_189 0 7 (dk_at dksX3_init_0 7 rfl rfl)
theorem dX3_init_10 : decode cX3_init 10 = .ok (.dup, 1) := dk_89 (dk_at dksX3_init_0 10 rfl rfl)
theorem dX3_init_11 : decode cX3_init 11 = .ok (.iconst 0, 1) := dk_3 (dk_at dksX3_init_0 11 rfl rfl)
theorem dX3_init_12 : decode cX3_init 12 = .ok (.ldc 9, 2) := dk_18 9 (dk_at dksX3_init_0 12 rfl rfl)
theorem dX3_init_14 : decode cX3_init 14 = .ok (.aastore, 1) := dk_83 (dk_at dksX3_init_0 14 rfl rfl)
theorem dX3_init_15 : decode cX3_init 15 = .ok (.dup, 1) := dk_89 (dk_at dksX3_init_0 15 rfl rfl)
theorem dX3_init_16 : decode cX3_init 16 = .ok (.iconst 1, 1) := dk_4 (dk_at dksX3_init_0 16 rfl rfl)
theorem dX3_init_17 : decode cX3_init 17 = .ok (.ldc 11, 2) := dk_18 11 (dk_at dksX3_init_0 17 rfl rfl)
theorem dX3_init_19 : decode cX3_init 19 = .ok (.aastore, 1) := dk_83 (dk_at dksX3_init_0 19 rfl rfl)
theorem dX3_init_20 : decode cX3_init 20 = .ok (.dup, 1) := dk_89 (dk_at dksX3_init_0 20 rfl rfl)
theorem dX3_init_21 : decode cX3_init 21 = .ok (.iconst 2, 1) := dk_5 (dk_at dksX3_init_0 21 rfl rfl)
theorem dX3_init_22 : decode cX3_init 22 = .ok (.ldc 13, 2) := dk_18 13 (dk_at dksX3_init_0 22 rfl rfl)
theorem dX3_init_24 : decode cX3_init 24 = .ok (.aastore, 1) := dk_83 (dk_at dksX3_init_1 0 rfl rfl)
theorem dX3_init_25 : decode cX3_init 25 = .ok (.dup, 1) := dk_89 (dk_at dksX3_init_1 1 rfl rfl)
theorem dX3_init_26 : decode cX3_init 26 = .ok (.iconst 3, 1) := dk_6 (dk_at dksX3_init_1 2 rfl rfl)
theorem dX3_init_27 : decode cX3_init 27 = .ok (.ldc 15, 2) := dk_18 15 (dk_at dksX3_init_1 3 rfl rfl)
theorem dX3_init_29 : decode cX3_init 29 = .ok (.aastore, 1) := dk_83 (dk_at dksX3_init_1 5 rfl rfl)
theorem dX3_init_30 : decode cX3_init 30 = .ok (.dup, 1) := dk_89 (dk_at dksX3_init_1 6 rfl rfl)
theorem dX3_init_31 : decode cX3_init 31 = .ok (.iconst 4, 1) := dk_7 (dk_at dksX3_init_1 7 rfl rfl)
theorem dX3_init_32 : decode cX3_init 32 = .ok (.ldc 17, 2) := dk_18 17 (dk_at dksX3_init_1 8 rfl rfl)
theorem dX3_init_34 : decode cX3_init 34 = .ok (.aastore, 1) := dk_83 (dk_at dksX3_init_1 10 rfl rfl)
theorem dX3_init_35 : decode cX3_init 35 = .ok (.dup, 1) := dk_89 (dk_at dksX3_init_1 11 rfl rfl)
theorem dX3_init_36 : decode cX3_init 36 = .ok (.iconst 5, 1) := dk_8 (dk_at dksX3_init_1 12 rfl rfl)
theorem dX3_init_37 : decode cX3_init 37 = .ok (.ldc 19, 2) := dk_18 19 (dk_at dksX3_init_1 13 rfl rfl)
theorem dX3_init_39 : decode cX3_init 39 = .ok (.aastore, 1) := dk_83 (dk_at dksX3_init_1 15 rfl rfl)
theorem dX3_init_40 : decode cX3_init 40 = .ok (.dup, 1) := dk_89 (dk_at dksX3_init_1 16 rfl rfl)
theorem dX3_init_41 : decode cX3_init 41 = .ok (.bipush 6, 2) := dk_16 6 (dk_at dksX3_init_1 17 rfl rfl)
theorem dX3_init_43 : decode cX3_init 43 = .ok (.ldc 21, 2) := dk_18 21 (dk_at dksX3_init_1 19 rfl rfl)
theorem dX3_init_45 : decode cX3_init 45 = .ok (.aastore, 1) := dk_83 (dk_at dksX3_init_1 21 rfl rfl)
theorem dX3_init_46 : decode cX3_init 46 = .ok (.dup, 1) := dk_89 (dk_at dksX3_init_1 22 rfl rfl)
theorem dX3_init_47 : decode cX3_init 47 = .ok (.bipush 7, 2) := dk_16 7 (dk_at dksX3_init_2 0 rfl rfl)
theorem dX3_init_49 : decode cX3_init 49 = .ok (.ldc 23, 2) := dk_18 23 (dk_at dksX3_init_2 2 rfl rfl)
theorem dX3_init_51 : decode cX3_init 51 = .ok (.aastore, 1) := dk_83 (dk_at dksX3_init_2 4 rfl rfl)
theorem dX3_init_52 : decode cX3_init 52 = .ok (.dup, 1) := dk_89 (dk_at dksX3_init_2 5 rfl rfl)
theorem dX3_init_53 : decode cX3_init 53 = .ok (.bipush 8, 2) := dk_16 8 (dk_at dksX3_init_2 6 rfl rfl)
theorem dX3_init_55 : decode cX3_init 55 = .ok (.ldc 25, 2) := dk_18 25 (dk_at dksX3_init_2 8 rfl rfl)
theorem dX3_init_57 : decode cX3_init 57 = .ok (.aastore, 1) := dk_83 (dk_at dksX3_init_2 10 rfl rfl)
theorem dX3_init_58 : decode cX3_init 58 = .ok (.dup, 1) := dk_89 (dk_at dksX3_init_2 11 rfl rfl)
theorem dX3_init_59 : decode cX3_init 59 = .ok (.bipush 9, 2) := dk_16 9 (dk_at dksX3_init_2 12 rfl rfl)
theorem dX3_init_61 : decode cX3_init 61 = .ok (.ldc 27, 2) := dk_18 27 (dk_at dksX3_init_2 14 rfl rfl)
theorem dX3_init_63 : decode cX3_init 63 = .ok (.aastore, 1) := dk_83 (dk_at dksX3_init_2 16 rfl rfl)
theorem dX3_init_64 : decode cX3_init 64 = .ok (.dup, 1) := dk_89 (dk_at dksX3_init_2 17 rfl rfl)
theorem dX3_init_65 : decode cX3_init 65 = .ok (.bipush 10, 2) := dk_16 10 (dk_at dksX3_init_2 18 rfl rfl)
theorem dX3_init_67 : decode cX3_init 67 = .ok (.ldc 29, 2) := dk_18 29 (dk_at dksX3_init_2 20 rfl rfl)
theorem dX3_init_69 : decode cX3_init 69 = .ok (.aastore, 1) := dk_83 (dk_at dksX3_init_2 22 rfl rfl)
theorem dX3_init_70 : decode cX3_init 70 = .ok (.dup, 1) := dk_89 (dk_at dksX3_init_2 23 rfl rfl)
theorem dX3_init_71 : decode cX3_init 71 = .ok (.bipush 11, 2) := dk_16 11 (dk_at dksX3_init_3 0 rfl rfl)
theorem dX3_init_73 : decode cX3_init 73 = .ok (.ldc 31, 2) := dk_18 31 (dk_at dksX3_init_3 2 rfl rfl)
theorem dX3_init_75 : decode cX3_init 75 = .ok (.aastore, 1) := dk_83 (dk_at dksX3_init_3 4 rfl rfl)
theorem dX3_init_76 : decode cX3_init 76 = .ok (.dup, 1) := dk_89 (dk_at dksX3_init_3 5 rfl rfl)
theorem dX3_init_77 : decode cX3_init 77 = .ok (.bipush 12, 2) := dk_16 12 (dk_at dksX3_init_3 6 rfl rfl)
theorem dX3_init_79 : decode cX3_init 79 = .ok (.ldc 33, 2) := dk_18 33 (dk_at dksX3_init_3 8 rfl rfl)
theorem dX3_init_81 : decode cX3_init 81 = .ok (.aastore, 1) := dk_83 (dk_at dksX3_init_3 10 rfl rfl)
theorem dX3_init_82 : decode cX3_init 82 = .ok (.dup, 1) := dk_89 (dk_at dksX3_init_3 11 rfl rfl)
theorem dX3_init_83 : decode cX3_init 83 = .ok (.bipush 13, 2) := dk_16 13 (dk_at dksX3_init_3 12 rfl rfl)
theorem dX3_init_85 : decode cX3_init 85 = .ok (.ldc 35, 2) := dk_18 35 (dk_at dksX3_init_3 14 rfl rfl)
theorem dX3_init_87 : decode cX3_init 87 = .ok (.aastore, 1) := dk_83 (dk_at dksX3_init_3 16 rfl rfl)
theorem dX3_init_88 : decode cX3_init 88 = .ok (.dup, 1) := dk_89 (dk_at dksX3_init_3 17 rfl rfl)
theorem dX3_init_89 : decode cX3_init 89 = .ok (.bipush 14, 2) := dk_16 14 (dk_at dksX3_init_3 18 rfl rfl)
theorem dX3_init_91 : decode cX3_init 91 = .ok (.ldc 37, 2) := dk_18 37 (dk_at dksX3_init_3 20 rfl rfl)
theorem dX3_init_93 : decode cX3_init 93 = .ok (.aastore, 1) := dk_83 (dk_at dksX3_init_3 22 rfl rfl)
theorem dX3_init_94 : decode cX3_init 94 = .ok (.dup, 1) := dk_89 (dk_at dksX3_init_3 23 rfl rfl)
theorem dX3_init_95 : decode cX3_init 95 = .ok (.bipush 15, 2) := dk_16 15 (dk_at dksX3_init_4 0 rfl rfl)
theorem dX3_init_97 : decode cX3_init 97 = .ok (.ldc 39, 2) := dk_18 39 (dk_at dksX3_init_4 2 rfl rfl)
theorem dX3_init_99 : decode cX3_init 99 = .ok (.aastore, 1) := dk_83 (dk_at dksX3_init_4 4 rfl rfl)
theorem dX3_init_100 : decode cX3_init 100 = .ok (.dup, 1) := dk_89 (dk_at dksX3_init_4 5 rfl rfl)
theorem dX3_init_101 : decode cX3_init 101 = .ok (.bipush 16, 2) := dk_16 16 (dk_at dksX3_init_4 6 rfl rfl)
theorem dX3_init_103 : decode cX3_init 103 = .ok (.ldc 41, 2) := dk_18 41 (dk_at dksX3_init_4 8 rfl rfl)
theorem dX3_init_105 : decode cX3_init 105 = .ok (.aastore, 1) := dk_83 (dk_at dksX3_init_4 10 rfl rfl)
theorem dX3_init_106 : decode cX3_init 106 = .ok (.putfield 43, 3) := dk_181 0 43 (dk_at dksX3_init_4 11 rfl rfl)
theorem dX3_init_109 : decode cX3_init 109 = .ok (.aload_n 0, 1) := dk_42 (dk_at dksX3_init_4 14 rfl rfl)
theorem dX3_init_110 : decode cX3_init 110 = .ok (.aload_n 1, 1) := dk_43 (dk_at dksX3_init_4 15 rfl rfl)
theorem dX3_init_111 : decode cX3_init 111 = .ok (.putfield 49, 3) := dk_181 0 49 (dk_at dksX3_init_4 16 rfl rfl)
theorem dX3_init_114 : decode cX3_init 114 = .ok (.aload_n 0, 1) := dk_42 (dk_at dksX3_init_4 19 rfl rfl)
theorem dX3_init_115 : decode cX3_init 115 = .ok (.iload_n 2, 1) := dk_28 (dk_at dksX3_init_4 20 rfl rfl)
theorem dX3_init_116 : decode cX3_init 116 = .ok (.putfield 53, 3) := dk_181 0 53 (dk_at dksX3_init_4 21 rfl rfl)
theorem dX3_init_119 : decode cX3_init 119 = .ok (.return_, 1) := dk_177 (dk_at dksX3_init_5 0 rfl rfl)
abbrev cX3_line : ByteArray := prog_22_method_37_code
def yX3_line : MethodName := ⟨RX3, "line", "()LBasicMachine$Line;"⟩
def dkwX3_line_2 : List UInt8 := [167, 0, 4, 3, 182, 0, 67, 187, 1, 74, 89, 27, 44, 183, 1, 76, 176]
abbrev dktX3_line_2 : List UInt8 := dkwX3_line_2 ++ []
def dkwX3_line_1 : List UInt8 := [183, 1, 76, 176, 42, 182, 1, 79, 77, 42, 42, 180, 0, 57, 42, 180, 0, 53, 161, 0, 7, 4]
abbrev dktX3_line_1 : List UInt8 := dkwX3_line_1 ++ dktX3_line_2
def dkwX3_line_0 : List UInt8 := [42, 182, 0, 235, 60, 42, 180, 0, 57, 42, 180, 0, 53, 161, 0, 13, 187, 1, 74, 89, 27, 1]
abbrev dktX3_line_0 : List UInt8 := dkwX3_line_0 ++ dktX3_line_1
theorem dksX3_line_0 : cX3_line.data.toList.drop 0 = dktX3_line_0 := by decide +kernel
theorem dksX3_line_1 : cX3_line.data.toList.drop 22 = dktX3_line_1 := dk_seg dksX3_line_0 22 rfl rfl
theorem dksX3_line_2 : cX3_line.data.toList.drop 44 = dktX3_line_2 := dk_seg dksX3_line_1 22 rfl rfl
theorem dX3_line_0 : decode cX3_line 0 = .ok (.aload_n 0, 1) := dk_42 (dk_at dksX3_line_0 0 rfl rfl)
theorem dX3_line_1 : decode cX3_line 1 = .ok (.invokevirtual 235, 3) := dk_182 0 235 (dk_at dksX3_line_0 1 rfl rfl)
theorem dX3_line_4 : decode cX3_line 4 = .ok (.istore_n 1, 1) := dk_60 (dk_at dksX3_line_0 4 rfl rfl)
theorem dX3_line_5 : decode cX3_line 5 = .ok (.aload_n 0, 1) := dk_42 (dk_at dksX3_line_0 5 rfl rfl)
theorem dX3_line_6 : decode cX3_line 6 = .ok (.getfield 57, 3) := dk_180 0 57 (dk_at dksX3_line_0 6 rfl rfl)
theorem dX3_line_9 : decode cX3_line 9 = .ok (.aload_n 0, 1) := dk_42 (dk_at dksX3_line_0 9 rfl rfl)
theorem dX3_line_10 : decode cX3_line 10 = .ok (.getfield 53, 3) := dk_180 0 53 (dk_at dksX3_line_0 10 rfl rfl)
theorem dX3_line_13 : decode cX3_line 13 = .ok (.if_icmp .lt 13, 3) := dk_161 0 13 (dk_at dksX3_line_0 13 rfl rfl)
theorem dX3_line_16 : decode cX3_line 16 = .ok (.new 330, 3) := dk_187 1 74 (dk_at dksX3_line_0 16 rfl rfl)
theorem dX3_line_19 : decode cX3_line 19 = .ok (.dup, 1) := dk_89 (dk_at dksX3_line_0 19 rfl rfl)
theorem dX3_line_20 : decode cX3_line 20 = .ok (.iload_n 1, 1) := dk_27 (dk_at dksX3_line_0 20 rfl rfl)
theorem dX3_line_21 : decode cX3_line 21 = .ok (.aconst_null, 1) := dk_1 (dk_at dksX3_line_0 21 rfl rfl)
theorem dX3_line_22 : decode cX3_line 22 = .ok (.invokespecial 332, 3) := dk_183 1 76 (dk_at dksX3_line_1 0 rfl rfl)
theorem dX3_line_25 : decode cX3_line 25 = .ok (.areturn, 1) := dk_176 (dk_at dksX3_line_1 3 rfl rfl)
theorem dX3_line_26 : decode cX3_line 26 = .ok (.aload_n 0, 1) := dk_42 (dk_at dksX3_line_1 4 rfl rfl)
theorem dX3_line_27 : decode cX3_line 27 = .ok (.invokevirtual 335, 3) := dk_182 1 79 (dk_at dksX3_line_1 5 rfl rfl)
theorem dX3_line_30 : decode cX3_line 30 = .ok (.astore_n 2, 1) := dk_77 (dk_at dksX3_line_1 8 rfl rfl)
theorem dX3_line_31 : decode cX3_line 31 = .ok (.aload_n 0, 1) := dk_42 (dk_at dksX3_line_1 9 rfl rfl)
theorem dX3_line_32 : decode cX3_line 32 = .ok (.aload_n 0, 1) := dk_42 (dk_at dksX3_line_1 10 rfl rfl)
theorem dX3_line_33 : decode cX3_line 33 = .ok (.getfield 57, 3) := dk_180 0 57 (dk_at dksX3_line_1 11 rfl rfl)
theorem dX3_line_36 : decode cX3_line 36 = .ok (.aload_n 0, 1) := dk_42 (dk_at dksX3_line_1 14 rfl rfl)
theorem dX3_line_37 : decode cX3_line 37 = .ok (.getfield 53, 3) := dk_180 0 53 (dk_at dksX3_line_1 15 rfl rfl)
theorem dX3_line_40 : decode cX3_line 40 = .ok (.if_icmp .lt 7, 3) := dk_161 0 7 (dk_at dksX3_line_1 18 rfl rfl)
theorem dX3_line_43 : decode cX3_line 43 = .ok (.iconst 1, 1) := dk_4 (dk_at dksX3_line_1 21 rfl rfl)
theorem dX3_line_44 : decode cX3_line 44 = .ok (.goto 4, 3) := dk_167 0 4 (dk_at dksX3_line_2 0 rfl rfl)
theorem dX3_line_47 : decode cX3_line 47 = .ok (.iconst 0, 1) := dk_3 (dk_at dksX3_line_2 3 rfl rfl)
theorem dX3_line_48 : decode cX3_line 48 = .ok (.invokevirtual 67, 3) := dk_182 0 67 (dk_at dksX3_line_2 4 rfl rfl)
theorem dX3_line_51 : decode cX3_line 51 = .ok (.new 330, 3) := dk_187 1 74 (dk_at dksX3_line_2 7 rfl rfl)
theorem dX3_line_54 : decode cX3_line 54 = .ok (.dup, 1) := dk_89 (dk_at dksX3_line_2 10 rfl rfl)
theorem dX3_line_55 : decode cX3_line 55 = .ok (.iload_n 1, 1) := dk_27 (dk_at dksX3_line_2 11 rfl rfl)
theorem dX3_line_56 : decode cX3_line 56 = .ok (.aload_n 2, 1) := dk_44 (dk_at dksX3_line_2 12 rfl rfl)
theorem dX3_line_57 : decode cX3_line 57 = .ok (.invokespecial 332, 3) := dk_183 1 76 (dk_at dksX3_line_2 13 rfl rfl)
theorem dX3_line_60 : decode cX3_line 60 = .ok (.areturn, 1) := dk_176 (dk_at dksX3_line_2 16 rfl rfl)
abbrev cX3_number : ByteArray := prog_22_method_9_code
def yX3_number : MethodName := ⟨RX3, "number", "()I"⟩
def dkwX3_number_3 : List UInt8 := [27, 158, 0, 7, 4, 167, 0, 4, 3, 182, 0, 67, 27, 172]
abbrev dktX3_number_3 : List UInt8 := dkwX3_number_3 ++ []
def dkwX3_number_2 : List UInt8 := [182, 0, 67, 42, 89, 180, 0, 57, 4, 96, 181, 0, 57, 132, 2, 1, 167, 255, 197, 42, 28, 158, 0, 11]
abbrev dktX3_number_2 : List UInt8 := dkwX3_number_2 ++ dktX3_number_3
def dkwX3_number_1 : List UInt8 := [182, 0, 63, 96, 16, 48, 100, 60, 42, 27, 157, 0, 8, 28, 5, 162, 0, 7, 4, 167, 0, 4, 3]
abbrev dktX3_number_1 : List UInt8 := dkwX3_number_1 ++ dktX3_number_2
def dkwX3_number_0 : List UInt8 := [3, 60, 3, 61, 28, 6, 162, 0, 60, 42, 182, 0, 63, 184, 0, 82, 153, 0, 50, 16, 10, 27, 104, 42]
abbrev dktX3_number_0 : List UInt8 := dkwX3_number_0 ++ dktX3_number_1
theorem dksX3_number_0 : cX3_number.data.toList.drop 0 = dktX3_number_0 := by decide +kernel
theorem dksX3_number_1 : cX3_number.data.toList.drop 24 = dktX3_number_1 := dk_seg dksX3_number_0 24 rfl rfl
theorem dksX3_number_2 : cX3_number.data.toList.drop 47 = dktX3_number_2 := dk_seg dksX3_number_1 23 rfl rfl
theorem dksX3_number_3 : cX3_number.data.toList.drop 71 = dktX3_number_3 := dk_seg dksX3_number_2 24 rfl rfl
theorem dX3_number_0 : decode cX3_number 0 = .ok (.iconst 0, 1) := dk_3 (dk_at dksX3_number_0 0 rfl rfl)
theorem dX3_number_1 : decode cX3_number 1 = .ok (.istore_n 1, 1) := dk_60 (dk_at dksX3_number_0 1 rfl rfl)
theorem dX3_number_2 : decode cX3_number 2 = .ok (.iconst 0, 1) := dk_3 (dk_at dksX3_number_0 2 rfl rfl)
theorem dX3_number_3 : decode cX3_number 3 = .ok (.istore_n 2, 1) := dk_61 (dk_at dksX3_number_0 3 rfl rfl)
theorem dX3_number_4 : decode cX3_number 4 = .ok (.iload_n 2, 1) := dk_28 (dk_at dksX3_number_0 4 rfl rfl)
theorem dX3_number_5 : decode cX3_number 5 = .ok (.iconst 3, 1) := dk_6 (dk_at dksX3_number_0 5 rfl rfl)
theorem dX3_number_6 : decode cX3_number 6 = .ok (.if_icmp .ge 60, 3) := dk_162 0 60 (dk_at dksX3_number_0 6 rfl rfl)
theorem dX3_number_9 : decode cX3_number 9 = .ok (.aload_n 0, 1) := dk_42 (dk_at dksX3_number_0 9 rfl rfl)
theorem dX3_number_10 : decode cX3_number 10 = .ok (.invokevirtual 63, 3) := dk_182 0 63 (dk_at dksX3_number_0 10 rfl rfl)
theorem dX3_number_13 : decode cX3_number 13 = .ok (.invokestatic 82, 3) := dk_184 0 82 (dk_at dksX3_number_0 13 rfl rfl)
theorem dX3_number_16 : decode cX3_number 16 = .ok (.ifCond .eq 50, 3) := dk_153 0 50 (dk_at dksX3_number_0 16 rfl rfl)
theorem dX3_number_19 : decode cX3_number 19 = .ok (.bipush 10, 2) := dk_16 10 (dk_at dksX3_number_0 19 rfl rfl)
theorem dX3_number_21 : decode cX3_number 21 = .ok (.iload_n 1, 1) := dk_27 (dk_at dksX3_number_0 21 rfl rfl)
theorem dX3_number_22 : decode cX3_number 22 = .ok (.imul, 1) := dk_104 (dk_at dksX3_number_0 22 rfl rfl)
theorem dX3_number_23 : decode cX3_number 23 = .ok (.aload_n 0, 1) := dk_42 (dk_at dksX3_number_0 23 rfl rfl)
theorem dX3_number_24 : decode cX3_number 24 = .ok (.invokevirtual 63, 3) := dk_182 0 63 (dk_at dksX3_number_1 0 rfl rfl)
theorem dX3_number_27 : decode cX3_number 27 = .ok (.iadd, 1) := dk_96 (dk_at dksX3_number_1 3 rfl rfl)
theorem dX3_number_28 : decode cX3_number 28 = .ok (.bipush 48, 2) := dk_16 48 (dk_at dksX3_number_1 4 rfl rfl)
theorem dX3_number_30 : decode cX3_number 30 = .ok (.isub, 1) := dk_100 (dk_at dksX3_number_1 6 rfl rfl)
theorem dX3_number_31 : decode cX3_number 31 = .ok (.istore_n 1, 1) := dk_60 (dk_at dksX3_number_1 7 rfl rfl)
theorem dX3_number_32 : decode cX3_number 32 = .ok (.aload_n 0, 1) := dk_42 (dk_at dksX3_number_1 8 rfl rfl)
theorem dX3_number_33 : decode cX3_number 33 = .ok (.iload_n 1, 1) := dk_27 (dk_at dksX3_number_1 9 rfl rfl)
theorem dX3_number_34 : decode cX3_number 34 = .ok (.ifCond .gt 8, 3) := dk_157 0 8 (dk_at dksX3_number_1 10 rfl rfl)
theorem dX3_number_37 : decode cX3_number 37 = .ok (.iload_n 2, 1) := dk_28 (dk_at dksX3_number_1 13 rfl rfl)
theorem dX3_number_38 : decode cX3_number 38 = .ok (.iconst 2, 1) := dk_5 (dk_at dksX3_number_1 14 rfl rfl)
theorem dX3_number_39 : decode cX3_number 39 = .ok (.if_icmp .ge 7, 3) := dk_162 0 7 (dk_at dksX3_number_1 15 rfl rfl)
theorem dX3_number_42 : decode cX3_number 42 = .ok (.iconst 1, 1) := dk_4 (dk_at dksX3_number_1 18 rfl rfl)
theorem dX3_number_43 : decode cX3_number 43 = .ok (.goto 4, 3) := dk_167 0 4 (dk_at dksX3_number_1 19 rfl rfl)
theorem dX3_number_46 : decode cX3_number 46 = .ok (.iconst 0, 1) := dk_3 (dk_at dksX3_number_1 22 rfl rfl)
theorem dX3_number_47 : decode cX3_number 47 = .ok (.invokevirtual 67, 3) := dk_182 0 67 (dk_at dksX3_number_2 0 rfl rfl)
theorem dX3_number_50 : decode cX3_number 50 = .ok (.aload_n 0, 1) := dk_42 (dk_at dksX3_number_2 3 rfl rfl)
theorem dX3_number_51 : decode cX3_number 51 = .ok (.dup, 1) := dk_89 (dk_at dksX3_number_2 4 rfl rfl)
theorem dX3_number_52 : decode cX3_number 52 = .ok (.getfield 57, 3) := dk_180 0 57 (dk_at dksX3_number_2 5 rfl rfl)
theorem dX3_number_55 : decode cX3_number 55 = .ok (.iconst 1, 1) := dk_4 (dk_at dksX3_number_2 8 rfl rfl)
theorem dX3_number_56 : decode cX3_number 56 = .ok (.iadd, 1) := dk_96 (dk_at dksX3_number_2 9 rfl rfl)
theorem dX3_number_57 : decode cX3_number 57 = .ok (.putfield 57, 3) := dk_181 0 57 (dk_at dksX3_number_2 10 rfl rfl)
theorem dX3_number_60 : decode cX3_number 60 = .ok (.iinc 2 1, 3) := dk_132 2 1 (dk_at dksX3_number_2 13 rfl rfl)
theorem dX3_number_63 : decode cX3_number 63 = .ok (.goto (-59), 3) := dk_167 255 197 (dk_at dksX3_number_2 16 rfl rfl)
theorem dX3_number_66 : decode cX3_number 66 = .ok (.aload_n 0, 1) := dk_42 (dk_at dksX3_number_2 19 rfl rfl)
theorem dX3_number_67 : decode cX3_number 67 = .ok (.iload_n 2, 1) := dk_28 (dk_at dksX3_number_2 20 rfl rfl)
theorem dX3_number_68 : decode cX3_number 68 = .ok (.ifCond .le 11, 3) := dk_158 0 11 (dk_at dksX3_number_2 21 rfl rfl)
theorem dX3_number_71 : decode cX3_number 71 = .ok (.iload_n 1, 1) := dk_27 (dk_at dksX3_number_3 0 rfl rfl)
theorem dX3_number_72 : decode cX3_number 72 = .ok (.ifCond .le 7, 3) := dk_158 0 7 (dk_at dksX3_number_3 1 rfl rfl)
theorem dX3_number_75 : decode cX3_number 75 = .ok (.iconst 1, 1) := dk_4 (dk_at dksX3_number_3 4 rfl rfl)
theorem dX3_number_76 : decode cX3_number 76 = .ok (.goto 4, 3) := dk_167 0 4 (dk_at dksX3_number_3 5 rfl rfl)
theorem dX3_number_79 : decode cX3_number 79 = .ok (.iconst 0, 1) := dk_3 (dk_at dksX3_number_3 8 rfl rfl)
theorem dX3_number_80 : decode cX3_number 80 = .ok (.invokevirtual 67, 3) := dk_182 0 67 (dk_at dksX3_number_3 9 rfl rfl)
theorem dX3_number_83 : decode cX3_number 83 = .ok (.iload_n 1, 1) := dk_27 (dk_at dksX3_number_3 12 rfl rfl)
theorem dX3_number_84 : decode cX3_number 84 = .ok (.ireturn, 1) := dk_172 (dk_at dksX3_number_3 13 rfl rfl)
abbrev cX3_here : ByteArray := prog_22_method_2_code
def yX3_here : MethodName := ⟨RX3, "here", "()C"⟩
def dkwX3_here_1 : List UInt8 := [172]
abbrev dktX3_here_1 : List UInt8 := dkwX3_here_1 ++ []
def dkwX3_here_0 : List UInt8 := [42, 180, 0, 57, 42, 180, 0, 53, 162, 0, 15, 42, 180, 0, 49, 42, 180, 0, 57, 52, 167, 0, 4, 3]
abbrev dktX3_here_0 : List UInt8 := dkwX3_here_0 ++ dktX3_here_1
theorem dksX3_here_0 : cX3_here.data.toList.drop 0 = dktX3_here_0 := by decide +kernel
theorem dksX3_here_1 : cX3_here.data.toList.drop 24 = dktX3_here_1 := dk_seg dksX3_here_0 24 rfl rfl
theorem dX3_here_0 : decode cX3_here 0 = .ok (.aload_n 0, 1) := dk_42 (dk_at dksX3_here_0 0 rfl rfl)
theorem dX3_here_1 : decode cX3_here 1 = .ok (.getfield 57, 3) := dk_180 0 57 (dk_at dksX3_here_0 1 rfl rfl)
theorem dX3_here_4 : decode cX3_here 4 = .ok (.aload_n 0, 1) := dk_42 (dk_at dksX3_here_0 4 rfl rfl)
theorem dX3_here_5 : decode cX3_here 5 = .ok (.getfield 53, 3) := dk_180 0 53 (dk_at dksX3_here_0 5 rfl rfl)
theorem dX3_here_8 : decode cX3_here 8 = .ok (.if_icmp .ge 15, 3) := dk_162 0 15 (dk_at dksX3_here_0 8 rfl rfl)
theorem dX3_here_11 : decode cX3_here 11 = .ok (.aload_n 0, 1) := dk_42 (dk_at dksX3_here_0 11 rfl rfl)
theorem dX3_here_12 : decode cX3_here 12 = .ok (.getfield 49, 3) := dk_180 0 49 (dk_at dksX3_here_0 12 rfl rfl)
theorem dX3_here_15 : decode cX3_here 15 = .ok (.aload_n 0, 1) := dk_42 (dk_at dksX3_here_0 15 rfl rfl)
theorem dX3_here_16 : decode cX3_here 16 = .ok (.getfield 57, 3) := dk_180 0 57 (dk_at dksX3_here_0 16 rfl rfl)
theorem dX3_here_19 : decode cX3_here 19 = .ok (.caload, 1) := dk_52 (dk_at dksX3_here_0 19 rfl rfl)
theorem dX3_here_20 : decode cX3_here 20 = .ok (.goto 4, 3) := dk_167 0 4 (dk_at dksX3_here_0 20 rfl rfl)
theorem dX3_here_23 : decode cX3_here 23 = .ok (.iconst 0, 1) := dk_3 (dk_at dksX3_here_0 23 rfl rfl)
theorem dX3_here_24 : decode cX3_here 24 = .ok (.ireturn, 1) := dk_172 (dk_at dksX3_here_1 0 rfl rfl)
abbrev cX3_digit : ByteArray := prog_22_method_4_code
def yX3_digit : MethodName := ⟨RX3, "digit", "(C)Z"⟩
def dkwX3_digit_0 : List UInt8 := [26, 16, 48, 161, 0, 13, 26, 16, 57, 163, 0, 7, 4, 167, 0, 4, 3, 172]
abbrev dktX3_digit_0 : List UInt8 := dkwX3_digit_0 ++ []
theorem dksX3_digit_0 : cX3_digit.data.toList.drop 0 = dktX3_digit_0 := by decide +kernel
theorem dX3_digit_0 : decode cX3_digit 0 = .ok (.iload_n 0, 1) := dk_26 (dk_at dksX3_digit_0 0 rfl rfl)
theorem dX3_digit_1 : decode cX3_digit 1 = .ok (.bipush 48, 2) := dk_16 48 (dk_at dksX3_digit_0 1 rfl rfl)
theorem dX3_digit_3 : decode cX3_digit 3 = .ok (.if_icmp .lt 13, 3) := dk_161 0 13 (dk_at dksX3_digit_0 3 rfl rfl)
theorem dX3_digit_6 : decode cX3_digit 6 = .ok (.iload_n 0, 1) := dk_26 (dk_at dksX3_digit_0 6 rfl rfl)
theorem dX3_digit_7 : decode cX3_digit 7 = .ok (.bipush 57, 2) := dk_16 57 (dk_at dksX3_digit_0 7 rfl rfl)
theorem dX3_digit_9 : decode cX3_digit 9 = .ok (.if_icmp .gt 7, 3) := dk_163 0 7 (dk_at dksX3_digit_0 9 rfl rfl)
theorem dX3_digit_12 : decode cX3_digit 12 = .ok (.iconst 1, 1) := dk_4 (dk_at dksX3_digit_0 12 rfl rfl)
theorem dX3_digit_13 : decode cX3_digit 13 = .ok (.goto 4, 3) := dk_167 0 4 (dk_at dksX3_digit_0 13 rfl rfl)
theorem dX3_digit_16 : decode cX3_digit 16 = .ok (.iconst 0, 1) := dk_3 (dk_at dksX3_digit_0 16 rfl rfl)
theorem dX3_digit_17 : decode cX3_digit 17 = .ok (.ireturn, 1) := dk_172 (dk_at dksX3_digit_0 17 rfl rfl)
abbrev cX3_need : ByteArray := prog_22_method_5_code
def yX3_need : MethodName := ⟨RX3, "need", "(Z)V"⟩
def dkwX3_need_0 : List UInt8 := [27, 154, 0, 11, 187, 0, 60, 89, 183, 0, 62, 191, 177]
abbrev dktX3_need_0 : List UInt8 := dkwX3_need_0 ++ []
theorem dksX3_need_0 : cX3_need.data.toList.drop 0 = dktX3_need_0 := by decide +kernel
theorem dX3_need_0 : decode cX3_need 0 = .ok (.iload_n 1, 1) := dk_27 (dk_at dksX3_need_0 0 rfl rfl)
theorem dX3_need_1 : decode cX3_need 1 = .ok (.ifCond .ne 11, 3) := dk_154 0 11 (dk_at dksX3_need_0 1 rfl rfl)
theorem dX3_need_4 : decode cX3_need 4 = .ok (.new 60, 3) := dk_187 0 60 (dk_at dksX3_need_0 4 rfl rfl)
theorem dX3_need_7 : decode cX3_need 7 = .ok (.dup, 1) := dk_89 (dk_at dksX3_need_0 7 rfl rfl)
theorem dX3_need_8 : decode cX3_need 8 = .ok (.invokespecial 62, 3) := dk_183 0 62 (dk_at dksX3_need_0 8 rfl rfl)
theorem dX3_need_11 : decode cX3_need 11 = .ok (.athrow, 1) := dk_191 (dk_at dksX3_need_0 11 rfl rfl)
theorem dX3_need_12 : decode cX3_need 12 = .ok (.return_, 1) := dk_177 (dk_at dksX3_need_0 12 rfl rfl)
abbrev cX3_statement : ByteArray := prog_22_method_28_code
def yX3_statement : MethodName := ⟨RX3, "statement", "()LBasicMachine$Statement;"⟩
def dkwX3_statement_19 : List UInt8 := [181, 0, 57, 187, 1, 18, 89, 3, 183, 1, 20, 176, 187, 1, 18, 89, 4, 183, 1, 20, 176]
abbrev dktX3_statement_19 : List UInt8 := dkwX3_statement_19 ++ []
def dkwX3_statement_18 : List UInt8 := [183, 1, 8, 176, 42, 182, 1, 9, 176, 42, 182, 1, 12, 176, 42, 182, 1, 15, 176, 42, 42, 180, 0, 53]
abbrev dktX3_statement_18 : List UInt8 := dkwX3_statement_18 ++ dktX3_statement_19
def dkwX3_statement_17 : List UInt8 := [176, 187, 0, 254, 89, 42, 182, 0, 215, 183, 1, 0, 176, 42, 182, 1, 3, 176, 187, 1, 6, 89]
abbrev dktX3_statement_17 : List UInt8 := dkwX3_statement_17 ++ dktX3_statement_18
def dkwX3_statement_16 : List UInt8 := [187, 0, 245, 89, 183, 0, 247, 176, 42, 182, 0, 248, 176, 187, 0, 251, 89, 42, 182, 0, 166, 183, 0, 253]
abbrev dktX3_statement_16 : List UInt8 := dkwX3_statement_16 ++ dktX3_statement_17
def dkwX3_statement_15 : List UInt8 := [182, 0, 235, 183, 0, 238, 176, 42, 182, 0, 239, 176, 187, 0, 242, 89, 42, 182, 0, 235, 183, 0, 244, 176]
abbrev dktX3_statement_15 : List UInt8 := dkwX3_statement_15 ++ dktX3_statement_16
def dkwX3_statement_14 : List UInt8 := [187, 0, 224, 89, 42, 182, 0, 110, 183, 0, 226, 176, 42, 182, 0, 229, 176, 187, 0, 233, 89, 42]
abbrev dktX3_statement_14 : List UInt8 := dkwX3_statement_14 ++ dktX3_statement_15
def dkwX3_statement_13 : List UInt8 := [42, 182, 0, 215, 78, 42, 16, 61, 182, 0, 78, 187, 0, 219, 89, 45, 42, 182, 0, 110, 183, 0, 221, 176]
abbrev dktX3_statement_13 : List UInt8 := dkwX3_statement_13 ++ dktX3_statement_14
def dkwX3_statement_12 : List UInt8 := [170, 0, 0, 0, 0, 0, 0, 232, 0, 0, 0, 0, 0, 0, 0, 15, 0, 0, 0, 80, 0, 0, 0, 104, 0, 0, 0, 116, 0, 0, 0, 121, 0, 0, 0, 133, 0, 0, 0, 138, 0, 0, 0, 150, 0, 0, 0, 158, 0, 0, 0, 163, 0, 0, 0, 175, 0, 0, 0, 187, 0, 0, 0, 192, 0, 0, 0, 200, 0, 0, 0, 205, 0, 0, 0, 210, 0, 0, 0, 215]
abbrev dktX3_statement_12 : List UInt8 := dkwX3_statement_12 ++ dktX3_statement_13
def dkwX3_statement_11 : List UInt8 := [16, 14, 61, 167, 0, 15, 43, 18, 39, 182, 0, 211, 153, 0, 6, 16, 15, 61, 28]
abbrev dktX3_statement_11 : List UInt8 := dkwX3_statement_11 ++ dktX3_statement_12
def dkwX3_statement_10 : List UInt8 := [43, 18, 35, 182, 0, 211, 153, 0, 36, 16, 13, 61, 167, 0, 30, 43, 18, 37, 182, 0, 211, 153, 0, 21]
abbrev dktX3_statement_10 : List UInt8 := dkwX3_statement_10 ++ dktX3_statement_11
def dkwX3_statement_9 : List UInt8 := [153, 0, 66, 16, 11, 61, 167, 0, 60, 43, 18, 33, 182, 0, 211, 153, 0, 51, 16, 12, 61, 167, 0, 45]
abbrev dktX3_statement_9 : List UInt8 := dkwX3_statement_9 ++ dktX3_statement_10
def dkwX3_statement_8 : List UInt8 := [167, 0, 90, 43, 18, 29, 182, 0, 211, 153, 0, 81, 16, 10, 61, 167, 0, 75, 43, 18, 31, 182, 0, 211]
abbrev dktX3_statement_8 : List UInt8 := dkwX3_statement_8 ++ dktX3_statement_9
def dkwX3_statement_7 : List UInt8 := [182, 0, 211, 153, 0, 111, 16, 8, 61, 167, 0, 105, 43, 18, 27, 182, 0, 211, 153, 0, 96, 16, 9, 61]
abbrev dktX3_statement_7 : List UInt8 := dkwX3_statement_7 ++ dktX3_statement_8
def dkwX3_statement_6 : List UInt8 := [61, 167, 0, 135, 43, 18, 23, 182, 0, 211, 153, 0, 126, 16, 7, 61, 167, 0, 120, 43, 18, 25]
abbrev dktX3_statement_6 : List UInt8 := dkwX3_statement_6 ++ dktX3_statement_7
def dkwX3_statement_5 : List UInt8 := [18, 19, 182, 0, 211, 153, 0, 155, 8, 61, 167, 0, 150, 43, 18, 21, 182, 0, 211, 153, 0, 141, 16, 6]
abbrev dktX3_statement_5 : List UInt8 := dkwX3_statement_5 ++ dktX3_statement_6
def dkwX3_statement_4 : List UInt8 := [153, 0, 183, 6, 61, 167, 0, 178, 43, 18, 17, 182, 0, 211, 153, 0, 169, 7, 61, 167, 0, 164, 43]
abbrev dktX3_statement_4 : List UInt8 := dkwX3_statement_4 ++ dktX3_statement_5
def dkwX3_statement_3 : List UInt8 := [61, 167, 0, 206, 43, 18, 13, 182, 0, 211, 153, 0, 197, 5, 61, 167, 0, 192, 43, 18, 15, 182, 0, 211]
abbrev dktX3_statement_3 : List UInt8 := dkwX3_statement_3 ++ dktX3_statement_4
def dkwX3_statement_2 : List UInt8 := [43, 18, 9, 182, 0, 211, 153, 0, 225, 3, 61, 167, 0, 220, 43, 18, 11, 182, 0, 211, 153, 0, 211, 4]
abbrev dktX3_statement_2 : List UInt8 := dkwX3_statement_2 ++ dktX3_statement_3
def dkwX3_statement_1 : List UInt8 := [171, 0, 0, 1, 112, 0, 0, 0, 16, 143, 225, 49, 48, 0, 0, 0, 221, 0, 0, 9, 29, 0, 0, 0, 165, 0, 0, 9, 223, 0, 0, 0, 193, 0, 1, 7, 229, 0, 0, 1, 70, 0, 1, 8, 104, 0, 0, 1, 55, 0, 1, 16, 169, 0, 0, 0, 236, 0, 1, 37, 251, 0, 0, 0, 137, 0, 1, 41, 64, 0, 0, 1, 85, 0, 1, 60, 122, 0, 0, 1, 100, 0, 31, 231, 170, 0, 0, 1, 25, 0, 33, 121, 99, 0, 0, 0, 179, 0, 36, 130, 243, 0, 0, 0, 251, 0, 38, 81, 150, 0, 0, 1, 10, 4, 13, 176, 56, 0, 0, 0, 207, 4, 141, 186, 141, 0, 0, 0, 151, 108, 54, 94, 110, 0, 0, 1, 40]
abbrev dktX3_statement_1 : List UInt8 := dkwX3_statement_1 ++ dktX3_statement_2
def dkwX3_statement_0 : List UInt8 := [42, 182, 0, 204, 76, 2, 61, 43, 182, 0, 208]
abbrev dktX3_statement_0 : List UInt8 := dkwX3_statement_0 ++ dktX3_statement_1
theorem dksX3_statement_0 : cX3_statement.data.toList.drop 0 = dktX3_statement_0 := by decide +kernel
theorem dksX3_statement_1 : cX3_statement.data.toList.drop 11 = dktX3_statement_1 := dk_seg dksX3_statement_0 11 rfl rfl
theorem dksX3_statement_2 : cX3_statement.data.toList.drop 148 = dktX3_statement_2 := dk_seg dksX3_statement_1 137 rfl rfl
theorem dksX3_statement_3 : cX3_statement.data.toList.drop 172 = dktX3_statement_3 := dk_seg dksX3_statement_2 24 rfl rfl
theorem dksX3_statement_4 : cX3_statement.data.toList.drop 196 = dktX3_statement_4 := dk_seg dksX3_statement_3 24 rfl rfl
theorem dksX3_statement_5 : cX3_statement.data.toList.drop 219 = dktX3_statement_5 := dk_seg dksX3_statement_4 23 rfl rfl
theorem dksX3_statement_6 : cX3_statement.data.toList.drop 243 = dktX3_statement_6 := dk_seg dksX3_statement_5 24 rfl rfl
theorem dksX3_statement_7 : cX3_statement.data.toList.drop 265 = dktX3_statement_7 := dk_seg dksX3_statement_6 22 rfl rfl
theorem dksX3_statement_8 : cX3_statement.data.toList.drop 289 = dktX3_statement_8 := dk_seg dksX3_statement_7 24 rfl rfl
theorem dksX3_statement_9 : cX3_statement.data.toList.drop 313 = dktX3_statement_9 := dk_seg dksX3_statement_8 24 rfl rfl
theorem dksX3_statement_10 : cX3_statement.data.toList.drop 337 = dktX3_statement_10 := dk_seg dksX3_statement_9 24 rfl rfl
theorem dksX3_statement_11 : cX3_statement.data.toList.drop 361 = dktX3_statement_11 := dk_seg dksX3_statement_10 24 rfl rfl
theorem dksX3_statement_12 : cX3_statement.data.toList.drop 380 = dktX3_statement_12 := dk_seg dksX3_statement_11 19 rfl rfl
theorem dksX3_statement_13 : cX3_statement.data.toList.drop 460 = dktX3_statement_13 := dk_seg dksX3_statement_12 80 rfl rfl
theorem dksX3_statement_14 : cX3_statement.data.toList.drop 484 = dktX3_statement_14 := dk_seg dksX3_statement_13 24 rfl rfl
theorem dksX3_statement_15 : cX3_statement.data.toList.drop 506 = dktX3_statement_15 := dk_seg dksX3_statement_14 22 rfl rfl
theorem dksX3_statement_16 : cX3_statement.data.toList.drop 530 = dktX3_statement_16 := dk_seg dksX3_statement_15 24 rfl rfl
theorem dksX3_statement_17 : cX3_statement.data.toList.drop 554 = dktX3_statement_17 := dk_seg dksX3_statement_16 24 rfl rfl
theorem dksX3_statement_18 : cX3_statement.data.toList.drop 576 = dktX3_statement_18 := dk_seg dksX3_statement_17 22 rfl rfl
theorem dksX3_statement_19 : cX3_statement.data.toList.drop 600 = dktX3_statement_19 := dk_seg dksX3_statement_18 24 rfl rfl
theorem dX3_statement_0 : decode cX3_statement 0 = .ok (.aload_n 0, 1) := dk_42 (dk_at dksX3_statement_0 0 rfl rfl)
theorem dX3_statement_1 : decode cX3_statement 1 = .ok (.invokevirtual 204, 3) := dk_182 0 204 (dk_at dksX3_statement_0 1 rfl rfl)
theorem dX3_statement_4 : decode cX3_statement 4 = .ok (.astore_n 1, 1) := dk_76 (dk_at dksX3_statement_0 4 rfl rfl)
theorem dX3_statement_5 : decode cX3_statement 5 = .ok (.iconst (-1), 1) := dk_2 (dk_at dksX3_statement_0 5 rfl rfl)
theorem dX3_statement_6 : decode cX3_statement 6 = .ok (.istore_n 2, 1) := dk_61 (dk_at dksX3_statement_0 6 rfl rfl)
theorem dX3_statement_7 : decode cX3_statement 7 = .ok (.aload_n 1, 1) := dk_43 (dk_at dksX3_statement_0 7 rfl rfl)
theorem dX3_statement_8 : decode cX3_statement 8 = .ok (.invokevirtual 208, 3) := dk_182 0 208 (dk_at dksX3_statement_0 8 rfl rfl)
theorem dX3_statement_11 : decode cX3_statement 11 = .ok (.lookupswitch 368 #[(-1881067216, 221), (2333, 165), (2527, 193), (67557, 326), (67688, 311), (69801, 236), (75259, 137), (76096, 341), (81018, 356), (2090922, 281), (2193763, 179), (2392819, 251), (2511254, 266), (68005944, 207), (76397197, 151), (1815502446, 296)], 137) := by decide +kernel
theorem dX3_statement_148 : decode cX3_statement 148 = .ok (.aload_n 1, 1) := dk_43 (dk_at dksX3_statement_2 0 rfl rfl)
theorem dX3_statement_149 : decode cX3_statement 149 = .ok (.ldc 9, 2) := dk_18 9 (dk_at dksX3_statement_2 1 rfl rfl)
theorem dX3_statement_151 : decode cX3_statement 151 = .ok (.invokevirtual 211, 3) := dk_182 0 211 (dk_at dksX3_statement_2 3 rfl rfl)
theorem dX3_statement_154 : decode cX3_statement 154 = .ok (.ifCond .eq 225, 3) := dk_153 0 225 (dk_at dksX3_statement_2 6 rfl rfl)
theorem dX3_statement_157 : decode cX3_statement 157 = .ok (.iconst 0, 1) := dk_3 (dk_at dksX3_statement_2 9 rfl rfl)
theorem dX3_statement_158 : decode cX3_statement 158 = .ok (.istore_n 2, 1) := dk_61 (dk_at dksX3_statement_2 10 rfl rfl)
theorem dX3_statement_159 : decode cX3_statement 159 = .ok (.goto 220, 3) := dk_167 0 220 (dk_at dksX3_statement_2 11 rfl rfl)
theorem dX3_statement_162 : decode cX3_statement 162 = .ok (.aload_n 1, 1) := dk_43 (dk_at dksX3_statement_2 14 rfl rfl)
theorem dX3_statement_163 : decode cX3_statement 163 = .ok (.ldc 11, 2) := dk_18 11 (dk_at dksX3_statement_2 15 rfl rfl)
theorem dX3_statement_165 : decode cX3_statement 165 = .ok (.invokevirtual 211, 3) := dk_182 0 211 (dk_at dksX3_statement_2 17 rfl rfl)
theorem dX3_statement_168 : decode cX3_statement 168 = .ok (.ifCond .eq 211, 3) := dk_153 0 211 (dk_at dksX3_statement_2 20 rfl rfl)
theorem dX3_statement_171 : decode cX3_statement 171 = .ok (.iconst 1, 1) := dk_4 (dk_at dksX3_statement_2 23 rfl rfl)
theorem dX3_statement_172 : decode cX3_statement 172 = .ok (.istore_n 2, 1) := dk_61 (dk_at dksX3_statement_3 0 rfl rfl)
theorem dX3_statement_173 : decode cX3_statement 173 = .ok (.goto 206, 3) := dk_167 0 206 (dk_at dksX3_statement_3 1 rfl rfl)
theorem dX3_statement_176 : decode cX3_statement 176 = .ok (.aload_n 1, 1) := dk_43 (dk_at dksX3_statement_3 4 rfl rfl)
theorem dX3_statement_177 : decode cX3_statement 177 = .ok (.ldc 13, 2) := dk_18 13 (dk_at dksX3_statement_3 5 rfl rfl)
theorem dX3_statement_179 : decode cX3_statement 179 = .ok (.invokevirtual 211, 3) := dk_182 0 211 (dk_at dksX3_statement_3 7 rfl rfl)
theorem dX3_statement_182 : decode cX3_statement 182 = .ok (.ifCond .eq 197, 3) := dk_153 0 197 (dk_at dksX3_statement_3 10 rfl rfl)
theorem dX3_statement_185 : decode cX3_statement 185 = .ok (.iconst 2, 1) := dk_5 (dk_at dksX3_statement_3 13 rfl rfl)
theorem dX3_statement_186 : decode cX3_statement 186 = .ok (.istore_n 2, 1) := dk_61 (dk_at dksX3_statement_3 14 rfl rfl)
theorem dX3_statement_187 : decode cX3_statement 187 = .ok (.goto 192, 3) := dk_167 0 192 (dk_at dksX3_statement_3 15 rfl rfl)
theorem dX3_statement_190 : decode cX3_statement 190 = .ok (.aload_n 1, 1) := dk_43 (dk_at dksX3_statement_3 18 rfl rfl)
theorem dX3_statement_191 : decode cX3_statement 191 = .ok (.ldc 15, 2) := dk_18 15 (dk_at dksX3_statement_3 19 rfl rfl)
theorem dX3_statement_193 : decode cX3_statement 193 = .ok (.invokevirtual 211, 3) := dk_182 0 211 (dk_at dksX3_statement_3 21 rfl rfl)
theorem dX3_statement_196 : decode cX3_statement 196 = .ok (.ifCond .eq 183, 3) := dk_153 0 183 (dk_at dksX3_statement_4 0 rfl rfl)
theorem dX3_statement_199 : decode cX3_statement 199 = .ok (.iconst 3, 1) := dk_6 (dk_at dksX3_statement_4 3 rfl rfl)
theorem dX3_statement_200 : decode cX3_statement 200 = .ok (.istore_n 2, 1) := dk_61 (dk_at dksX3_statement_4 4 rfl rfl)
theorem dX3_statement_201 : decode cX3_statement 201 = .ok (.goto 178, 3) := dk_167 0 178 (dk_at dksX3_statement_4 5 rfl rfl)
theorem dX3_statement_204 : decode cX3_statement 204 = .ok (.aload_n 1, 1) := dk_43 (dk_at dksX3_statement_4 8 rfl rfl)
theorem dX3_statement_205 : decode cX3_statement 205 = .ok (.ldc 17, 2) := dk_18 17 (dk_at dksX3_statement_4 9 rfl rfl)
theorem dX3_statement_207 : decode cX3_statement 207 = .ok (.invokevirtual 211, 3) := dk_182 0 211 (dk_at dksX3_statement_4 11 rfl rfl)
theorem dX3_statement_210 : decode cX3_statement 210 = .ok (.ifCond .eq 169, 3) := dk_153 0 169 (dk_at dksX3_statement_4 14 rfl rfl)
theorem dX3_statement_213 : decode cX3_statement 213 = .ok (.iconst 4, 1) := dk_7 (dk_at dksX3_statement_4 17 rfl rfl)
theorem dX3_statement_214 : decode cX3_statement 214 = .ok (.istore_n 2, 1) := dk_61 (dk_at dksX3_statement_4 18 rfl rfl)
theorem dX3_statement_215 : decode cX3_statement 215 = .ok (.goto 164, 3) := dk_167 0 164 (dk_at dksX3_statement_4 19 rfl rfl)
theorem dX3_statement_218 : decode cX3_statement 218 = .ok (.aload_n 1, 1) := dk_43 (dk_at dksX3_statement_4 22 rfl rfl)
theorem dX3_statement_219 : decode cX3_statement 219 = .ok (.ldc 19, 2) := dk_18 19 (dk_at dksX3_statement_5 0 rfl rfl)
theorem dX3_statement_221 : decode cX3_statement 221 = .ok (.invokevirtual 211, 3) := dk_182 0 211 (dk_at dksX3_statement_5 2 rfl rfl)
theorem dX3_statement_224 : decode cX3_statement 224 = .ok (.ifCond .eq 155, 3) := dk_153 0 155 (dk_at dksX3_statement_5 5 rfl rfl)
theorem dX3_statement_227 : decode cX3_statement 227 = .ok (.iconst 5, 1) := dk_8 (dk_at dksX3_statement_5 8 rfl rfl)
theorem dX3_statement_228 : decode cX3_statement 228 = .ok (.istore_n 2, 1) := dk_61 (dk_at dksX3_statement_5 9 rfl rfl)
theorem dX3_statement_229 : decode cX3_statement 229 = .ok (.goto 150, 3) := dk_167 0 150 (dk_at dksX3_statement_5 10 rfl rfl)
theorem dX3_statement_232 : decode cX3_statement 232 = .ok (.aload_n 1, 1) := dk_43 (dk_at dksX3_statement_5 13 rfl rfl)
theorem dX3_statement_233 : decode cX3_statement 233 = .ok (.ldc 21, 2) := dk_18 21 (dk_at dksX3_statement_5 14 rfl rfl)
theorem dX3_statement_235 : decode cX3_statement 235 = .ok (.invokevirtual 211, 3) := dk_182 0 211 (dk_at dksX3_statement_5 16 rfl rfl)
theorem dX3_statement_238 : decode cX3_statement 238 = .ok (.ifCond .eq 141, 3) := dk_153 0 141 (dk_at dksX3_statement_5 19 rfl rfl)
theorem dX3_statement_241 : decode cX3_statement 241 = .ok (.bipush 6, 2) := dk_16 6 (dk_at dksX3_statement_5 22 rfl rfl)
theorem dX3_statement_243 : decode cX3_statement 243 = .ok (.istore_n 2, 1) := dk_61 (dk_at dksX3_statement_6 0 rfl rfl)
theorem dX3_statement_244 : decode cX3_statement 244 = .ok (.goto 135, 3) := dk_167 0 135 (dk_at dksX3_statement_6 1 rfl rfl)
theorem dX3_statement_247 : decode cX3_statement 247 = .ok (.aload_n 1, 1) := dk_43 (dk_at dksX3_statement_6 4 rfl rfl)
theorem dX3_statement_248 : decode cX3_statement 248 = .ok (.ldc 23, 2) := dk_18 23 (dk_at dksX3_statement_6 5 rfl rfl)
theorem dX3_statement_250 : decode cX3_statement 250 = .ok (.invokevirtual 211, 3) := dk_182 0 211 (dk_at dksX3_statement_6 7 rfl rfl)
theorem dX3_statement_253 : decode cX3_statement 253 = .ok (.ifCond .eq 126, 3) := dk_153 0 126 (dk_at dksX3_statement_6 10 rfl rfl)
theorem dX3_statement_256 : decode cX3_statement 256 = .ok (.bipush 7, 2) := dk_16 7 (dk_at dksX3_statement_6 13 rfl rfl)
theorem dX3_statement_258 : decode cX3_statement 258 = .ok (.istore_n 2, 1) := dk_61 (dk_at dksX3_statement_6 15 rfl rfl)
theorem dX3_statement_259 : decode cX3_statement 259 = .ok (.goto 120, 3) := dk_167 0 120 (dk_at dksX3_statement_6 16 rfl rfl)
theorem dX3_statement_262 : decode cX3_statement 262 = .ok (.aload_n 1, 1) := dk_43 (dk_at dksX3_statement_6 19 rfl rfl)
theorem dX3_statement_263 : decode cX3_statement 263 = .ok (.ldc 25, 2) := dk_18 25 (dk_at dksX3_statement_6 20 rfl rfl)
theorem dX3_statement_265 : decode cX3_statement 265 = .ok (.invokevirtual 211, 3) := dk_182 0 211 (dk_at dksX3_statement_7 0 rfl rfl)
theorem dX3_statement_268 : decode cX3_statement 268 = .ok (.ifCond .eq 111, 3) := dk_153 0 111 (dk_at dksX3_statement_7 3 rfl rfl)
theorem dX3_statement_271 : decode cX3_statement 271 = .ok (.bipush 8, 2) := dk_16 8 (dk_at dksX3_statement_7 6 rfl rfl)
theorem dX3_statement_273 : decode cX3_statement 273 = .ok (.istore_n 2, 1) := dk_61 (dk_at dksX3_statement_7 8 rfl rfl)
theorem dX3_statement_274 : decode cX3_statement 274 = .ok (.goto 105, 3) := dk_167 0 105 (dk_at dksX3_statement_7 9 rfl rfl)
theorem dX3_statement_277 : decode cX3_statement 277 = .ok (.aload_n 1, 1) := dk_43 (dk_at dksX3_statement_7 12 rfl rfl)
theorem dX3_statement_278 : decode cX3_statement 278 = .ok (.ldc 27, 2) := dk_18 27 (dk_at dksX3_statement_7 13 rfl rfl)
theorem dX3_statement_280 : decode cX3_statement 280 = .ok (.invokevirtual 211, 3) := dk_182 0 211 (dk_at dksX3_statement_7 15 rfl rfl)
theorem dX3_statement_283 : decode cX3_statement 283 = .ok (.ifCond .eq 96, 3) := dk_153 0 96 (dk_at dksX3_statement_7 18 rfl rfl)
theorem dX3_statement_286 : decode cX3_statement 286 = .ok (.bipush 9, 2) := dk_16 9 (dk_at dksX3_statement_7 21 rfl rfl)
theorem dX3_statement_288 : decode cX3_statement 288 = .ok (.istore_n 2, 1) := dk_61 (dk_at dksX3_statement_7 23 rfl rfl)
theorem dX3_statement_289 : decode cX3_statement 289 = .ok (.goto 90, 3) := dk_167 0 90 (dk_at dksX3_statement_8 0 rfl rfl)
theorem dX3_statement_292 : decode cX3_statement 292 = .ok (.aload_n 1, 1) := dk_43 (dk_at dksX3_statement_8 3 rfl rfl)
theorem dX3_statement_293 : decode cX3_statement 293 = .ok (.ldc 29, 2) := dk_18 29 (dk_at dksX3_statement_8 4 rfl rfl)
theorem dX3_statement_295 : decode cX3_statement 295 = .ok (.invokevirtual 211, 3) := dk_182 0 211 (dk_at dksX3_statement_8 6 rfl rfl)
theorem dX3_statement_298 : decode cX3_statement 298 = .ok (.ifCond .eq 81, 3) := dk_153 0 81 (dk_at dksX3_statement_8 9 rfl rfl)
theorem dX3_statement_301 : decode cX3_statement 301 = .ok (.bipush 10, 2) := dk_16 10 (dk_at dksX3_statement_8 12 rfl rfl)
theorem dX3_statement_303 : decode cX3_statement 303 = .ok (.istore_n 2, 1) := dk_61 (dk_at dksX3_statement_8 14 rfl rfl)
theorem dX3_statement_304 : decode cX3_statement 304 = .ok (.goto 75, 3) := dk_167 0 75 (dk_at dksX3_statement_8 15 rfl rfl)
theorem dX3_statement_307 : decode cX3_statement 307 = .ok (.aload_n 1, 1) := dk_43 (dk_at dksX3_statement_8 18 rfl rfl)
theorem dX3_statement_308 : decode cX3_statement 308 = .ok (.ldc 31, 2) := dk_18 31 (dk_at dksX3_statement_8 19 rfl rfl)
theorem dX3_statement_310 : decode cX3_statement 310 = .ok (.invokevirtual 211, 3) := dk_182 0 211 (dk_at dksX3_statement_8 21 rfl rfl)
theorem dX3_statement_313 : decode cX3_statement 313 = .ok (.ifCond .eq 66, 3) := dk_153 0 66 (dk_at dksX3_statement_9 0 rfl rfl)
theorem dX3_statement_316 : decode cX3_statement 316 = .ok (.bipush 11, 2) := dk_16 11 (dk_at dksX3_statement_9 3 rfl rfl)
theorem dX3_statement_318 : decode cX3_statement 318 = .ok (.istore_n 2, 1) := dk_61 (dk_at dksX3_statement_9 5 rfl rfl)
theorem dX3_statement_319 : decode cX3_statement 319 = .ok (.goto 60, 3) := dk_167 0 60 (dk_at dksX3_statement_9 6 rfl rfl)
theorem dX3_statement_322 : decode cX3_statement 322 = .ok (.aload_n 1, 1) := dk_43 (dk_at dksX3_statement_9 9 rfl rfl)
theorem dX3_statement_323 : decode cX3_statement 323 = .ok (.ldc 33, 2) := dk_18 33 (dk_at dksX3_statement_9 10 rfl rfl)
theorem dX3_statement_325 : decode cX3_statement 325 = .ok (.invokevirtual 211, 3) := dk_182 0 211 (dk_at dksX3_statement_9 12 rfl rfl)
theorem dX3_statement_328 : decode cX3_statement 328 = .ok (.ifCond .eq 51, 3) := dk_153 0 51 (dk_at dksX3_statement_9 15 rfl rfl)
theorem dX3_statement_331 : decode cX3_statement 331 = .ok (.bipush 12, 2) := dk_16 12 (dk_at dksX3_statement_9 18 rfl rfl)
theorem dX3_statement_333 : decode cX3_statement 333 = .ok (.istore_n 2, 1) := dk_61 (dk_at dksX3_statement_9 20 rfl rfl)
theorem dX3_statement_334 : decode cX3_statement 334 = .ok (.goto 45, 3) := dk_167 0 45 (dk_at dksX3_statement_9 21 rfl rfl)
theorem dX3_statement_337 : decode cX3_statement 337 = .ok (.aload_n 1, 1) := dk_43 (dk_at dksX3_statement_10 0 rfl rfl)
theorem dX3_statement_338 : decode cX3_statement 338 = .ok (.ldc 35, 2) := dk_18 35 (dk_at dksX3_statement_10 1 rfl rfl)
theorem dX3_statement_340 : decode cX3_statement 340 = .ok (.invokevirtual 211, 3) := dk_182 0 211 (dk_at dksX3_statement_10 3 rfl rfl)
theorem dX3_statement_343 : decode cX3_statement 343 = .ok (.ifCond .eq 36, 3) := dk_153 0 36 (dk_at dksX3_statement_10 6 rfl rfl)
theorem dX3_statement_346 : decode cX3_statement 346 = .ok (.bipush 13, 2) := dk_16 13 (dk_at dksX3_statement_10 9 rfl rfl)
theorem dX3_statement_348 : decode cX3_statement 348 = .ok (.istore_n 2, 1) := dk_61 (dk_at dksX3_statement_10 11 rfl rfl)
theorem dX3_statement_349 : decode cX3_statement 349 = .ok (.goto 30, 3) := dk_167 0 30 (dk_at dksX3_statement_10 12 rfl rfl)
theorem dX3_statement_352 : decode cX3_statement 352 = .ok (.aload_n 1, 1) := dk_43 (dk_at dksX3_statement_10 15 rfl rfl)
theorem dX3_statement_353 : decode cX3_statement 353 = .ok (.ldc 37, 2) := dk_18 37 (dk_at dksX3_statement_10 16 rfl rfl)
theorem dX3_statement_355 : decode cX3_statement 355 = .ok (.invokevirtual 211, 3) := dk_182 0 211 (dk_at dksX3_statement_10 18 rfl rfl)
theorem dX3_statement_358 : decode cX3_statement 358 = .ok (.ifCond .eq 21, 3) := dk_153 0 21 (dk_at dksX3_statement_10 21 rfl rfl)
theorem dX3_statement_361 : decode cX3_statement 361 = .ok (.bipush 14, 2) := dk_16 14 (dk_at dksX3_statement_11 0 rfl rfl)
theorem dX3_statement_363 : decode cX3_statement 363 = .ok (.istore_n 2, 1) := dk_61 (dk_at dksX3_statement_11 2 rfl rfl)
theorem dX3_statement_364 : decode cX3_statement 364 = .ok (.goto 15, 3) := dk_167 0 15 (dk_at dksX3_statement_11 3 rfl rfl)
theorem dX3_statement_367 : decode cX3_statement 367 = .ok (.aload_n 1, 1) := dk_43 (dk_at dksX3_statement_11 6 rfl rfl)
theorem dX3_statement_368 : decode cX3_statement 368 = .ok (.ldc 39, 2) := dk_18 39 (dk_at dksX3_statement_11 7 rfl rfl)
theorem dX3_statement_370 : decode cX3_statement 370 = .ok (.invokevirtual 211, 3) := dk_182 0 211 (dk_at dksX3_statement_11 9 rfl rfl)
theorem dX3_statement_373 : decode cX3_statement 373 = .ok (.ifCond .eq 6, 3) := dk_153 0 6 (dk_at dksX3_statement_11 12 rfl rfl)
theorem dX3_statement_376 : decode cX3_statement 376 = .ok (.bipush 15, 2) := dk_16 15 (dk_at dksX3_statement_11 15 rfl rfl)
theorem dX3_statement_378 : decode cX3_statement 378 = .ok (.istore_n 2, 1) := dk_61 (dk_at dksX3_statement_11 17 rfl rfl)
theorem dX3_statement_379 : decode cX3_statement 379 = .ok (.iload_n 2, 1) := dk_28 (dk_at dksX3_statement_11 18 rfl rfl)
theorem dX3_statement_380 : decode cX3_statement 380 = .ok (.tableswitch 232 0 15 #[80, 104, 116, 121, 133, 138, 150, 158, 163, 175, 187, 192, 200, 205, 210, 215], 80) := by decide +kernel
theorem dX3_statement_460 : decode cX3_statement 460 = .ok (.aload_n 0, 1) := dk_42 (dk_at dksX3_statement_13 0 rfl rfl)
theorem dX3_statement_461 : decode cX3_statement 461 = .ok (.invokevirtual 215, 3) := dk_182 0 215 (dk_at dksX3_statement_13 1 rfl rfl)
theorem dX3_statement_464 : decode cX3_statement 464 = .ok (.astore_n 3, 1) := dk_78 (dk_at dksX3_statement_13 4 rfl rfl)
theorem dX3_statement_465 : decode cX3_statement 465 = .ok (.aload_n 0, 1) := dk_42 (dk_at dksX3_statement_13 5 rfl rfl)
theorem dX3_statement_466 : decode cX3_statement 466 = .ok (.bipush 61, 2) := dk_16 61 (dk_at dksX3_statement_13 6 rfl rfl)
theorem dX3_statement_468 : decode cX3_statement 468 = .ok (.invokevirtual 78, 3) := dk_182 0 78 (dk_at dksX3_statement_13 8 rfl rfl)
theorem dX3_statement_471 : decode cX3_statement 471 = .ok (.new 219, 3) := dk_187 0 219 (dk_at dksX3_statement_13 11 rfl rfl)
theorem dX3_statement_474 : decode cX3_statement 474 = .ok (.dup, 1) := dk_89 (dk_at dksX3_statement_13 14 rfl rfl)
theorem dX3_statement_475 : decode cX3_statement 475 = .ok (.aload_n 3, 1) := dk_45 (dk_at dksX3_statement_13 15 rfl rfl)
theorem dX3_statement_476 : decode cX3_statement 476 = .ok (.aload_n 0, 1) := dk_42 (dk_at dksX3_statement_13 16 rfl rfl)
theorem dX3_statement_477 : decode cX3_statement 477 = .ok (.invokevirtual 110, 3) := dk_182 0 110 (dk_at dksX3_statement_13 17 rfl rfl)
theorem dX3_statement_480 : decode cX3_statement 480 = .ok (.invokespecial 221, 3) := dk_183 0 221 (dk_at dksX3_statement_13 20 rfl rfl)
theorem dX3_statement_483 : decode cX3_statement 483 = .ok (.areturn, 1) := dk_176 (dk_at dksX3_statement_13 23 rfl rfl)
theorem dX3_statement_484 : decode cX3_statement 484 = .ok (.new 224, 3) := dk_187 0 224 (dk_at dksX3_statement_14 0 rfl rfl)
theorem dX3_statement_487 : decode cX3_statement 487 = .ok (.dup, 1) := dk_89 (dk_at dksX3_statement_14 3 rfl rfl)
theorem dX3_statement_488 : decode cX3_statement 488 = .ok (.aload_n 0, 1) := dk_42 (dk_at dksX3_statement_14 4 rfl rfl)
theorem dX3_statement_489 : decode cX3_statement 489 = .ok (.invokevirtual 110, 3) := dk_182 0 110 (dk_at dksX3_statement_14 5 rfl rfl)
theorem dX3_statement_492 : decode cX3_statement 492 = .ok (.invokespecial 226, 3) := dk_183 0 226 (dk_at dksX3_statement_14 8 rfl rfl)
theorem dX3_statement_495 : decode cX3_statement 495 = .ok (.areturn, 1) := dk_176 (dk_at dksX3_statement_14 11 rfl rfl)
theorem dX3_statement_496 : decode cX3_statement 496 = .ok (.aload_n 0, 1) := dk_42 (dk_at dksX3_statement_14 12 rfl rfl)
theorem dX3_statement_497 : decode cX3_statement 497 = .ok (.invokevirtual 229, 3) := dk_182 0 229 (dk_at dksX3_statement_14 13 rfl rfl)
theorem dX3_statement_500 : decode cX3_statement 500 = .ok (.areturn, 1) := dk_176 (dk_at dksX3_statement_14 16 rfl rfl)
theorem dX3_statement_501 : decode cX3_statement 501 = .ok (.new 233, 3) := dk_187 0 233 (dk_at dksX3_statement_14 17 rfl rfl)
theorem dX3_statement_504 : decode cX3_statement 504 = .ok (.dup, 1) := dk_89 (dk_at dksX3_statement_14 20 rfl rfl)
theorem dX3_statement_505 : decode cX3_statement 505 = .ok (.aload_n 0, 1) := dk_42 (dk_at dksX3_statement_14 21 rfl rfl)
theorem dX3_statement_506 : decode cX3_statement 506 = .ok (.invokevirtual 235, 3) := dk_182 0 235 (dk_at dksX3_statement_15 0 rfl rfl)
theorem dX3_statement_509 : decode cX3_statement 509 = .ok (.invokespecial 238, 3) := dk_183 0 238 (dk_at dksX3_statement_15 3 rfl rfl)
theorem dX3_statement_512 : decode cX3_statement 512 = .ok (.areturn, 1) := dk_176 (dk_at dksX3_statement_15 6 rfl rfl)
theorem dX3_statement_513 : decode cX3_statement 513 = .ok (.aload_n 0, 1) := dk_42 (dk_at dksX3_statement_15 7 rfl rfl)
theorem dX3_statement_514 : decode cX3_statement 514 = .ok (.invokevirtual 239, 3) := dk_182 0 239 (dk_at dksX3_statement_15 8 rfl rfl)
theorem dX3_statement_517 : decode cX3_statement 517 = .ok (.areturn, 1) := dk_176 (dk_at dksX3_statement_15 11 rfl rfl)
theorem dX3_statement_518 : decode cX3_statement 518 = .ok (.new 242, 3) := dk_187 0 242 (dk_at dksX3_statement_15 12 rfl rfl)
theorem dX3_statement_521 : decode cX3_statement 521 = .ok (.dup, 1) := dk_89 (dk_at dksX3_statement_15 15 rfl rfl)
theorem dX3_statement_522 : decode cX3_statement 522 = .ok (.aload_n 0, 1) := dk_42 (dk_at dksX3_statement_15 16 rfl rfl)
theorem dX3_statement_523 : decode cX3_statement 523 = .ok (.invokevirtual 235, 3) := dk_182 0 235 (dk_at dksX3_statement_15 17 rfl rfl)
theorem dX3_statement_526 : decode cX3_statement 526 = .ok (.invokespecial 244, 3) := dk_183 0 244 (dk_at dksX3_statement_15 20 rfl rfl)
theorem dX3_statement_529 : decode cX3_statement 529 = .ok (.areturn, 1) := dk_176 (dk_at dksX3_statement_15 23 rfl rfl)
theorem dX3_statement_530 : decode cX3_statement 530 = .ok (.new 245, 3) := dk_187 0 245 (dk_at dksX3_statement_16 0 rfl rfl)
theorem dX3_statement_533 : decode cX3_statement 533 = .ok (.dup, 1) := dk_89 (dk_at dksX3_statement_16 3 rfl rfl)
theorem dX3_statement_534 : decode cX3_statement 534 = .ok (.invokespecial 247, 3) := dk_183 0 247 (dk_at dksX3_statement_16 4 rfl rfl)
theorem dX3_statement_537 : decode cX3_statement 537 = .ok (.areturn, 1) := dk_176 (dk_at dksX3_statement_16 7 rfl rfl)
theorem dX3_statement_538 : decode cX3_statement 538 = .ok (.aload_n 0, 1) := dk_42 (dk_at dksX3_statement_16 8 rfl rfl)
theorem dX3_statement_539 : decode cX3_statement 539 = .ok (.invokevirtual 248, 3) := dk_182 0 248 (dk_at dksX3_statement_16 9 rfl rfl)
theorem dX3_statement_542 : decode cX3_statement 542 = .ok (.areturn, 1) := dk_176 (dk_at dksX3_statement_16 12 rfl rfl)
theorem dX3_statement_543 : decode cX3_statement 543 = .ok (.new 251, 3) := dk_187 0 251 (dk_at dksX3_statement_16 13 rfl rfl)
theorem dX3_statement_546 : decode cX3_statement 546 = .ok (.dup, 1) := dk_89 (dk_at dksX3_statement_16 16 rfl rfl)
theorem dX3_statement_547 : decode cX3_statement 547 = .ok (.aload_n 0, 1) := dk_42 (dk_at dksX3_statement_16 17 rfl rfl)
theorem dX3_statement_548 : decode cX3_statement 548 = .ok (.invokevirtual 166, 3) := dk_182 0 166 (dk_at dksX3_statement_16 18 rfl rfl)
theorem dX3_statement_551 : decode cX3_statement 551 = .ok (.invokespecial 253, 3) := dk_183 0 253 (dk_at dksX3_statement_16 21 rfl rfl)
theorem dX3_statement_554 : decode cX3_statement 554 = .ok (.areturn, 1) := dk_176 (dk_at dksX3_statement_17 0 rfl rfl)
theorem dX3_statement_555 : decode cX3_statement 555 = .ok (.new 254, 3) := dk_187 0 254 (dk_at dksX3_statement_17 1 rfl rfl)
theorem dX3_statement_558 : decode cX3_statement 558 = .ok (.dup, 1) := dk_89 (dk_at dksX3_statement_17 4 rfl rfl)
theorem dX3_statement_559 : decode cX3_statement 559 = .ok (.aload_n 0, 1) := dk_42 (dk_at dksX3_statement_17 5 rfl rfl)
theorem dX3_statement_560 : decode cX3_statement 560 = .ok (.invokevirtual 215, 3) := dk_182 0 215 (dk_at dksX3_statement_17 6 rfl rfl)
theorem dX3_statement_563 : decode cX3_statement 563 = .ok (.invokespecial 256, 3) := dk_183 1 0 (dk_at dksX3_statement_17 9 rfl rfl)
theorem dX3_statement_566 : decode cX3_statement 566 = .ok (.areturn, 1) := dk_176 (dk_at dksX3_statement_17 12 rfl rfl)
theorem dX3_statement_567 : decode cX3_statement 567 = .ok (.aload_n 0, 1) := dk_42 (dk_at dksX3_statement_17 13 rfl rfl)
theorem dX3_statement_568 : decode cX3_statement 568 = .ok (.invokevirtual 259, 3) := dk_182 1 3 (dk_at dksX3_statement_17 14 rfl rfl)
theorem dX3_statement_571 : decode cX3_statement 571 = .ok (.areturn, 1) := dk_176 (dk_at dksX3_statement_17 17 rfl rfl)
theorem dX3_statement_572 : decode cX3_statement 572 = .ok (.new 262, 3) := dk_187 1 6 (dk_at dksX3_statement_17 18 rfl rfl)
theorem dX3_statement_575 : decode cX3_statement 575 = .ok (.dup, 1) := dk_89 (dk_at dksX3_statement_17 21 rfl rfl)
theorem dX3_statement_576 : decode cX3_statement 576 = .ok (.invokespecial 264, 3) := dk_183 1 8 (dk_at dksX3_statement_18 0 rfl rfl)
theorem dX3_statement_579 : decode cX3_statement 579 = .ok (.areturn, 1) := dk_176 (dk_at dksX3_statement_18 3 rfl rfl)
theorem dX3_statement_580 : decode cX3_statement 580 = .ok (.aload_n 0, 1) := dk_42 (dk_at dksX3_statement_18 4 rfl rfl)
theorem dX3_statement_581 : decode cX3_statement 581 = .ok (.invokevirtual 265, 3) := dk_182 1 9 (dk_at dksX3_statement_18 5 rfl rfl)
theorem dX3_statement_584 : decode cX3_statement 584 = .ok (.areturn, 1) := dk_176 (dk_at dksX3_statement_18 8 rfl rfl)
theorem dX3_statement_585 : decode cX3_statement 585 = .ok (.aload_n 0, 1) := dk_42 (dk_at dksX3_statement_18 9 rfl rfl)
theorem dX3_statement_586 : decode cX3_statement 586 = .ok (.invokevirtual 268, 3) := dk_182 1 12 (dk_at dksX3_statement_18 10 rfl rfl)
theorem dX3_statement_589 : decode cX3_statement 589 = .ok (.areturn, 1) := dk_176 (dk_at dksX3_statement_18 13 rfl rfl)
theorem dX3_statement_590 : decode cX3_statement 590 = .ok (.aload_n 0, 1) := dk_42 (dk_at dksX3_statement_18 14 rfl rfl)
theorem dX3_statement_591 : decode cX3_statement 591 = .ok (.invokevirtual 271, 3) := dk_182 1 15 (dk_at dksX3_statement_18 15 rfl rfl)
theorem dX3_statement_594 : decode cX3_statement 594 = .ok (.areturn, 1) := dk_176 (dk_at dksX3_statement_18 18 rfl rfl)
theorem dX3_statement_595 : decode cX3_statement 595 = .ok (.aload_n 0, 1) := dk_42 (dk_at dksX3_statement_18 19 rfl rfl)
theorem dX3_statement_596 : decode cX3_statement 596 = .ok (.aload_n 0, 1) := dk_42 (dk_at dksX3_statement_18 20 rfl rfl)
theorem dX3_statement_597 : decode cX3_statement 597 = .ok (.getfield 53, 3) := dk_180 0 53 (dk_at dksX3_statement_18 21 rfl rfl)
theorem dX3_statement_600 : decode cX3_statement 600 = .ok (.putfield 57, 3) := dk_181 0 57 (dk_at dksX3_statement_19 0 rfl rfl)
theorem dX3_statement_603 : decode cX3_statement 603 = .ok (.new 274, 3) := dk_187 1 18 (dk_at dksX3_statement_19 3 rfl rfl)
theorem dX3_statement_606 : decode cX3_statement 606 = .ok (.dup, 1) := dk_89 (dk_at dksX3_statement_19 6 rfl rfl)
theorem dX3_statement_607 : decode cX3_statement 607 = .ok (.iconst 0, 1) := dk_3 (dk_at dksX3_statement_19 7 rfl rfl)
theorem dX3_statement_608 : decode cX3_statement 608 = .ok (.invokespecial 276, 3) := dk_183 1 20 (dk_at dksX3_statement_19 8 rfl rfl)
theorem dX3_statement_611 : decode cX3_statement 611 = .ok (.areturn, 1) := dk_176 (dk_at dksX3_statement_19 11 rfl rfl)
theorem dX3_statement_612 : decode cX3_statement 612 = .ok (.new 274, 3) := dk_187 1 18 (dk_at dksX3_statement_19 12 rfl rfl)
theorem dX3_statement_615 : decode cX3_statement 615 = .ok (.dup, 1) := dk_89 (dk_at dksX3_statement_19 15 rfl rfl)
theorem dX3_statement_616 : decode cX3_statement 616 = .ok (.iconst 1, 1) := dk_4 (dk_at dksX3_statement_19 16 rfl rfl)
theorem dX3_statement_617 : decode cX3_statement 617 = .ok (.invokespecial 276, 3) := dk_183 1 20 (dk_at dksX3_statement_19 17 rfl rfl)
theorem dX3_statement_620 : decode cX3_statement 620 = .ok (.areturn, 1) := dk_176 (dk_at dksX3_statement_19 20 rfl rfl)
abbrev cX3_word : ByteArray := prog_22_method_26_code
def yX3_word : MethodName := ⟨RX3, "word", "()Ljava/lang/String;"⟩
def dkwX3_word_4 : List UInt8 := [167, 255, 167]
abbrev dktX3_word_4 : List UInt8 := dkwX3_word_4 ++ []
def dkwX3_word_3 : List UInt8 := [4, 61, 132, 3, 1, 167, 255, 189, 42, 28, 182, 0, 67, 42, 89, 180, 0, 57, 4, 96, 181, 0, 57]
abbrev dktX3_word_3 : List UInt8 := dkwX3_word_3 ++ dktX3_word_4
def dkwX3_word_2 : List UInt8 := [21, 4, 96, 181, 0, 57, 42, 180, 0, 43, 29, 50, 176, 21, 4, 42, 180, 0, 57, 27, 100, 164, 0, 5]
abbrev dktX3_word_2 : List UInt8 := dkwX3_word_2 ++ dktX3_word_3
def dkwX3_word_1 : List UInt8 := [50, 27, 182, 0, 200, 54, 4, 21, 4, 42, 180, 0, 43, 29, 50, 182, 0, 71, 160, 0, 18, 42, 27]
abbrev dktX3_word_1 : List UInt8 := dkwX3_word_1 ++ dktX3_word_2
def dkwX3_word_0 : List UInt8 := [42, 180, 0, 57, 60, 3, 61, 3, 62, 29, 42, 180, 0, 43, 190, 162, 0, 64, 42, 42, 180, 0, 43, 29]
abbrev dktX3_word_0 : List UInt8 := dkwX3_word_0 ++ dktX3_word_1
theorem dksX3_word_0 : cX3_word.data.toList.drop 0 = dktX3_word_0 := by decide +kernel
theorem dksX3_word_1 : cX3_word.data.toList.drop 24 = dktX3_word_1 := dk_seg dksX3_word_0 24 rfl rfl
theorem dksX3_word_2 : cX3_word.data.toList.drop 47 = dktX3_word_2 := dk_seg dksX3_word_1 23 rfl rfl
theorem dksX3_word_3 : cX3_word.data.toList.drop 71 = dktX3_word_3 := dk_seg dksX3_word_2 24 rfl rfl
theorem dksX3_word_4 : cX3_word.data.toList.drop 94 = dktX3_word_4 := dk_seg dksX3_word_3 23 rfl rfl
theorem dX3_word_0 : decode cX3_word 0 = .ok (.aload_n 0, 1) := dk_42 (dk_at dksX3_word_0 0 rfl rfl)
theorem dX3_word_1 : decode cX3_word 1 = .ok (.getfield 57, 3) := dk_180 0 57 (dk_at dksX3_word_0 1 rfl rfl)
theorem dX3_word_4 : decode cX3_word 4 = .ok (.istore_n 1, 1) := dk_60 (dk_at dksX3_word_0 4 rfl rfl)
theorem dX3_word_5 : decode cX3_word 5 = .ok (.iconst 0, 1) := dk_3 (dk_at dksX3_word_0 5 rfl rfl)
theorem dX3_word_6 : decode cX3_word 6 = .ok (.istore_n 2, 1) := dk_61 (dk_at dksX3_word_0 6 rfl rfl)
theorem dX3_word_7 : decode cX3_word 7 = .ok (.iconst 0, 1) := dk_3 (dk_at dksX3_word_0 7 rfl rfl)
theorem dX3_word_8 : decode cX3_word 8 = .ok (.istore_n 3, 1) := dk_62 (dk_at dksX3_word_0 8 rfl rfl)
theorem dX3_word_9 : decode cX3_word 9 = .ok (.iload_n 3, 1) := dk_29 (dk_at dksX3_word_0 9 rfl rfl)
theorem dX3_word_10 : decode cX3_word 10 = .ok (.aload_n 0, 1) := dk_42 (dk_at dksX3_word_0 10 rfl rfl)
theorem dX3_word_11 : decode cX3_word 11 = .ok (.getfield 43, 3) := dk_180 0 43 (dk_at dksX3_word_0 11 rfl rfl)
theorem dX3_word_14 : decode cX3_word 14 = .ok (.arraylength, 1) := dk_190 (dk_at dksX3_word_0 14 rfl rfl)
theorem dX3_word_15 : decode cX3_word 15 = .ok (.if_icmp .ge 64, 3) := dk_162 0 64 (dk_at dksX3_word_0 15 rfl rfl)
theorem dX3_word_18 : decode cX3_word 18 = .ok (.aload_n 0, 1) := dk_42 (dk_at dksX3_word_0 18 rfl rfl)
theorem dX3_word_19 : decode cX3_word 19 = .ok (.aload_n 0, 1) := dk_42 (dk_at dksX3_word_0 19 rfl rfl)
theorem dX3_word_20 : decode cX3_word 20 = .ok (.getfield 43, 3) := dk_180 0 43 (dk_at dksX3_word_0 20 rfl rfl)
theorem dX3_word_23 : decode cX3_word 23 = .ok (.iload_n 3, 1) := dk_29 (dk_at dksX3_word_0 23 rfl rfl)
theorem dX3_word_24 : decode cX3_word 24 = .ok (.aaload, 1) := dk_50 (dk_at dksX3_word_1 0 rfl rfl)
theorem dX3_word_25 : decode cX3_word 25 = .ok (.iload_n 1, 1) := dk_27 (dk_at dksX3_word_1 1 rfl rfl)
theorem dX3_word_26 : decode cX3_word 26 = .ok (.invokevirtual 200, 3) := dk_182 0 200 (dk_at dksX3_word_1 2 rfl rfl)
theorem dX3_word_29 : decode cX3_word 29 = .ok (.istore 4, 2) := dk_54 4 (dk_at dksX3_word_1 5 rfl rfl)
theorem dX3_word_31 : decode cX3_word 31 = .ok (.iload 4, 2) := dk_21 4 (dk_at dksX3_word_1 7 rfl rfl)
theorem dX3_word_33 : decode cX3_word 33 = .ok (.aload_n 0, 1) := dk_42 (dk_at dksX3_word_1 9 rfl rfl)
theorem dX3_word_34 : decode cX3_word 34 = .ok (.getfield 43, 3) := dk_180 0 43 (dk_at dksX3_word_1 10 rfl rfl)
theorem dX3_word_37 : decode cX3_word 37 = .ok (.iload_n 3, 1) := dk_29 (dk_at dksX3_word_1 13 rfl rfl)
theorem dX3_word_38 : decode cX3_word 38 = .ok (.aaload, 1) := dk_50 (dk_at dksX3_word_1 14 rfl rfl)
theorem dX3_word_39 : decode cX3_word 39 = .ok (.invokevirtual 71, 3) := dk_182 0 71 (dk_at dksX3_word_1 15 rfl rfl)
theorem dX3_word_42 : decode cX3_word 42 = .ok (.if_icmp .ne 18, 3) := dk_160 0 18 (dk_at dksX3_word_1 18 rfl rfl)
theorem dX3_word_45 : decode cX3_word 45 = .ok (.aload_n 0, 1) := dk_42 (dk_at dksX3_word_1 21 rfl rfl)
theorem dX3_word_46 : decode cX3_word 46 = .ok (.iload_n 1, 1) := dk_27 (dk_at dksX3_word_1 22 rfl rfl)
theorem dX3_word_47 : decode cX3_word 47 = .ok (.iload 4, 2) := dk_21 4 (dk_at dksX3_word_2 0 rfl rfl)
theorem dX3_word_49 : decode cX3_word 49 = .ok (.iadd, 1) := dk_96 (dk_at dksX3_word_2 2 rfl rfl)
theorem dX3_word_50 : decode cX3_word 50 = .ok (.putfield 57, 3) := dk_181 0 57 (dk_at dksX3_word_2 3 rfl rfl)
theorem dX3_word_53 : decode cX3_word 53 = .ok (.aload_n 0, 1) := dk_42 (dk_at dksX3_word_2 6 rfl rfl)
theorem dX3_word_54 : decode cX3_word 54 = .ok (.getfield 43, 3) := dk_180 0 43 (dk_at dksX3_word_2 7 rfl rfl)
theorem dX3_word_57 : decode cX3_word 57 = .ok (.iload_n 3, 1) := dk_29 (dk_at dksX3_word_2 10 rfl rfl)
theorem dX3_word_58 : decode cX3_word 58 = .ok (.aaload, 1) := dk_50 (dk_at dksX3_word_2 11 rfl rfl)
theorem dX3_word_59 : decode cX3_word 59 = .ok (.areturn, 1) := dk_176 (dk_at dksX3_word_2 12 rfl rfl)
theorem dX3_word_60 : decode cX3_word 60 = .ok (.iload 4, 2) := dk_21 4 (dk_at dksX3_word_2 13 rfl rfl)
theorem dX3_word_62 : decode cX3_word 62 = .ok (.aload_n 0, 1) := dk_42 (dk_at dksX3_word_2 15 rfl rfl)
theorem dX3_word_63 : decode cX3_word 63 = .ok (.getfield 57, 3) := dk_180 0 57 (dk_at dksX3_word_2 16 rfl rfl)
theorem dX3_word_66 : decode cX3_word 66 = .ok (.iload_n 1, 1) := dk_27 (dk_at dksX3_word_2 19 rfl rfl)
theorem dX3_word_67 : decode cX3_word 67 = .ok (.isub, 1) := dk_100 (dk_at dksX3_word_2 20 rfl rfl)
theorem dX3_word_68 : decode cX3_word 68 = .ok (.if_icmp .le 5, 3) := dk_164 0 5 (dk_at dksX3_word_2 21 rfl rfl)
theorem dX3_word_71 : decode cX3_word 71 = .ok (.iconst 1, 1) := dk_4 (dk_at dksX3_word_3 0 rfl rfl)
theorem dX3_word_72 : decode cX3_word 72 = .ok (.istore_n 2, 1) := dk_61 (dk_at dksX3_word_3 1 rfl rfl)
theorem dX3_word_73 : decode cX3_word 73 = .ok (.iinc 3 1, 3) := dk_132 3 1 (dk_at dksX3_word_3 2 rfl rfl)
theorem dX3_word_76 : decode cX3_word 76 = .ok (.goto (-67), 3) := dk_167 255 189 (dk_at dksX3_word_3 5 rfl rfl)
theorem dX3_word_79 : decode cX3_word 79 = .ok (.aload_n 0, 1) := dk_42 (dk_at dksX3_word_3 8 rfl rfl)
theorem dX3_word_80 : decode cX3_word 80 = .ok (.iload_n 2, 1) := dk_28 (dk_at dksX3_word_3 9 rfl rfl)
theorem dX3_word_81 : decode cX3_word 81 = .ok (.invokevirtual 67, 3) := dk_182 0 67 (dk_at dksX3_word_3 10 rfl rfl)
theorem dX3_word_84 : decode cX3_word 84 = .ok (.aload_n 0, 1) := dk_42 (dk_at dksX3_word_3 13 rfl rfl)
theorem dX3_word_85 : decode cX3_word 85 = .ok (.dup, 1) := dk_89 (dk_at dksX3_word_3 14 rfl rfl)
theorem dX3_word_86 : decode cX3_word 86 = .ok (.getfield 57, 3) := dk_180 0 57 (dk_at dksX3_word_3 15 rfl rfl)
theorem dX3_word_89 : decode cX3_word 89 = .ok (.iconst 1, 1) := dk_4 (dk_at dksX3_word_3 18 rfl rfl)
theorem dX3_word_90 : decode cX3_word 90 = .ok (.iadd, 1) := dk_96 (dk_at dksX3_word_3 19 rfl rfl)
theorem dX3_word_91 : decode cX3_word 91 = .ok (.putfield 57, 3) := dk_181 0 57 (dk_at dksX3_word_3 20 rfl rfl)
theorem dX3_word_94 : decode cX3_word 94 = .ok (.goto (-89), 3) := dk_167 255 167 (dk_at dksX3_word_4 0 rfl rfl)
abbrev cX3_same : ByteArray := prog_22_method_27_code
def yX3_same : MethodName := ⟨RX3, "same", "(Ljava/lang/String;I)I"⟩
def dkwX3_same_1 : List UInt8 := [28, 29, 96, 52, 43, 29, 182, 0, 74, 160, 0, 9, 132, 3, 1, 167, 255, 219, 29, 172]
abbrev dktX3_same_1 : List UInt8 := dkwX3_same_1 ++ []
def dkwX3_same_0 : List UInt8 := [3, 62, 29, 43, 182, 0, 71, 162, 0, 35, 28, 29, 96, 42, 180, 0, 53, 162, 0, 25, 42, 180, 0, 49]
abbrev dktX3_same_0 : List UInt8 := dkwX3_same_0 ++ dktX3_same_1
theorem dksX3_same_0 : cX3_same.data.toList.drop 0 = dktX3_same_0 := by decide +kernel
theorem dksX3_same_1 : cX3_same.data.toList.drop 24 = dktX3_same_1 := dk_seg dksX3_same_0 24 rfl rfl
theorem dX3_same_0 : decode cX3_same 0 = .ok (.iconst 0, 1) := dk_3 (dk_at dksX3_same_0 0 rfl rfl)
theorem dX3_same_1 : decode cX3_same 1 = .ok (.istore_n 3, 1) := dk_62 (dk_at dksX3_same_0 1 rfl rfl)
theorem dX3_same_2 : decode cX3_same 2 = .ok (.iload_n 3, 1) := dk_29 (dk_at dksX3_same_0 2 rfl rfl)
theorem dX3_same_3 : decode cX3_same 3 = .ok (.aload_n 1, 1) := dk_43 (dk_at dksX3_same_0 3 rfl rfl)
theorem dX3_same_4 : decode cX3_same 4 = .ok (.invokevirtual 71, 3) := dk_182 0 71 (dk_at dksX3_same_0 4 rfl rfl)
theorem dX3_same_7 : decode cX3_same 7 = .ok (.if_icmp .ge 35, 3) := dk_162 0 35 (dk_at dksX3_same_0 7 rfl rfl)
theorem dX3_same_10 : decode cX3_same 10 = .ok (.iload_n 2, 1) := dk_28 (dk_at dksX3_same_0 10 rfl rfl)
theorem dX3_same_11 : decode cX3_same 11 = .ok (.iload_n 3, 1) := dk_29 (dk_at dksX3_same_0 11 rfl rfl)
theorem dX3_same_12 : decode cX3_same 12 = .ok (.iadd, 1) := dk_96 (dk_at dksX3_same_0 12 rfl rfl)
theorem dX3_same_13 : decode cX3_same 13 = .ok (.aload_n 0, 1) := dk_42 (dk_at dksX3_same_0 13 rfl rfl)
theorem dX3_same_14 : decode cX3_same 14 = .ok (.getfield 53, 3) := dk_180 0 53 (dk_at dksX3_same_0 14 rfl rfl)
theorem dX3_same_17 : decode cX3_same 17 = .ok (.if_icmp .ge 25, 3) := dk_162 0 25 (dk_at dksX3_same_0 17 rfl rfl)
theorem dX3_same_20 : decode cX3_same 20 = .ok (.aload_n 0, 1) := dk_42 (dk_at dksX3_same_0 20 rfl rfl)
theorem dX3_same_21 : decode cX3_same 21 = .ok (.getfield 49, 3) := dk_180 0 49 (dk_at dksX3_same_0 21 rfl rfl)
theorem dX3_same_24 : decode cX3_same 24 = .ok (.iload_n 2, 1) := dk_28 (dk_at dksX3_same_1 0 rfl rfl)
theorem dX3_same_25 : decode cX3_same 25 = .ok (.iload_n 3, 1) := dk_29 (dk_at dksX3_same_1 1 rfl rfl)
theorem dX3_same_26 : decode cX3_same 26 = .ok (.iadd, 1) := dk_96 (dk_at dksX3_same_1 2 rfl rfl)
theorem dX3_same_27 : decode cX3_same 27 = .ok (.caload, 1) := dk_52 (dk_at dksX3_same_1 3 rfl rfl)
theorem dX3_same_28 : decode cX3_same 28 = .ok (.aload_n 1, 1) := dk_43 (dk_at dksX3_same_1 4 rfl rfl)
theorem dX3_same_29 : decode cX3_same 29 = .ok (.iload_n 3, 1) := dk_29 (dk_at dksX3_same_1 5 rfl rfl)
theorem dX3_same_30 : decode cX3_same 30 = .ok (.invokevirtual 74, 3) := dk_182 0 74 (dk_at dksX3_same_1 6 rfl rfl)
theorem dX3_same_33 : decode cX3_same 33 = .ok (.if_icmp .ne 9, 3) := dk_160 0 9 (dk_at dksX3_same_1 9 rfl rfl)
theorem dX3_same_36 : decode cX3_same 36 = .ok (.iinc 3 1, 3) := dk_132 3 1 (dk_at dksX3_same_1 12 rfl rfl)
theorem dX3_same_39 : decode cX3_same 39 = .ok (.goto (-37), 3) := dk_167 255 219 (dk_at dksX3_same_1 15 rfl rfl)
theorem dX3_same_42 : decode cX3_same 42 = .ok (.iload_n 3, 1) := dk_29 (dk_at dksX3_same_1 18 rfl rfl)
theorem dX3_same_43 : decode cX3_same 43 = .ok (.ireturn, 1) := dk_172 (dk_at dksX3_same_1 19 rfl rfl)
abbrev cX3_place : ByteArray := prog_22_method_25_code
def yX3_place : MethodName := ⟨RX3, "place", "()LBasicMachine$Place;"⟩
def dkwX3_place_1 : List UInt8 := [187, 0, 195, 89, 187, 0, 164, 89, 42, 182, 0, 166, 183, 0, 169, 1, 183, 0, 197, 176]
abbrev dktX3_place_1 : List UInt8 := dkwX3_place_1 ++ []
def dkwX3_place_0 : List UInt8 := [42, 182, 0, 63, 184, 0, 95, 153, 0, 16, 187, 0, 195, 89, 1, 42, 182, 0, 150, 183, 0, 197, 176]
abbrev dktX3_place_0 : List UInt8 := dkwX3_place_0 ++ dktX3_place_1
theorem dksX3_place_0 : cX3_place.data.toList.drop 0 = dktX3_place_0 := by decide +kernel
theorem dksX3_place_1 : cX3_place.data.toList.drop 23 = dktX3_place_1 := dk_seg dksX3_place_0 23 rfl rfl
theorem dX3_place_0 : decode cX3_place 0 = .ok (.aload_n 0, 1) := dk_42 (dk_at dksX3_place_0 0 rfl rfl)
theorem dX3_place_1 : decode cX3_place 1 = .ok (.invokevirtual 63, 3) := dk_182 0 63 (dk_at dksX3_place_0 1 rfl rfl)
theorem dX3_place_4 : decode cX3_place 4 = .ok (.invokestatic 95, 3) := dk_184 0 95 (dk_at dksX3_place_0 4 rfl rfl)
theorem dX3_place_7 : decode cX3_place 7 = .ok (.ifCond .eq 16, 3) := dk_153 0 16 (dk_at dksX3_place_0 7 rfl rfl)
theorem dX3_place_10 : decode cX3_place 10 = .ok (.new 195, 3) := dk_187 0 195 (dk_at dksX3_place_0 10 rfl rfl)
theorem dX3_place_13 : decode cX3_place 13 = .ok (.dup, 1) := dk_89 (dk_at dksX3_place_0 13 rfl rfl)
theorem dX3_place_14 : decode cX3_place 14 = .ok (.aconst_null, 1) := dk_1 (dk_at dksX3_place_0 14 rfl rfl)
theorem dX3_place_15 : decode cX3_place 15 = .ok (.aload_n 0, 1) := dk_42 (dk_at dksX3_place_0 15 rfl rfl)
theorem dX3_place_16 : decode cX3_place 16 = .ok (.invokevirtual 150, 3) := dk_182 0 150 (dk_at dksX3_place_0 16 rfl rfl)
theorem dX3_place_19 : decode cX3_place 19 = .ok (.invokespecial 197, 3) := dk_183 0 197 (dk_at dksX3_place_0 19 rfl rfl)
theorem dX3_place_22 : decode cX3_place 22 = .ok (.areturn, 1) := dk_176 (dk_at dksX3_place_0 22 rfl rfl)
theorem dX3_place_23 : decode cX3_place 23 = .ok (.new 195, 3) := dk_187 0 195 (dk_at dksX3_place_1 0 rfl rfl)
theorem dX3_place_26 : decode cX3_place 26 = .ok (.dup, 1) := dk_89 (dk_at dksX3_place_1 3 rfl rfl)
theorem dX3_place_27 : decode cX3_place 27 = .ok (.new 164, 3) := dk_187 0 164 (dk_at dksX3_place_1 4 rfl rfl)
theorem dX3_place_30 : decode cX3_place 30 = .ok (.dup, 1) := dk_89 (dk_at dksX3_place_1 7 rfl rfl)
theorem dX3_place_31 : decode cX3_place 31 = .ok (.aload_n 0, 1) := dk_42 (dk_at dksX3_place_1 8 rfl rfl)
theorem dX3_place_32 : decode cX3_place 32 = .ok (.invokevirtual 166, 3) := dk_182 0 166 (dk_at dksX3_place_1 9 rfl rfl)
theorem dX3_place_35 : decode cX3_place 35 = .ok (.invokespecial 169, 3) := dk_183 0 169 (dk_at dksX3_place_1 12 rfl rfl)
theorem dX3_place_38 : decode cX3_place 38 = .ok (.aconst_null, 1) := dk_1 (dk_at dksX3_place_1 15 rfl rfl)
theorem dX3_place_39 : decode cX3_place 39 = .ok (.invokespecial 197, 3) := dk_183 0 197 (dk_at dksX3_place_1 16 rfl rfl)
theorem dX3_place_42 : decode cX3_place 42 = .ok (.areturn, 1) := dk_176 (dk_at dksX3_place_1 19 rfl rfl)
abbrev cX3_isMatrix : ByteArray := prog_22_method_11_code
def yX3_isMatrix : MethodName := ⟨RX3, "isMatrix", "(C)Z"⟩
def dkwX3_isMatrix_0 : List UInt8 := [26, 16, 80, 161, 0, 13, 26, 16, 82, 163, 0, 7, 4, 167, 0, 4, 3, 172]
abbrev dktX3_isMatrix_0 : List UInt8 := dkwX3_isMatrix_0 ++ []
theorem dksX3_isMatrix_0 : cX3_isMatrix.data.toList.drop 0 = dktX3_isMatrix_0 := by decide +kernel
theorem dX3_isMatrix_0 : decode cX3_isMatrix 0 = .ok (.iload_n 0, 1) := dk_26 (dk_at dksX3_isMatrix_0 0 rfl rfl)
theorem dX3_isMatrix_1 : decode cX3_isMatrix 1 = .ok (.bipush 80, 2) := dk_16 80 (dk_at dksX3_isMatrix_0 1 rfl rfl)
theorem dX3_isMatrix_3 : decode cX3_isMatrix 3 = .ok (.if_icmp .lt 13, 3) := dk_161 0 13 (dk_at dksX3_isMatrix_0 3 rfl rfl)
theorem dX3_isMatrix_6 : decode cX3_isMatrix 6 = .ok (.iload_n 0, 1) := dk_26 (dk_at dksX3_isMatrix_0 6 rfl rfl)
theorem dX3_isMatrix_7 : decode cX3_isMatrix 7 = .ok (.bipush 82, 2) := dk_16 82 (dk_at dksX3_isMatrix_0 7 rfl rfl)
theorem dX3_isMatrix_9 : decode cX3_isMatrix 9 = .ok (.if_icmp .gt 7, 3) := dk_163 0 7 (dk_at dksX3_isMatrix_0 9 rfl rfl)
theorem dX3_isMatrix_12 : decode cX3_isMatrix 12 = .ok (.iconst 1, 1) := dk_4 (dk_at dksX3_isMatrix_0 12 rfl rfl)
theorem dX3_isMatrix_13 : decode cX3_isMatrix 13 = .ok (.goto 4, 3) := dk_167 0 4 (dk_at dksX3_isMatrix_0 13 rfl rfl)
theorem dX3_isMatrix_16 : decode cX3_isMatrix 16 = .ok (.iconst 0, 1) := dk_3 (dk_at dksX3_isMatrix_0 16 rfl rfl)
theorem dX3_isMatrix_17 : decode cX3_isMatrix 17 = .ok (.ireturn, 1) := dk_172 (dk_at dksX3_isMatrix_0 17 rfl rfl)
abbrev cX3_element : ByteArray := prog_22_method_17_code
def yX3_element : MethodName := ⟨RX3, "element", "()LBasicMachine$Element;"⟩
def dkwX3_element_2 : List UInt8 := [187, 0, 117, 89, 27, 44, 45, 183, 0, 119, 176]
abbrev dktX3_element_2 : List UInt8 := dkwX3_element_2 ++ []
def dkwX3_element_1 : List UInt8 := [182, 0, 107, 42, 182, 0, 110, 77, 42, 16, 44, 182, 0, 78, 42, 182, 0, 110, 78, 42, 182, 0, 114]
abbrev dktX3_element_1 : List UInt8 := dkwX3_element_1 ++ dktX3_element_2
def dkwX3_element_0 : List UInt8 := [42, 42, 180, 0, 101, 16, 6, 162, 0, 7, 4, 167, 0, 4, 3, 182, 0, 67, 42, 182, 0, 104, 60, 42]
abbrev dktX3_element_0 : List UInt8 := dkwX3_element_0 ++ dktX3_element_1
theorem dksX3_element_0 : cX3_element.data.toList.drop 0 = dktX3_element_0 := by decide +kernel
theorem dksX3_element_1 : cX3_element.data.toList.drop 24 = dktX3_element_1 := dk_seg dksX3_element_0 24 rfl rfl
theorem dksX3_element_2 : cX3_element.data.toList.drop 47 = dktX3_element_2 := dk_seg dksX3_element_1 23 rfl rfl
theorem dX3_element_0 : decode cX3_element 0 = .ok (.aload_n 0, 1) := dk_42 (dk_at dksX3_element_0 0 rfl rfl)
theorem dX3_element_1 : decode cX3_element 1 = .ok (.aload_n 0, 1) := dk_42 (dk_at dksX3_element_0 1 rfl rfl)
theorem dX3_element_2 : decode cX3_element 2 = .ok (.getfield 101, 3) := dk_180 0 101 (dk_at dksX3_element_0 2 rfl rfl)
theorem dX3_element_5 : decode cX3_element 5 = .ok (.bipush 6, 2) := dk_16 6 (dk_at dksX3_element_0 5 rfl rfl)
theorem dX3_element_7 : decode cX3_element 7 = .ok (.if_icmp .ge 7, 3) := dk_162 0 7 (dk_at dksX3_element_0 7 rfl rfl)
theorem dX3_element_10 : decode cX3_element 10 = .ok (.iconst 1, 1) := dk_4 (dk_at dksX3_element_0 10 rfl rfl)
theorem dX3_element_11 : decode cX3_element 11 = .ok (.goto 4, 3) := dk_167 0 4 (dk_at dksX3_element_0 11 rfl rfl)
theorem dX3_element_14 : decode cX3_element 14 = .ok (.iconst 0, 1) := dk_3 (dk_at dksX3_element_0 14 rfl rfl)
theorem dX3_element_15 : decode cX3_element 15 = .ok (.invokevirtual 67, 3) := dk_182 0 67 (dk_at dksX3_element_0 15 rfl rfl)
theorem dX3_element_18 : decode cX3_element 18 = .ok (.aload_n 0, 1) := dk_42 (dk_at dksX3_element_0 18 rfl rfl)
theorem dX3_element_19 : decode cX3_element 19 = .ok (.invokevirtual 104, 3) := dk_182 0 104 (dk_at dksX3_element_0 19 rfl rfl)
theorem dX3_element_22 : decode cX3_element 22 = .ok (.istore_n 1, 1) := dk_60 (dk_at dksX3_element_0 22 rfl rfl)
theorem dX3_element_23 : decode cX3_element 23 = .ok (.aload_n 0, 1) := dk_42 (dk_at dksX3_element_0 23 rfl rfl)
theorem dX3_element_24 : decode cX3_element 24 = .ok (.invokevirtual 107, 3) := dk_182 0 107 (dk_at dksX3_element_1 0 rfl rfl)
theorem dX3_element_27 : decode cX3_element 27 = .ok (.aload_n 0, 1) := dk_42 (dk_at dksX3_element_1 3 rfl rfl)
theorem dX3_element_28 : decode cX3_element 28 = .ok (.invokevirtual 110, 3) := dk_182 0 110 (dk_at dksX3_element_1 4 rfl rfl)
theorem dX3_element_31 : decode cX3_element 31 = .ok (.astore_n 2, 1) := dk_77 (dk_at dksX3_element_1 7 rfl rfl)
theorem dX3_element_32 : decode cX3_element 32 = .ok (.aload_n 0, 1) := dk_42 (dk_at dksX3_element_1 8 rfl rfl)
theorem dX3_element_33 : decode cX3_element 33 = .ok (.bipush 44, 2) := dk_16 44 (dk_at dksX3_element_1 9 rfl rfl)
theorem dX3_element_35 : decode cX3_element 35 = .ok (.invokevirtual 78, 3) := dk_182 0 78 (dk_at dksX3_element_1 11 rfl rfl)
theorem dX3_element_38 : decode cX3_element 38 = .ok (.aload_n 0, 1) := dk_42 (dk_at dksX3_element_1 14 rfl rfl)
theorem dX3_element_39 : decode cX3_element 39 = .ok (.invokevirtual 110, 3) := dk_182 0 110 (dk_at dksX3_element_1 15 rfl rfl)
theorem dX3_element_42 : decode cX3_element 42 = .ok (.astore_n 3, 1) := dk_78 (dk_at dksX3_element_1 18 rfl rfl)
theorem dX3_element_43 : decode cX3_element 43 = .ok (.aload_n 0, 1) := dk_42 (dk_at dksX3_element_1 19 rfl rfl)
theorem dX3_element_44 : decode cX3_element 44 = .ok (.invokevirtual 114, 3) := dk_182 0 114 (dk_at dksX3_element_1 20 rfl rfl)
theorem dX3_element_47 : decode cX3_element 47 = .ok (.new 117, 3) := dk_187 0 117 (dk_at dksX3_element_2 0 rfl rfl)
theorem dX3_element_50 : decode cX3_element 50 = .ok (.dup, 1) := dk_89 (dk_at dksX3_element_2 3 rfl rfl)
theorem dX3_element_51 : decode cX3_element 51 = .ok (.iload_n 1, 1) := dk_27 (dk_at dksX3_element_2 4 rfl rfl)
theorem dX3_element_52 : decode cX3_element 52 = .ok (.aload_n 2, 1) := dk_44 (dk_at dksX3_element_2 5 rfl rfl)
theorem dX3_element_53 : decode cX3_element 53 = .ok (.aload_n 3, 1) := dk_45 (dk_at dksX3_element_2 6 rfl rfl)
theorem dX3_element_54 : decode cX3_element 54 = .ok (.invokespecial 119, 3) := dk_183 0 119 (dk_at dksX3_element_2 7 rfl rfl)
theorem dX3_element_57 : decode cX3_element 57 = .ok (.areturn, 1) := dk_176 (dk_at dksX3_element_2 10 rfl rfl)
abbrev cX3_matrix : ByteArray := prog_22_method_14_code
def yX3_matrix : MethodName := ⟨RX3, "matrix", "()I"⟩
def dkwX3_matrix_1 : List UInt8 := [180, 0, 49, 42, 180, 0, 57, 4, 100, 52, 16, 80, 100, 172]
abbrev dktX3_matrix_1 : List UInt8 := dkwX3_matrix_1 ++ []
def dkwX3_matrix_0 : List UInt8 := [42, 42, 182, 0, 63, 184, 0, 95, 182, 0, 67, 42, 89, 180, 0, 57, 4, 96, 181, 0, 57, 42]
abbrev dktX3_matrix_0 : List UInt8 := dkwX3_matrix_0 ++ dktX3_matrix_1
theorem dksX3_matrix_0 : cX3_matrix.data.toList.drop 0 = dktX3_matrix_0 := by decide +kernel
theorem dksX3_matrix_1 : cX3_matrix.data.toList.drop 22 = dktX3_matrix_1 := dk_seg dksX3_matrix_0 22 rfl rfl
theorem dX3_matrix_0 : decode cX3_matrix 0 = .ok (.aload_n 0, 1) := dk_42 (dk_at dksX3_matrix_0 0 rfl rfl)
theorem dX3_matrix_1 : decode cX3_matrix 1 = .ok (.aload_n 0, 1) := dk_42 (dk_at dksX3_matrix_0 1 rfl rfl)
theorem dX3_matrix_2 : decode cX3_matrix 2 = .ok (.invokevirtual 63, 3) := dk_182 0 63 (dk_at dksX3_matrix_0 2 rfl rfl)
theorem dX3_matrix_5 : decode cX3_matrix 5 = .ok (.invokestatic 95, 3) := dk_184 0 95 (dk_at dksX3_matrix_0 5 rfl rfl)
theorem dX3_matrix_8 : decode cX3_matrix 8 = .ok (.invokevirtual 67, 3) := dk_182 0 67 (dk_at dksX3_matrix_0 8 rfl rfl)
theorem dX3_matrix_11 : decode cX3_matrix 11 = .ok (.aload_n 0, 1) := dk_42 (dk_at dksX3_matrix_0 11 rfl rfl)
theorem dX3_matrix_12 : decode cX3_matrix 12 = .ok (.dup, 1) := dk_89 (dk_at dksX3_matrix_0 12 rfl rfl)
theorem dX3_matrix_13 : decode cX3_matrix 13 = .ok (.getfield 57, 3) := dk_180 0 57 (dk_at dksX3_matrix_0 13 rfl rfl)
theorem dX3_matrix_16 : decode cX3_matrix 16 = .ok (.iconst 1, 1) := dk_4 (dk_at dksX3_matrix_0 16 rfl rfl)
theorem dX3_matrix_17 : decode cX3_matrix 17 = .ok (.iadd, 1) := dk_96 (dk_at dksX3_matrix_0 17 rfl rfl)
theorem dX3_matrix_18 : decode cX3_matrix 18 = .ok (.putfield 57, 3) := dk_181 0 57 (dk_at dksX3_matrix_0 18 rfl rfl)
theorem dX3_matrix_21 : decode cX3_matrix 21 = .ok (.aload_n 0, 1) := dk_42 (dk_at dksX3_matrix_0 21 rfl rfl)
theorem dX3_matrix_22 : decode cX3_matrix 22 = .ok (.getfield 49, 3) := dk_180 0 49 (dk_at dksX3_matrix_1 0 rfl rfl)
theorem dX3_matrix_25 : decode cX3_matrix 25 = .ok (.aload_n 0, 1) := dk_42 (dk_at dksX3_matrix_1 3 rfl rfl)
theorem dX3_matrix_26 : decode cX3_matrix 26 = .ok (.getfield 57, 3) := dk_180 0 57 (dk_at dksX3_matrix_1 4 rfl rfl)
theorem dX3_matrix_29 : decode cX3_matrix 29 = .ok (.iconst 1, 1) := dk_4 (dk_at dksX3_matrix_1 7 rfl rfl)
theorem dX3_matrix_30 : decode cX3_matrix 30 = .ok (.isub, 1) := dk_100 (dk_at dksX3_matrix_1 8 rfl rfl)
theorem dX3_matrix_31 : decode cX3_matrix 31 = .ok (.caload, 1) := dk_52 (dk_at dksX3_matrix_1 9 rfl rfl)
theorem dX3_matrix_32 : decode cX3_matrix 32 = .ok (.bipush 80, 2) := dk_16 80 (dk_at dksX3_matrix_1 10 rfl rfl)
theorem dX3_matrix_34 : decode cX3_matrix 34 = .ok (.isub, 1) := dk_100 (dk_at dksX3_matrix_1 12 rfl rfl)
theorem dX3_matrix_35 : decode cX3_matrix 35 = .ok (.ireturn, 1) := dk_172 (dk_at dksX3_matrix_1 13 rfl rfl)
abbrev cX3_openBracket : ByteArray := prog_22_method_15_code
def yX3_openBracket : MethodName := ⟨RX3, "openBracket", "()V"⟩
def dkwX3_openBracket_0 : List UInt8 := [42, 16, 40, 182, 0, 78, 42, 89, 180, 0, 101, 4, 96, 181, 0, 101, 177]
abbrev dktX3_openBracket_0 : List UInt8 := dkwX3_openBracket_0 ++ []
theorem dksX3_openBracket_0 : cX3_openBracket.data.toList.drop 0 = dktX3_openBracket_0 := by decide +kernel
theorem dX3_openBracket_0 : decode cX3_openBracket 0 = .ok (.aload_n 0, 1) := dk_42 (dk_at dksX3_openBracket_0 0 rfl rfl)
theorem dX3_openBracket_1 : decode cX3_openBracket 1 = .ok (.bipush 40, 2) := dk_16 40 (dk_at dksX3_openBracket_0 1 rfl rfl)
theorem dX3_openBracket_3 : decode cX3_openBracket 3 = .ok (.invokevirtual 78, 3) := dk_182 0 78 (dk_at dksX3_openBracket_0 3 rfl rfl)
theorem dX3_openBracket_6 : decode cX3_openBracket 6 = .ok (.aload_n 0, 1) := dk_42 (dk_at dksX3_openBracket_0 6 rfl rfl)
theorem dX3_openBracket_7 : decode cX3_openBracket 7 = .ok (.dup, 1) := dk_89 (dk_at dksX3_openBracket_0 7 rfl rfl)
theorem dX3_openBracket_8 : decode cX3_openBracket 8 = .ok (.getfield 101, 3) := dk_180 0 101 (dk_at dksX3_openBracket_0 8 rfl rfl)
theorem dX3_openBracket_11 : decode cX3_openBracket 11 = .ok (.iconst 1, 1) := dk_4 (dk_at dksX3_openBracket_0 11 rfl rfl)
theorem dX3_openBracket_12 : decode cX3_openBracket 12 = .ok (.iadd, 1) := dk_96 (dk_at dksX3_openBracket_0 12 rfl rfl)
theorem dX3_openBracket_13 : decode cX3_openBracket 13 = .ok (.putfield 101, 3) := dk_181 0 101 (dk_at dksX3_openBracket_0 13 rfl rfl)
theorem dX3_openBracket_16 : decode cX3_openBracket 16 = .ok (.return_, 1) := dk_177 (dk_at dksX3_openBracket_0 16 rfl rfl)
abbrev cX3_take : ByteArray := prog_22_method_6_code
def yX3_take : MethodName := ⟨RX3, "take", "(C)V"⟩
def dkwX3_take_1 : List UInt8 := [181, 0, 57, 177]
abbrev dktX3_take_1 : List UInt8 := dkwX3_take_1 ++ []
def dkwX3_take_0 : List UInt8 := [42, 42, 182, 0, 63, 27, 160, 0, 7, 4, 167, 0, 4, 3, 182, 0, 67, 42, 89, 180, 0, 57, 4, 96]
abbrev dktX3_take_0 : List UInt8 := dkwX3_take_0 ++ dktX3_take_1
theorem dksX3_take_0 : cX3_take.data.toList.drop 0 = dktX3_take_0 := by decide +kernel
theorem dksX3_take_1 : cX3_take.data.toList.drop 24 = dktX3_take_1 := dk_seg dksX3_take_0 24 rfl rfl
theorem dX3_take_0 : decode cX3_take 0 = .ok (.aload_n 0, 1) := dk_42 (dk_at dksX3_take_0 0 rfl rfl)
theorem dX3_take_1 : decode cX3_take 1 = .ok (.aload_n 0, 1) := dk_42 (dk_at dksX3_take_0 1 rfl rfl)
theorem dX3_take_2 : decode cX3_take 2 = .ok (.invokevirtual 63, 3) := dk_182 0 63 (dk_at dksX3_take_0 2 rfl rfl)
theorem dX3_take_5 : decode cX3_take 5 = .ok (.iload_n 1, 1) := dk_27 (dk_at dksX3_take_0 5 rfl rfl)
theorem dX3_take_6 : decode cX3_take 6 = .ok (.if_icmp .ne 7, 3) := dk_160 0 7 (dk_at dksX3_take_0 6 rfl rfl)
theorem dX3_take_9 : decode cX3_take 9 = .ok (.iconst 1, 1) := dk_4 (dk_at dksX3_take_0 9 rfl rfl)
theorem dX3_take_10 : decode cX3_take 10 = .ok (.goto 4, 3) := dk_167 0 4 (dk_at dksX3_take_0 10 rfl rfl)
theorem dX3_take_13 : decode cX3_take 13 = .ok (.iconst 0, 1) := dk_3 (dk_at dksX3_take_0 13 rfl rfl)
theorem dX3_take_14 : decode cX3_take 14 = .ok (.invokevirtual 67, 3) := dk_182 0 67 (dk_at dksX3_take_0 14 rfl rfl)
theorem dX3_take_17 : decode cX3_take 17 = .ok (.aload_n 0, 1) := dk_42 (dk_at dksX3_take_0 17 rfl rfl)
theorem dX3_take_18 : decode cX3_take 18 = .ok (.dup, 1) := dk_89 (dk_at dksX3_take_0 18 rfl rfl)
theorem dX3_take_19 : decode cX3_take 19 = .ok (.getfield 57, 3) := dk_180 0 57 (dk_at dksX3_take_0 19 rfl rfl)
theorem dX3_take_22 : decode cX3_take 22 = .ok (.iconst 1, 1) := dk_4 (dk_at dksX3_take_0 22 rfl rfl)
theorem dX3_take_23 : decode cX3_take 23 = .ok (.iadd, 1) := dk_96 (dk_at dksX3_take_0 23 rfl rfl)
theorem dX3_take_24 : decode cX3_take 24 = .ok (.putfield 57, 3) := dk_181 0 57 (dk_at dksX3_take_1 0 rfl rfl)
theorem dX3_take_27 : decode cX3_take 27 = .ok (.return_, 1) := dk_177 (dk_at dksX3_take_1 3 rfl rfl)
abbrev cX3_expression : ByteArray := prog_22_method_18_code
def yX3_expression : MethodName := ⟨RX3, "expression", "()LBasicMachine$Expression;"⟩
def dkwX3_expression_3 : List UInt8 := [183, 0, 132, 77, 167, 255, 209, 44, 176]
abbrev dktX3_expression_3 : List UInt8 := dkwX3_expression_3 ++ []
def dkwX3_expression_2 : List UInt8 := [182, 0, 63, 62, 42, 89, 180, 0, 57, 4, 96, 181, 0, 57, 187, 0, 130, 89, 29, 44, 42, 182, 0, 122]
abbrev dktX3_expression_2 : List UInt8 := dkwX3_expression_2 ++ dktX3_expression_3
def dkwX3_expression_1 : List UInt8 := [183, 0, 127, 77, 42, 182, 0, 63, 16, 43, 159, 0, 12, 42, 182, 0, 63, 16, 45, 160, 0, 35, 42]
abbrev dktX3_expression_1 : List UInt8 := dkwX3_expression_1 ++ dktX3_expression_2
def dkwX3_expression_0 : List UInt8 := [42, 16, 45, 182, 0, 90, 60, 42, 182, 0, 122, 77, 27, 153, 0, 14, 187, 0, 125, 89, 16, 45, 44]
abbrev dktX3_expression_0 : List UInt8 := dkwX3_expression_0 ++ dktX3_expression_1
theorem dksX3_expression_0 : cX3_expression.data.toList.drop 0 = dktX3_expression_0 := by decide +kernel
theorem dksX3_expression_1 : cX3_expression.data.toList.drop 23 = dktX3_expression_1 := dk_seg dksX3_expression_0 23 rfl rfl
theorem dksX3_expression_2 : cX3_expression.data.toList.drop 46 = dktX3_expression_2 := dk_seg dksX3_expression_1 23 rfl rfl
theorem dksX3_expression_3 : cX3_expression.data.toList.drop 70 = dktX3_expression_3 := dk_seg dksX3_expression_2 24 rfl rfl
theorem dX3_expression_0 : decode cX3_expression 0 = .ok (.aload_n 0, 1) := dk_42 (dk_at dksX3_expression_0 0 rfl rfl)
theorem dX3_expression_1 : decode cX3_expression 1 = .ok (.bipush 45, 2) := dk_16 45 (dk_at dksX3_expression_0 1 rfl rfl)
theorem dX3_expression_3 : decode cX3_expression 3 = .ok (.invokevirtual 90, 3) := dk_182 0 90 (dk_at dksX3_expression_0 3 rfl rfl)
theorem dX3_expression_6 : decode cX3_expression 6 = .ok (.istore_n 1, 1) := dk_60 (dk_at dksX3_expression_0 6 rfl rfl)
theorem dX3_expression_7 : decode cX3_expression 7 = .ok (.aload_n 0, 1) := dk_42 (dk_at dksX3_expression_0 7 rfl rfl)
theorem dX3_expression_8 : decode cX3_expression 8 = .ok (.invokevirtual 122, 3) := dk_182 0 122 (dk_at dksX3_expression_0 8 rfl rfl)
theorem dX3_expression_11 : decode cX3_expression 11 = .ok (.astore_n 2, 1) := dk_77 (dk_at dksX3_expression_0 11 rfl rfl)
theorem dX3_expression_12 : decode cX3_expression 12 = .ok (.iload_n 1, 1) := dk_27 (dk_at dksX3_expression_0 12 rfl rfl)
theorem dX3_expression_13 : decode cX3_expression 13 = .ok (.ifCond .eq 14, 3) := dk_153 0 14 (dk_at dksX3_expression_0 13 rfl rfl)
theorem dX3_expression_16 : decode cX3_expression 16 = .ok (.new 125, 3) := dk_187 0 125 (dk_at dksX3_expression_0 16 rfl rfl)
theorem dX3_expression_19 : decode cX3_expression 19 = .ok (.dup, 1) := dk_89 (dk_at dksX3_expression_0 19 rfl rfl)
theorem dX3_expression_20 : decode cX3_expression 20 = .ok (.bipush 45, 2) := dk_16 45 (dk_at dksX3_expression_0 20 rfl rfl)
theorem dX3_expression_22 : decode cX3_expression 22 = .ok (.aload_n 2, 1) := dk_44 (dk_at dksX3_expression_0 22 rfl rfl)
theorem dX3_expression_23 : decode cX3_expression 23 = .ok (.invokespecial 127, 3) := dk_183 0 127 (dk_at dksX3_expression_1 0 rfl rfl)
theorem dX3_expression_26 : decode cX3_expression 26 = .ok (.astore_n 2, 1) := dk_77 (dk_at dksX3_expression_1 3 rfl rfl)
theorem dX3_expression_27 : decode cX3_expression 27 = .ok (.aload_n 0, 1) := dk_42 (dk_at dksX3_expression_1 4 rfl rfl)
theorem dX3_expression_28 : decode cX3_expression 28 = .ok (.invokevirtual 63, 3) := dk_182 0 63 (dk_at dksX3_expression_1 5 rfl rfl)
theorem dX3_expression_31 : decode cX3_expression 31 = .ok (.bipush 43, 2) := dk_16 43 (dk_at dksX3_expression_1 8 rfl rfl)
theorem dX3_expression_33 : decode cX3_expression 33 = .ok (.if_icmp .eq 12, 3) := dk_159 0 12 (dk_at dksX3_expression_1 10 rfl rfl)
theorem dX3_expression_36 : decode cX3_expression 36 = .ok (.aload_n 0, 1) := dk_42 (dk_at dksX3_expression_1 13 rfl rfl)
theorem dX3_expression_37 : decode cX3_expression 37 = .ok (.invokevirtual 63, 3) := dk_182 0 63 (dk_at dksX3_expression_1 14 rfl rfl)
theorem dX3_expression_40 : decode cX3_expression 40 = .ok (.bipush 45, 2) := dk_16 45 (dk_at dksX3_expression_1 17 rfl rfl)
theorem dX3_expression_42 : decode cX3_expression 42 = .ok (.if_icmp .ne 35, 3) := dk_160 0 35 (dk_at dksX3_expression_1 19 rfl rfl)
theorem dX3_expression_45 : decode cX3_expression 45 = .ok (.aload_n 0, 1) := dk_42 (dk_at dksX3_expression_1 22 rfl rfl)
theorem dX3_expression_46 : decode cX3_expression 46 = .ok (.invokevirtual 63, 3) := dk_182 0 63 (dk_at dksX3_expression_2 0 rfl rfl)
theorem dX3_expression_49 : decode cX3_expression 49 = .ok (.istore_n 3, 1) := dk_62 (dk_at dksX3_expression_2 3 rfl rfl)
theorem dX3_expression_50 : decode cX3_expression 50 = .ok (.aload_n 0, 1) := dk_42 (dk_at dksX3_expression_2 4 rfl rfl)
theorem dX3_expression_51 : decode cX3_expression 51 = .ok (.dup, 1) := dk_89 (dk_at dksX3_expression_2 5 rfl rfl)
theorem dX3_expression_52 : decode cX3_expression 52 = .ok (.getfield 57, 3) := dk_180 0 57 (dk_at dksX3_expression_2 6 rfl rfl)
theorem dX3_expression_55 : decode cX3_expression 55 = .ok (.iconst 1, 1) := dk_4 (dk_at dksX3_expression_2 9 rfl rfl)
theorem dX3_expression_56 : decode cX3_expression 56 = .ok (.iadd, 1) := dk_96 (dk_at dksX3_expression_2 10 rfl rfl)
theorem dX3_expression_57 : decode cX3_expression 57 = .ok (.putfield 57, 3) := dk_181 0 57 (dk_at dksX3_expression_2 11 rfl rfl)
theorem dX3_expression_60 : decode cX3_expression 60 = .ok (.new 130, 3) := dk_187 0 130 (dk_at dksX3_expression_2 14 rfl rfl)
theorem dX3_expression_63 : decode cX3_expression 63 = .ok (.dup, 1) := dk_89 (dk_at dksX3_expression_2 17 rfl rfl)
theorem dX3_expression_64 : decode cX3_expression 64 = .ok (.iload_n 3, 1) := dk_29 (dk_at dksX3_expression_2 18 rfl rfl)
theorem dX3_expression_65 : decode cX3_expression 65 = .ok (.aload_n 2, 1) := dk_44 (dk_at dksX3_expression_2 19 rfl rfl)
theorem dX3_expression_66 : decode cX3_expression 66 = .ok (.aload_n 0, 1) := dk_42 (dk_at dksX3_expression_2 20 rfl rfl)
theorem dX3_expression_67 : decode cX3_expression 67 = .ok (.invokevirtual 122, 3) := dk_182 0 122 (dk_at dksX3_expression_2 21 rfl rfl)
theorem dX3_expression_70 : decode cX3_expression 70 = .ok (.invokespecial 132, 3) := dk_183 0 132 (dk_at dksX3_expression_3 0 rfl rfl)
theorem dX3_expression_73 : decode cX3_expression 73 = .ok (.astore_n 2, 1) := dk_77 (dk_at dksX3_expression_3 3 rfl rfl)
theorem dX3_expression_74 : decode cX3_expression 74 = .ok (.goto (-47), 3) := dk_167 255 209 (dk_at dksX3_expression_3 4 rfl rfl)
theorem dX3_expression_77 : decode cX3_expression 77 = .ok (.aload_n 2, 1) := dk_44 (dk_at dksX3_expression_3 7 rfl rfl)
theorem dX3_expression_78 : decode cX3_expression 78 = .ok (.areturn, 1) := dk_176 (dk_at dksX3_expression_3 8 rfl rfl)
abbrev cX3_takes : ByteArray := prog_22_method_8_code
def yX3_takes : MethodName := ⟨RX3, "takes", "(C)Z"⟩
def dkwX3_takes_1 : List UInt8 := [180, 0, 57, 4, 96, 181, 0, 57, 4, 172]
abbrev dktX3_takes_1 : List UInt8 := dkwX3_takes_1 ++ []
def dkwX3_takes_0 : List UInt8 := [42, 182, 0, 63, 27, 160, 0, 14, 42, 180, 0, 57, 42, 180, 0, 53, 161, 0, 5, 3, 172, 42, 89]
abbrev dktX3_takes_0 : List UInt8 := dkwX3_takes_0 ++ dktX3_takes_1
theorem dksX3_takes_0 : cX3_takes.data.toList.drop 0 = dktX3_takes_0 := by decide +kernel
theorem dksX3_takes_1 : cX3_takes.data.toList.drop 23 = dktX3_takes_1 := dk_seg dksX3_takes_0 23 rfl rfl
theorem dX3_takes_0 : decode cX3_takes 0 = .ok (.aload_n 0, 1) := dk_42 (dk_at dksX3_takes_0 0 rfl rfl)
theorem dX3_takes_1 : decode cX3_takes 1 = .ok (.invokevirtual 63, 3) := dk_182 0 63 (dk_at dksX3_takes_0 1 rfl rfl)
theorem dX3_takes_4 : decode cX3_takes 4 = .ok (.iload_n 1, 1) := dk_27 (dk_at dksX3_takes_0 4 rfl rfl)
theorem dX3_takes_5 : decode cX3_takes 5 = .ok (.if_icmp .ne 14, 3) := dk_160 0 14 (dk_at dksX3_takes_0 5 rfl rfl)
theorem dX3_takes_8 : decode cX3_takes 8 = .ok (.aload_n 0, 1) := dk_42 (dk_at dksX3_takes_0 8 rfl rfl)
theorem dX3_takes_9 : decode cX3_takes 9 = .ok (.getfield 57, 3) := dk_180 0 57 (dk_at dksX3_takes_0 9 rfl rfl)
theorem dX3_takes_12 : decode cX3_takes 12 = .ok (.aload_n 0, 1) := dk_42 (dk_at dksX3_takes_0 12 rfl rfl)
theorem dX3_takes_13 : decode cX3_takes 13 = .ok (.getfield 53, 3) := dk_180 0 53 (dk_at dksX3_takes_0 13 rfl rfl)
theorem dX3_takes_16 : decode cX3_takes 16 = .ok (.if_icmp .lt 5, 3) := dk_161 0 5 (dk_at dksX3_takes_0 16 rfl rfl)
theorem dX3_takes_19 : decode cX3_takes 19 = .ok (.iconst 0, 1) := dk_3 (dk_at dksX3_takes_0 19 rfl rfl)
theorem dX3_takes_20 : decode cX3_takes 20 = .ok (.ireturn, 1) := dk_172 (dk_at dksX3_takes_0 20 rfl rfl)
theorem dX3_takes_21 : decode cX3_takes 21 = .ok (.aload_n 0, 1) := dk_42 (dk_at dksX3_takes_0 21 rfl rfl)
theorem dX3_takes_22 : decode cX3_takes 22 = .ok (.dup, 1) := dk_89 (dk_at dksX3_takes_0 22 rfl rfl)
theorem dX3_takes_23 : decode cX3_takes 23 = .ok (.getfield 57, 3) := dk_180 0 57 (dk_at dksX3_takes_1 0 rfl rfl)
theorem dX3_takes_26 : decode cX3_takes 26 = .ok (.iconst 1, 1) := dk_4 (dk_at dksX3_takes_1 3 rfl rfl)
theorem dX3_takes_27 : decode cX3_takes 27 = .ok (.iadd, 1) := dk_96 (dk_at dksX3_takes_1 4 rfl rfl)
theorem dX3_takes_28 : decode cX3_takes 28 = .ok (.putfield 57, 3) := dk_181 0 57 (dk_at dksX3_takes_1 5 rfl rfl)
theorem dX3_takes_31 : decode cX3_takes 31 = .ok (.iconst 1, 1) := dk_4 (dk_at dksX3_takes_1 8 rfl rfl)
theorem dX3_takes_32 : decode cX3_takes 32 = .ok (.ireturn, 1) := dk_172 (dk_at dksX3_takes_1 9 rfl rfl)
abbrev cX3_term : ByteArray := prog_22_method_19_code
def yX3_term : MethodName := ⟨RX3, "term", "()LBasicMachine$Expression;"⟩
def dkwX3_term_2 : List UInt8 := [183, 0, 132, 76, 167, 255, 209, 43, 176]
abbrev dktX3_term_2 : List UInt8 := dkwX3_term_2 ++ []
def dkwX3_term_1 : List UInt8 := [182, 0, 63, 61, 42, 89, 180, 0, 57, 4, 96, 181, 0, 57, 187, 0, 130, 89, 28, 43, 42, 182, 0, 135]
abbrev dktX3_term_1 : List UInt8 := dkwX3_term_1 ++ dktX3_term_2
def dkwX3_term_0 : List UInt8 := [42, 182, 0, 135, 76, 42, 182, 0, 63, 16, 42, 159, 0, 12, 42, 182, 0, 63, 16, 47, 160, 0, 35, 42]
abbrev dktX3_term_0 : List UInt8 := dkwX3_term_0 ++ dktX3_term_1
theorem dksX3_term_0 : cX3_term.data.toList.drop 0 = dktX3_term_0 := by decide +kernel
theorem dksX3_term_1 : cX3_term.data.toList.drop 24 = dktX3_term_1 := dk_seg dksX3_term_0 24 rfl rfl
theorem dksX3_term_2 : cX3_term.data.toList.drop 48 = dktX3_term_2 := dk_seg dksX3_term_1 24 rfl rfl
theorem dX3_term_0 : decode cX3_term 0 = .ok (.aload_n 0, 1) := dk_42 (dk_at dksX3_term_0 0 rfl rfl)
theorem dX3_term_1 : decode cX3_term 1 = .ok (.invokevirtual 135, 3) := dk_182 0 135 (dk_at dksX3_term_0 1 rfl rfl)
theorem dX3_term_4 : decode cX3_term 4 = .ok (.astore_n 1, 1) := dk_76 (dk_at dksX3_term_0 4 rfl rfl)
theorem dX3_term_5 : decode cX3_term 5 = .ok (.aload_n 0, 1) := dk_42 (dk_at dksX3_term_0 5 rfl rfl)
theorem dX3_term_6 : decode cX3_term 6 = .ok (.invokevirtual 63, 3) := dk_182 0 63 (dk_at dksX3_term_0 6 rfl rfl)
theorem dX3_term_9 : decode cX3_term 9 = .ok (.bipush 42, 2) := dk_16 42 (dk_at dksX3_term_0 9 rfl rfl)
theorem dX3_term_11 : decode cX3_term 11 = .ok (.if_icmp .eq 12, 3) := dk_159 0 12 (dk_at dksX3_term_0 11 rfl rfl)
theorem dX3_term_14 : decode cX3_term 14 = .ok (.aload_n 0, 1) := dk_42 (dk_at dksX3_term_0 14 rfl rfl)
theorem dX3_term_15 : decode cX3_term 15 = .ok (.invokevirtual 63, 3) := dk_182 0 63 (dk_at dksX3_term_0 15 rfl rfl)
theorem dX3_term_18 : decode cX3_term 18 = .ok (.bipush 47, 2) := dk_16 47 (dk_at dksX3_term_0 18 rfl rfl)
theorem dX3_term_20 : decode cX3_term 20 = .ok (.if_icmp .ne 35, 3) := dk_160 0 35 (dk_at dksX3_term_0 20 rfl rfl)
theorem dX3_term_23 : decode cX3_term 23 = .ok (.aload_n 0, 1) := dk_42 (dk_at dksX3_term_0 23 rfl rfl)
theorem dX3_term_24 : decode cX3_term 24 = .ok (.invokevirtual 63, 3) := dk_182 0 63 (dk_at dksX3_term_1 0 rfl rfl)
theorem dX3_term_27 : decode cX3_term 27 = .ok (.istore_n 2, 1) := dk_61 (dk_at dksX3_term_1 3 rfl rfl)
theorem dX3_term_28 : decode cX3_term 28 = .ok (.aload_n 0, 1) := dk_42 (dk_at dksX3_term_1 4 rfl rfl)
theorem dX3_term_29 : decode cX3_term 29 = .ok (.dup, 1) := dk_89 (dk_at dksX3_term_1 5 rfl rfl)
theorem dX3_term_30 : decode cX3_term 30 = .ok (.getfield 57, 3) := dk_180 0 57 (dk_at dksX3_term_1 6 rfl rfl)
theorem dX3_term_33 : decode cX3_term 33 = .ok (.iconst 1, 1) := dk_4 (dk_at dksX3_term_1 9 rfl rfl)
theorem dX3_term_34 : decode cX3_term 34 = .ok (.iadd, 1) := dk_96 (dk_at dksX3_term_1 10 rfl rfl)
theorem dX3_term_35 : decode cX3_term 35 = .ok (.putfield 57, 3) := dk_181 0 57 (dk_at dksX3_term_1 11 rfl rfl)
theorem dX3_term_38 : decode cX3_term 38 = .ok (.new 130, 3) := dk_187 0 130 (dk_at dksX3_term_1 14 rfl rfl)
theorem dX3_term_41 : decode cX3_term 41 = .ok (.dup, 1) := dk_89 (dk_at dksX3_term_1 17 rfl rfl)
theorem dX3_term_42 : decode cX3_term 42 = .ok (.iload_n 2, 1) := dk_28 (dk_at dksX3_term_1 18 rfl rfl)
theorem dX3_term_43 : decode cX3_term 43 = .ok (.aload_n 1, 1) := dk_43 (dk_at dksX3_term_1 19 rfl rfl)
theorem dX3_term_44 : decode cX3_term 44 = .ok (.aload_n 0, 1) := dk_42 (dk_at dksX3_term_1 20 rfl rfl)
theorem dX3_term_45 : decode cX3_term 45 = .ok (.invokevirtual 135, 3) := dk_182 0 135 (dk_at dksX3_term_1 21 rfl rfl)
theorem dX3_term_48 : decode cX3_term 48 = .ok (.invokespecial 132, 3) := dk_183 0 132 (dk_at dksX3_term_2 0 rfl rfl)
theorem dX3_term_51 : decode cX3_term 51 = .ok (.astore_n 1, 1) := dk_76 (dk_at dksX3_term_2 3 rfl rfl)
theorem dX3_term_52 : decode cX3_term 52 = .ok (.goto (-47), 3) := dk_167 255 209 (dk_at dksX3_term_2 4 rfl rfl)
theorem dX3_term_55 : decode cX3_term 55 = .ok (.aload_n 1, 1) := dk_43 (dk_at dksX3_term_2 7 rfl rfl)
theorem dX3_term_56 : decode cX3_term 56 = .ok (.areturn, 1) := dk_176 (dk_at dksX3_term_2 8 rfl rfl)
abbrev cX3_power : ByteArray := prog_22_method_20_code
def yX3_power : MethodName := ⟨RX3, "power", "()LBasicMachine$Expression;"⟩
def dkwX3_power_1 : List UInt8 := [182, 0, 138, 183, 0, 132, 76, 167, 255, 232, 43, 176]
abbrev dktX3_power_1 : List UInt8 := dkwX3_power_1 ++ []
def dkwX3_power_0 : List UInt8 := [42, 182, 0, 138, 76, 42, 16, 94, 182, 0, 90, 153, 0, 21, 187, 0, 130, 89, 16, 94, 43, 42]
abbrev dktX3_power_0 : List UInt8 := dkwX3_power_0 ++ dktX3_power_1
theorem dksX3_power_0 : cX3_power.data.toList.drop 0 = dktX3_power_0 := by decide +kernel
theorem dksX3_power_1 : cX3_power.data.toList.drop 22 = dktX3_power_1 := dk_seg dksX3_power_0 22 rfl rfl
theorem dX3_power_0 : decode cX3_power 0 = .ok (.aload_n 0, 1) := dk_42 (dk_at dksX3_power_0 0 rfl rfl)
theorem dX3_power_1 : decode cX3_power 1 = .ok (.invokevirtual 138, 3) := dk_182 0 138 (dk_at dksX3_power_0 1 rfl rfl)
theorem dX3_power_4 : decode cX3_power 4 = .ok (.astore_n 1, 1) := dk_76 (dk_at dksX3_power_0 4 rfl rfl)
theorem dX3_power_5 : decode cX3_power 5 = .ok (.aload_n 0, 1) := dk_42 (dk_at dksX3_power_0 5 rfl rfl)
theorem dX3_power_6 : decode cX3_power 6 = .ok (.bipush 94, 2) := dk_16 94 (dk_at dksX3_power_0 6 rfl rfl)
theorem dX3_power_8 : decode cX3_power 8 = .ok (.invokevirtual 90, 3) := dk_182 0 90 (dk_at dksX3_power_0 8 rfl rfl)
theorem dX3_power_11 : decode cX3_power 11 = .ok (.ifCond .eq 21, 3) := dk_153 0 21 (dk_at dksX3_power_0 11 rfl rfl)
theorem dX3_power_14 : decode cX3_power 14 = .ok (.new 130, 3) := dk_187 0 130 (dk_at dksX3_power_0 14 rfl rfl)
theorem dX3_power_17 : decode cX3_power 17 = .ok (.dup, 1) := dk_89 (dk_at dksX3_power_0 17 rfl rfl)
theorem dX3_power_18 : decode cX3_power 18 = .ok (.bipush 94, 2) := dk_16 94 (dk_at dksX3_power_0 18 rfl rfl)
theorem dX3_power_20 : decode cX3_power 20 = .ok (.aload_n 1, 1) := dk_43 (dk_at dksX3_power_0 20 rfl rfl)
theorem dX3_power_21 : decode cX3_power 21 = .ok (.aload_n 0, 1) := dk_42 (dk_at dksX3_power_0 21 rfl rfl)
theorem dX3_power_22 : decode cX3_power 22 = .ok (.invokevirtual 138, 3) := dk_182 0 138 (dk_at dksX3_power_1 0 rfl rfl)
theorem dX3_power_25 : decode cX3_power 25 = .ok (.invokespecial 132, 3) := dk_183 0 132 (dk_at dksX3_power_1 3 rfl rfl)
theorem dX3_power_28 : decode cX3_power 28 = .ok (.astore_n 1, 1) := dk_76 (dk_at dksX3_power_1 6 rfl rfl)
theorem dX3_power_29 : decode cX3_power 29 = .ok (.goto (-24), 3) := dk_167 255 232 (dk_at dksX3_power_1 7 rfl rfl)
theorem dX3_power_32 : decode cX3_power 32 = .ok (.aload_n 1, 1) := dk_43 (dk_at dksX3_power_1 10 rfl rfl)
theorem dX3_power_33 : decode cX3_power 33 = .ok (.areturn, 1) := dk_176 (dk_at dksX3_power_1 11 rfl rfl)
abbrev cX3_part : ByteArray := prog_22_method_22_code
def yX3_part : MethodName := ⟨RX3, "part", "()LBasicMachine$Expression;"⟩
def dkwX3_part_3 : List UInt8 := [187, 0, 164, 89, 42, 182, 0, 166, 183, 0, 169, 176]
abbrev dktX3_part_3 : List UInt8 := dkwX3_part_3 ++ []
def dkwX3_part_2 : List UInt8 := [160, 0, 8, 42, 182, 0, 154, 176, 42, 27, 42, 182, 0, 157, 182, 0, 160, 77, 44, 198, 0, 5, 44, 176]
abbrev dktX3_part_2 : List UInt8 := dkwX3_part_2 ++ dktX3_part_3
def dkwX3_part_1 : List UInt8 := [27, 184, 0, 95, 153, 0, 8, 42, 182, 0, 150, 176, 42, 180, 0, 101, 16, 6, 162, 0, 30, 27, 16, 40]
abbrev dktX3_part_1 : List UInt8 := dkwX3_part_1 ++ dktX3_part_2
def dkwX3_part_0 : List UInt8 := [42, 182, 0, 63, 60, 27, 184, 0, 82, 153, 0, 15, 187, 0, 141, 89, 42, 182, 0, 143, 183, 0, 147, 176]
abbrev dktX3_part_0 : List UInt8 := dkwX3_part_0 ++ dktX3_part_1
theorem dksX3_part_0 : cX3_part.data.toList.drop 0 = dktX3_part_0 := by decide +kernel
theorem dksX3_part_1 : cX3_part.data.toList.drop 24 = dktX3_part_1 := dk_seg dksX3_part_0 24 rfl rfl
theorem dksX3_part_2 : cX3_part.data.toList.drop 48 = dktX3_part_2 := dk_seg dksX3_part_1 24 rfl rfl
theorem dksX3_part_3 : cX3_part.data.toList.drop 72 = dktX3_part_3 := dk_seg dksX3_part_2 24 rfl rfl
theorem dX3_part_0 : decode cX3_part 0 = .ok (.aload_n 0, 1) := dk_42 (dk_at dksX3_part_0 0 rfl rfl)
theorem dX3_part_1 : decode cX3_part 1 = .ok (.invokevirtual 63, 3) := dk_182 0 63 (dk_at dksX3_part_0 1 rfl rfl)
theorem dX3_part_4 : decode cX3_part 4 = .ok (.istore_n 1, 1) := dk_60 (dk_at dksX3_part_0 4 rfl rfl)
theorem dX3_part_5 : decode cX3_part 5 = .ok (.iload_n 1, 1) := dk_27 (dk_at dksX3_part_0 5 rfl rfl)
theorem dX3_part_6 : decode cX3_part 6 = .ok (.invokestatic 82, 3) := dk_184 0 82 (dk_at dksX3_part_0 6 rfl rfl)
theorem dX3_part_9 : decode cX3_part 9 = .ok (.ifCond .eq 15, 3) := dk_153 0 15 (dk_at dksX3_part_0 9 rfl rfl)
theorem dX3_part_12 : decode cX3_part 12 = .ok (.new 141, 3) := dk_187 0 141 (dk_at dksX3_part_0 12 rfl rfl)
theorem dX3_part_15 : decode cX3_part 15 = .ok (.dup, 1) := dk_89 (dk_at dksX3_part_0 15 rfl rfl)
theorem dX3_part_16 : decode cX3_part 16 = .ok (.aload_n 0, 1) := dk_42 (dk_at dksX3_part_0 16 rfl rfl)
theorem dX3_part_17 : decode cX3_part 17 = .ok (.invokevirtual 143, 3) := dk_182 0 143 (dk_at dksX3_part_0 17 rfl rfl)
theorem dX3_part_20 : decode cX3_part 20 = .ok (.invokespecial 147, 3) := dk_183 0 147 (dk_at dksX3_part_0 20 rfl rfl)
theorem dX3_part_23 : decode cX3_part 23 = .ok (.areturn, 1) := dk_176 (dk_at dksX3_part_0 23 rfl rfl)
theorem dX3_part_24 : decode cX3_part 24 = .ok (.iload_n 1, 1) := dk_27 (dk_at dksX3_part_1 0 rfl rfl)
theorem dX3_part_25 : decode cX3_part 25 = .ok (.invokestatic 95, 3) := dk_184 0 95 (dk_at dksX3_part_1 1 rfl rfl)
theorem dX3_part_28 : decode cX3_part 28 = .ok (.ifCond .eq 8, 3) := dk_153 0 8 (dk_at dksX3_part_1 4 rfl rfl)
theorem dX3_part_31 : decode cX3_part 31 = .ok (.aload_n 0, 1) := dk_42 (dk_at dksX3_part_1 7 rfl rfl)
theorem dX3_part_32 : decode cX3_part 32 = .ok (.invokevirtual 150, 3) := dk_182 0 150 (dk_at dksX3_part_1 8 rfl rfl)
theorem dX3_part_35 : decode cX3_part 35 = .ok (.areturn, 1) := dk_176 (dk_at dksX3_part_1 11 rfl rfl)
theorem dX3_part_36 : decode cX3_part 36 = .ok (.aload_n 0, 1) := dk_42 (dk_at dksX3_part_1 12 rfl rfl)
theorem dX3_part_37 : decode cX3_part 37 = .ok (.getfield 101, 3) := dk_180 0 101 (dk_at dksX3_part_1 13 rfl rfl)
theorem dX3_part_40 : decode cX3_part 40 = .ok (.bipush 6, 2) := dk_16 6 (dk_at dksX3_part_1 16 rfl rfl)
theorem dX3_part_42 : decode cX3_part 42 = .ok (.if_icmp .ge 30, 3) := dk_162 0 30 (dk_at dksX3_part_1 18 rfl rfl)
theorem dX3_part_45 : decode cX3_part 45 = .ok (.iload_n 1, 1) := dk_27 (dk_at dksX3_part_1 21 rfl rfl)
theorem dX3_part_46 : decode cX3_part 46 = .ok (.bipush 40, 2) := dk_16 40 (dk_at dksX3_part_1 22 rfl rfl)
theorem dX3_part_48 : decode cX3_part 48 = .ok (.if_icmp .ne 8, 3) := dk_160 0 8 (dk_at dksX3_part_2 0 rfl rfl)
theorem dX3_part_51 : decode cX3_part 51 = .ok (.aload_n 0, 1) := dk_42 (dk_at dksX3_part_2 3 rfl rfl)
theorem dX3_part_52 : decode cX3_part 52 = .ok (.invokevirtual 154, 3) := dk_182 0 154 (dk_at dksX3_part_2 4 rfl rfl)
theorem dX3_part_55 : decode cX3_part 55 = .ok (.areturn, 1) := dk_176 (dk_at dksX3_part_2 7 rfl rfl)
theorem dX3_part_56 : decode cX3_part 56 = .ok (.aload_n 0, 1) := dk_42 (dk_at dksX3_part_2 8 rfl rfl)
theorem dX3_part_57 : decode cX3_part 57 = .ok (.iload_n 1, 1) := dk_27 (dk_at dksX3_part_2 9 rfl rfl)
theorem dX3_part_58 : decode cX3_part 58 = .ok (.aload_n 0, 1) := dk_42 (dk_at dksX3_part_2 10 rfl rfl)
theorem dX3_part_59 : decode cX3_part 59 = .ok (.invokevirtual 157, 3) := dk_182 0 157 (dk_at dksX3_part_2 11 rfl rfl)
theorem dX3_part_62 : decode cX3_part 62 = .ok (.invokevirtual 160, 3) := dk_182 0 160 (dk_at dksX3_part_2 14 rfl rfl)
theorem dX3_part_65 : decode cX3_part 65 = .ok (.astore_n 2, 1) := dk_77 (dk_at dksX3_part_2 17 rfl rfl)
theorem dX3_part_66 : decode cX3_part 66 = .ok (.aload_n 2, 1) := dk_44 (dk_at dksX3_part_2 18 rfl rfl)
theorem dX3_part_67 : decode cX3_part 67 = .ok (.ifnull 5, 3) := dk_198 0 5 (dk_at dksX3_part_2 19 rfl rfl)
theorem dX3_part_70 : decode cX3_part 70 = .ok (.aload_n 2, 1) := dk_44 (dk_at dksX3_part_2 22 rfl rfl)
theorem dX3_part_71 : decode cX3_part 71 = .ok (.areturn, 1) := dk_176 (dk_at dksX3_part_2 23 rfl rfl)
theorem dX3_part_72 : decode cX3_part 72 = .ok (.new 164, 3) := dk_187 0 164 (dk_at dksX3_part_3 0 rfl rfl)
theorem dX3_part_75 : decode cX3_part 75 = .ok (.dup, 1) := dk_89 (dk_at dksX3_part_3 3 rfl rfl)
theorem dX3_part_76 : decode cX3_part 76 = .ok (.aload_n 0, 1) := dk_42 (dk_at dksX3_part_3 4 rfl rfl)
theorem dX3_part_77 : decode cX3_part 77 = .ok (.invokevirtual 166, 3) := dk_182 0 166 (dk_at dksX3_part_3 5 rfl rfl)
theorem dX3_part_80 : decode cX3_part 80 = .ok (.invokespecial 169, 3) := dk_183 0 169 (dk_at dksX3_part_3 8 rfl rfl)
theorem dX3_part_83 : decode cX3_part 83 = .ok (.areturn, 1) := dk_176 (dk_at dksX3_part_3 11 rfl rfl)
abbrev cX3_numeral : ByteArray := prog_22_method_10_code
def yX3_numeral : MethodName := ⟨RX3, "numeral", "()D"⟩
def dkwX3_numeral_8 : List UInt8 := [24, 4, 111, 175]
abbrev dktX3_numeral_8 : List UInt8 := dkwX3_numeral_8 ++ []
def dkwX3_numeral_7 : List UInt8 := [167, 255, 204, 42, 42, 182, 0, 63, 184, 0, 82, 154, 0, 7, 4, 167, 0, 4, 3, 182, 0, 67, 31, 138]
abbrev dktX3_numeral_7 : List UInt8 := dkwX3_numeral_7 ++ dktX3_numeral_8
def dkwX3_numeral_6 : List UInt8 := [64, 24, 4, 20, 0, 93, 107, 57, 4, 42, 89, 180, 0, 57, 4, 96, 181, 0, 57, 132, 3, 1]
abbrev dktX3_numeral_6 : List UInt8 := dkwX3_numeral_6 ++ dktX3_numeral_7
def dkwX3_numeral_5 : List UInt8 := [182, 0, 63, 184, 0, 82, 153, 0, 43, 20, 0, 86, 31, 105, 42, 182, 0, 63, 133, 97, 20, 0, 88, 101]
abbrev dktX3_numeral_5 : List UInt8 := dkwX3_numeral_5 ++ dktX3_numeral_6
def dkwX3_numeral_4 : List UInt8 := [175, 15, 57, 4, 3, 62, 42, 42, 182, 0, 63, 184, 0, 82, 182, 0, 67, 29, 6, 162, 0, 53, 42]
abbrev dktX3_numeral_4 : List UInt8 := dkwX3_numeral_4 ++ dktX3_numeral_5
def dkwX3_numeral_3 : List UInt8 := [154, 0, 25, 42, 42, 182, 0, 63, 184, 0, 82, 154, 0, 7, 4, 167, 0, 4, 3, 182, 0, 67, 31, 138]
abbrev dktX3_numeral_3 : List UInt8 := dkwX3_numeral_3 ++ dktX3_numeral_4
def dkwX3_numeral_2 : List UInt8 := [64, 42, 89, 180, 0, 57, 4, 96, 181, 0, 57, 132, 3, 1, 167, 255, 211, 42, 16, 46, 182, 0, 90]
abbrev dktX3_numeral_2 : List UInt8 := dkwX3_numeral_2 ++ dktX3_numeral_3
def dkwX3_numeral_1 : List UInt8 := [182, 0, 63, 184, 0, 82, 153, 0, 35, 20, 0, 86, 31, 105, 42, 182, 0, 63, 133, 97, 20, 0, 88, 101]
abbrev dktX3_numeral_1 : List UInt8 := dkwX3_numeral_1 ++ dktX3_numeral_2
def dkwX3_numeral_0 : List UInt8 := [9, 64, 3, 62, 42, 42, 182, 0, 63, 184, 0, 82, 182, 0, 67, 29, 16, 6, 162, 0, 45, 42]
abbrev dktX3_numeral_0 : List UInt8 := dkwX3_numeral_0 ++ dktX3_numeral_1
theorem dksX3_numeral_0 : cX3_numeral.data.toList.drop 0 = dktX3_numeral_0 := by decide +kernel
theorem dksX3_numeral_1 : cX3_numeral.data.toList.drop 22 = dktX3_numeral_1 := dk_seg dksX3_numeral_0 22 rfl rfl
theorem dksX3_numeral_2 : cX3_numeral.data.toList.drop 46 = dktX3_numeral_2 := dk_seg dksX3_numeral_1 24 rfl rfl
theorem dksX3_numeral_3 : cX3_numeral.data.toList.drop 69 = dktX3_numeral_3 := dk_seg dksX3_numeral_2 23 rfl rfl
theorem dksX3_numeral_4 : cX3_numeral.data.toList.drop 93 = dktX3_numeral_4 := dk_seg dksX3_numeral_3 24 rfl rfl
theorem dksX3_numeral_5 : cX3_numeral.data.toList.drop 116 = dktX3_numeral_5 := dk_seg dksX3_numeral_4 23 rfl rfl
theorem dksX3_numeral_6 : cX3_numeral.data.toList.drop 140 = dktX3_numeral_6 := dk_seg dksX3_numeral_5 24 rfl rfl
theorem dksX3_numeral_7 : cX3_numeral.data.toList.drop 162 = dktX3_numeral_7 := dk_seg dksX3_numeral_6 22 rfl rfl
theorem dksX3_numeral_8 : cX3_numeral.data.toList.drop 186 = dktX3_numeral_8 := dk_seg dksX3_numeral_7 24 rfl rfl
theorem dX3_numeral_0 : decode cX3_numeral 0 = .ok (.lconst 0, 1) := dk_9 (dk_at dksX3_numeral_0 0 rfl rfl)
theorem dX3_numeral_1 : decode cX3_numeral 1 = .ok (.lstore_n 1, 1) := dk_64 (dk_at dksX3_numeral_0 1 rfl rfl)
theorem dX3_numeral_2 : decode cX3_numeral 2 = .ok (.iconst 0, 1) := dk_3 (dk_at dksX3_numeral_0 2 rfl rfl)
theorem dX3_numeral_3 : decode cX3_numeral 3 = .ok (.istore_n 3, 1) := dk_62 (dk_at dksX3_numeral_0 3 rfl rfl)
theorem dX3_numeral_4 : decode cX3_numeral 4 = .ok (.aload_n 0, 1) := dk_42 (dk_at dksX3_numeral_0 4 rfl rfl)
theorem dX3_numeral_5 : decode cX3_numeral 5 = .ok (.aload_n 0, 1) := dk_42 (dk_at dksX3_numeral_0 5 rfl rfl)
theorem dX3_numeral_6 : decode cX3_numeral 6 = .ok (.invokevirtual 63, 3) := dk_182 0 63 (dk_at dksX3_numeral_0 6 rfl rfl)
theorem dX3_numeral_9 : decode cX3_numeral 9 = .ok (.invokestatic 82, 3) := dk_184 0 82 (dk_at dksX3_numeral_0 9 rfl rfl)
theorem dX3_numeral_12 : decode cX3_numeral 12 = .ok (.invokevirtual 67, 3) := dk_182 0 67 (dk_at dksX3_numeral_0 12 rfl rfl)
theorem dX3_numeral_15 : decode cX3_numeral 15 = .ok (.iload_n 3, 1) := dk_29 (dk_at dksX3_numeral_0 15 rfl rfl)
theorem dX3_numeral_16 : decode cX3_numeral 16 = .ok (.bipush 6, 2) := dk_16 6 (dk_at dksX3_numeral_0 16 rfl rfl)
theorem dX3_numeral_18 : decode cX3_numeral 18 = .ok (.if_icmp .ge 45, 3) := dk_162 0 45 (dk_at dksX3_numeral_0 18 rfl rfl)
theorem dX3_numeral_21 : decode cX3_numeral 21 = .ok (.aload_n 0, 1) := dk_42 (dk_at dksX3_numeral_0 21 rfl rfl)
theorem dX3_numeral_22 : decode cX3_numeral 22 = .ok (.invokevirtual 63, 3) := dk_182 0 63 (dk_at dksX3_numeral_1 0 rfl rfl)
theorem dX3_numeral_25 : decode cX3_numeral 25 = .ok (.invokestatic 82, 3) := dk_184 0 82 (dk_at dksX3_numeral_1 3 rfl rfl)
theorem dX3_numeral_28 : decode cX3_numeral 28 = .ok (.ifCond .eq 35, 3) := dk_153 0 35 (dk_at dksX3_numeral_1 6 rfl rfl)
theorem dX3_numeral_31 : decode cX3_numeral 31 = .ok (.ldc2_w 86, 3) := dk_20 0 86 (dk_at dksX3_numeral_1 9 rfl rfl)
theorem dX3_numeral_34 : decode cX3_numeral 34 = .ok (.lload_n 1, 1) := dk_31 (dk_at dksX3_numeral_1 12 rfl rfl)
theorem dX3_numeral_35 : decode cX3_numeral 35 = .ok (.lmul, 1) := dk_105 (dk_at dksX3_numeral_1 13 rfl rfl)
theorem dX3_numeral_36 : decode cX3_numeral 36 = .ok (.aload_n 0, 1) := dk_42 (dk_at dksX3_numeral_1 14 rfl rfl)
theorem dX3_numeral_37 : decode cX3_numeral 37 = .ok (.invokevirtual 63, 3) := dk_182 0 63 (dk_at dksX3_numeral_1 15 rfl rfl)
theorem dX3_numeral_40 : decode cX3_numeral 40 = .ok (.i2l, 1) := dk_133 (dk_at dksX3_numeral_1 18 rfl rfl)
theorem dX3_numeral_41 : decode cX3_numeral 41 = .ok (.ladd, 1) := dk_97 (dk_at dksX3_numeral_1 19 rfl rfl)
theorem dX3_numeral_42 : decode cX3_numeral 42 = .ok (.ldc2_w 88, 3) := dk_20 0 88 (dk_at dksX3_numeral_1 20 rfl rfl)
theorem dX3_numeral_45 : decode cX3_numeral 45 = .ok (.lsub, 1) := dk_101 (dk_at dksX3_numeral_1 23 rfl rfl)
theorem dX3_numeral_46 : decode cX3_numeral 46 = .ok (.lstore_n 1, 1) := dk_64 (dk_at dksX3_numeral_2 0 rfl rfl)
theorem dX3_numeral_47 : decode cX3_numeral 47 = .ok (.aload_n 0, 1) := dk_42 (dk_at dksX3_numeral_2 1 rfl rfl)
theorem dX3_numeral_48 : decode cX3_numeral 48 = .ok (.dup, 1) := dk_89 (dk_at dksX3_numeral_2 2 rfl rfl)
theorem dX3_numeral_49 : decode cX3_numeral 49 = .ok (.getfield 57, 3) := dk_180 0 57 (dk_at dksX3_numeral_2 3 rfl rfl)
theorem dX3_numeral_52 : decode cX3_numeral 52 = .ok (.iconst 1, 1) := dk_4 (dk_at dksX3_numeral_2 6 rfl rfl)
theorem dX3_numeral_53 : decode cX3_numeral 53 = .ok (.iadd, 1) := dk_96 (dk_at dksX3_numeral_2 7 rfl rfl)
theorem dX3_numeral_54 : decode cX3_numeral 54 = .ok (.putfield 57, 3) := dk_181 0 57 (dk_at dksX3_numeral_2 8 rfl rfl)
theorem dX3_numeral_57 : decode cX3_numeral 57 = .ok (.iinc 3 1, 3) := dk_132 3 1 (dk_at dksX3_numeral_2 11 rfl rfl)
theorem dX3_numeral_60 : decode cX3_numeral 60 = .ok (.goto (-45), 3) := dk_167 255 211 (dk_at dksX3_numeral_2 14 rfl rfl)
theorem dX3_numeral_63 : decode cX3_numeral 63 = .ok (.aload_n 0, 1) := dk_42 (dk_at dksX3_numeral_2 17 rfl rfl)
theorem dX3_numeral_64 : decode cX3_numeral 64 = .ok (.bipush 46, 2) := dk_16 46 (dk_at dksX3_numeral_2 18 rfl rfl)
theorem dX3_numeral_66 : decode cX3_numeral 66 = .ok (.invokevirtual 90, 3) := dk_182 0 90 (dk_at dksX3_numeral_2 20 rfl rfl)
theorem dX3_numeral_69 : decode cX3_numeral 69 = .ok (.ifCond .ne 25, 3) := dk_154 0 25 (dk_at dksX3_numeral_3 0 rfl rfl)
theorem dX3_numeral_72 : decode cX3_numeral 72 = .ok (.aload_n 0, 1) := dk_42 (dk_at dksX3_numeral_3 3 rfl rfl)
theorem dX3_numeral_73 : decode cX3_numeral 73 = .ok (.aload_n 0, 1) := dk_42 (dk_at dksX3_numeral_3 4 rfl rfl)
theorem dX3_numeral_74 : decode cX3_numeral 74 = .ok (.invokevirtual 63, 3) := dk_182 0 63 (dk_at dksX3_numeral_3 5 rfl rfl)
theorem dX3_numeral_77 : decode cX3_numeral 77 = .ok (.invokestatic 82, 3) := dk_184 0 82 (dk_at dksX3_numeral_3 8 rfl rfl)
theorem dX3_numeral_80 : decode cX3_numeral 80 = .ok (.ifCond .ne 7, 3) := dk_154 0 7 (dk_at dksX3_numeral_3 11 rfl rfl)
theorem dX3_numeral_83 : decode cX3_numeral 83 = .ok (.iconst 1, 1) := dk_4 (dk_at dksX3_numeral_3 14 rfl rfl)
theorem dX3_numeral_84 : decode cX3_numeral 84 = .ok (.goto 4, 3) := dk_167 0 4 (dk_at dksX3_numeral_3 15 rfl rfl)
theorem dX3_numeral_87 : decode cX3_numeral 87 = .ok (.iconst 0, 1) := dk_3 (dk_at dksX3_numeral_3 18 rfl rfl)
theorem dX3_numeral_88 : decode cX3_numeral 88 = .ok (.invokevirtual 67, 3) := dk_182 0 67 (dk_at dksX3_numeral_3 19 rfl rfl)
theorem dX3_numeral_91 : decode cX3_numeral 91 = .ok (.lload_n 1, 1) := dk_31 (dk_at dksX3_numeral_3 22 rfl rfl)
theorem dX3_numeral_92 : decode cX3_numeral 92 = .ok (.l2d, 1) := dk_138 (dk_at dksX3_numeral_3 23 rfl rfl)
theorem dX3_numeral_93 : decode cX3_numeral 93 = .ok (.dreturn, 1) := dk_175 (dk_at dksX3_numeral_4 0 rfl rfl)
theorem dX3_numeral_94 : decode cX3_numeral 94 = .ok (.dconst 1, 1) := dk_15 (dk_at dksX3_numeral_4 1 rfl rfl)
theorem dX3_numeral_95 : decode cX3_numeral 95 = .ok (.dstore 4, 2) := dk_57 4 (dk_at dksX3_numeral_4 2 rfl rfl)
theorem dX3_numeral_97 : decode cX3_numeral 97 = .ok (.iconst 0, 1) := dk_3 (dk_at dksX3_numeral_4 4 rfl rfl)
theorem dX3_numeral_98 : decode cX3_numeral 98 = .ok (.istore_n 3, 1) := dk_62 (dk_at dksX3_numeral_4 5 rfl rfl)
theorem dX3_numeral_99 : decode cX3_numeral 99 = .ok (.aload_n 0, 1) := dk_42 (dk_at dksX3_numeral_4 6 rfl rfl)
theorem dX3_numeral_100 : decode cX3_numeral 100 = .ok (.aload_n 0, 1) := dk_42 (dk_at dksX3_numeral_4 7 rfl rfl)
theorem dX3_numeral_101 : decode cX3_numeral 101 = .ok (.invokevirtual 63, 3) := dk_182 0 63 (dk_at dksX3_numeral_4 8 rfl rfl)
theorem dX3_numeral_104 : decode cX3_numeral 104 = .ok (.invokestatic 82, 3) := dk_184 0 82 (dk_at dksX3_numeral_4 11 rfl rfl)
theorem dX3_numeral_107 : decode cX3_numeral 107 = .ok (.invokevirtual 67, 3) := dk_182 0 67 (dk_at dksX3_numeral_4 14 rfl rfl)
theorem dX3_numeral_110 : decode cX3_numeral 110 = .ok (.iload_n 3, 1) := dk_29 (dk_at dksX3_numeral_4 17 rfl rfl)
theorem dX3_numeral_111 : decode cX3_numeral 111 = .ok (.iconst 3, 1) := dk_6 (dk_at dksX3_numeral_4 18 rfl rfl)
theorem dX3_numeral_112 : decode cX3_numeral 112 = .ok (.if_icmp .ge 53, 3) := dk_162 0 53 (dk_at dksX3_numeral_4 19 rfl rfl)
theorem dX3_numeral_115 : decode cX3_numeral 115 = .ok (.aload_n 0, 1) := dk_42 (dk_at dksX3_numeral_4 22 rfl rfl)
theorem dX3_numeral_116 : decode cX3_numeral 116 = .ok (.invokevirtual 63, 3) := dk_182 0 63 (dk_at dksX3_numeral_5 0 rfl rfl)
theorem dX3_numeral_119 : decode cX3_numeral 119 = .ok (.invokestatic 82, 3) := dk_184 0 82 (dk_at dksX3_numeral_5 3 rfl rfl)
theorem dX3_numeral_122 : decode cX3_numeral 122 = .ok (.ifCond .eq 43, 3) := dk_153 0 43 (dk_at dksX3_numeral_5 6 rfl rfl)
theorem dX3_numeral_125 : decode cX3_numeral 125 = .ok (.ldc2_w 86, 3) := dk_20 0 86 (dk_at dksX3_numeral_5 9 rfl rfl)
theorem dX3_numeral_128 : decode cX3_numeral 128 = .ok (.lload_n 1, 1) := dk_31 (dk_at dksX3_numeral_5 12 rfl rfl)
theorem dX3_numeral_129 : decode cX3_numeral 129 = .ok (.lmul, 1) := dk_105 (dk_at dksX3_numeral_5 13 rfl rfl)
theorem dX3_numeral_130 : decode cX3_numeral 130 = .ok (.aload_n 0, 1) := dk_42 (dk_at dksX3_numeral_5 14 rfl rfl)
theorem dX3_numeral_131 : decode cX3_numeral 131 = .ok (.invokevirtual 63, 3) := dk_182 0 63 (dk_at dksX3_numeral_5 15 rfl rfl)
theorem dX3_numeral_134 : decode cX3_numeral 134 = .ok (.i2l, 1) := dk_133 (dk_at dksX3_numeral_5 18 rfl rfl)
theorem dX3_numeral_135 : decode cX3_numeral 135 = .ok (.ladd, 1) := dk_97 (dk_at dksX3_numeral_5 19 rfl rfl)
theorem dX3_numeral_136 : decode cX3_numeral 136 = .ok (.ldc2_w 88, 3) := dk_20 0 88 (dk_at dksX3_numeral_5 20 rfl rfl)
theorem dX3_numeral_139 : decode cX3_numeral 139 = .ok (.lsub, 1) := dk_101 (dk_at dksX3_numeral_5 23 rfl rfl)
theorem dX3_numeral_140 : decode cX3_numeral 140 = .ok (.lstore_n 1, 1) := dk_64 (dk_at dksX3_numeral_6 0 rfl rfl)
theorem dX3_numeral_141 : decode cX3_numeral 141 = .ok (.dload 4, 2) := dk_24 4 (dk_at dksX3_numeral_6 1 rfl rfl)
theorem dX3_numeral_143 : decode cX3_numeral 143 = .ok (.ldc2_w 93, 3) := dk_20 0 93 (dk_at dksX3_numeral_6 3 rfl rfl)
theorem dX3_numeral_146 : decode cX3_numeral 146 = .ok (.dmul, 1) := dk_107 (dk_at dksX3_numeral_6 6 rfl rfl)
theorem dX3_numeral_147 : decode cX3_numeral 147 = .ok (.dstore 4, 2) := dk_57 4 (dk_at dksX3_numeral_6 7 rfl rfl)
theorem dX3_numeral_149 : decode cX3_numeral 149 = .ok (.aload_n 0, 1) := dk_42 (dk_at dksX3_numeral_6 9 rfl rfl)
theorem dX3_numeral_150 : decode cX3_numeral 150 = .ok (.dup, 1) := dk_89 (dk_at dksX3_numeral_6 10 rfl rfl)
theorem dX3_numeral_151 : decode cX3_numeral 151 = .ok (.getfield 57, 3) := dk_180 0 57 (dk_at dksX3_numeral_6 11 rfl rfl)
theorem dX3_numeral_154 : decode cX3_numeral 154 = .ok (.iconst 1, 1) := dk_4 (dk_at dksX3_numeral_6 14 rfl rfl)
theorem dX3_numeral_155 : decode cX3_numeral 155 = .ok (.iadd, 1) := dk_96 (dk_at dksX3_numeral_6 15 rfl rfl)
theorem dX3_numeral_156 : decode cX3_numeral 156 = .ok (.putfield 57, 3) := dk_181 0 57 (dk_at dksX3_numeral_6 16 rfl rfl)
theorem dX3_numeral_159 : decode cX3_numeral 159 = .ok (.iinc 3 1, 3) := dk_132 3 1 (dk_at dksX3_numeral_6 19 rfl rfl)
theorem dX3_numeral_162 : decode cX3_numeral 162 = .ok (.goto (-52), 3) := dk_167 255 204 (dk_at dksX3_numeral_7 0 rfl rfl)
theorem dX3_numeral_165 : decode cX3_numeral 165 = .ok (.aload_n 0, 1) := dk_42 (dk_at dksX3_numeral_7 3 rfl rfl)
theorem dX3_numeral_166 : decode cX3_numeral 166 = .ok (.aload_n 0, 1) := dk_42 (dk_at dksX3_numeral_7 4 rfl rfl)
theorem dX3_numeral_167 : decode cX3_numeral 167 = .ok (.invokevirtual 63, 3) := dk_182 0 63 (dk_at dksX3_numeral_7 5 rfl rfl)
theorem dX3_numeral_170 : decode cX3_numeral 170 = .ok (.invokestatic 82, 3) := dk_184 0 82 (dk_at dksX3_numeral_7 8 rfl rfl)
theorem dX3_numeral_173 : decode cX3_numeral 173 = .ok (.ifCond .ne 7, 3) := dk_154 0 7 (dk_at dksX3_numeral_7 11 rfl rfl)
theorem dX3_numeral_176 : decode cX3_numeral 176 = .ok (.iconst 1, 1) := dk_4 (dk_at dksX3_numeral_7 14 rfl rfl)
theorem dX3_numeral_177 : decode cX3_numeral 177 = .ok (.goto 4, 3) := dk_167 0 4 (dk_at dksX3_numeral_7 15 rfl rfl)
theorem dX3_numeral_180 : decode cX3_numeral 180 = .ok (.iconst 0, 1) := dk_3 (dk_at dksX3_numeral_7 18 rfl rfl)
theorem dX3_numeral_181 : decode cX3_numeral 181 = .ok (.invokevirtual 67, 3) := dk_182 0 67 (dk_at dksX3_numeral_7 19 rfl rfl)
theorem dX3_numeral_184 : decode cX3_numeral 184 = .ok (.lload_n 1, 1) := dk_31 (dk_at dksX3_numeral_7 22 rfl rfl)
theorem dX3_numeral_185 : decode cX3_numeral 185 = .ok (.l2d, 1) := dk_138 (dk_at dksX3_numeral_7 23 rfl rfl)
theorem dX3_numeral_186 : decode cX3_numeral 186 = .ok (.dload 4, 2) := dk_24 4 (dk_at dksX3_numeral_8 0 rfl rfl)
theorem dX3_numeral_188 : decode cX3_numeral 188 = .ok (.ddiv, 1) := dk_111 (dk_at dksX3_numeral_8 2 rfl rfl)
theorem dX3_numeral_189 : decode cX3_numeral 189 = .ok (.dreturn, 1) := dk_175 (dk_at dksX3_numeral_8 3 rfl rfl)
abbrev cX3_inside : ByteArray := prog_22_method_21_code
def yX3_inside : MethodName := ⟨RX3, "inside", "()LBasicMachine$Expression;"⟩
def dkwX3_inside_0 : List UInt8 := [42, 182, 0, 107, 42, 182, 0, 110, 76, 42, 182, 0, 114, 43, 176]
abbrev dktX3_inside_0 : List UInt8 := dkwX3_inside_0 ++ []
theorem dksX3_inside_0 : cX3_inside.data.toList.drop 0 = dktX3_inside_0 := by decide +kernel
theorem dX3_inside_0 : decode cX3_inside 0 = .ok (.aload_n 0, 1) := dk_42 (dk_at dksX3_inside_0 0 rfl rfl)
theorem dX3_inside_1 : decode cX3_inside 1 = .ok (.invokevirtual 107, 3) := dk_182 0 107 (dk_at dksX3_inside_0 1 rfl rfl)
theorem dX3_inside_4 : decode cX3_inside 4 = .ok (.aload_n 0, 1) := dk_42 (dk_at dksX3_inside_0 4 rfl rfl)
theorem dX3_inside_5 : decode cX3_inside 5 = .ok (.invokevirtual 110, 3) := dk_182 0 110 (dk_at dksX3_inside_0 5 rfl rfl)
theorem dX3_inside_8 : decode cX3_inside 8 = .ok (.astore_n 1, 1) := dk_76 (dk_at dksX3_inside_0 8 rfl rfl)
theorem dX3_inside_9 : decode cX3_inside 9 = .ok (.aload_n 0, 1) := dk_42 (dk_at dksX3_inside_0 9 rfl rfl)
theorem dX3_inside_10 : decode cX3_inside 10 = .ok (.invokevirtual 114, 3) := dk_182 0 114 (dk_at dksX3_inside_0 10 rfl rfl)
theorem dX3_inside_13 : decode cX3_inside 13 = .ok (.aload_n 1, 1) := dk_43 (dk_at dksX3_inside_0 13 rfl rfl)
theorem dX3_inside_14 : decode cX3_inside 14 = .ok (.areturn, 1) := dk_176 (dk_at dksX3_inside_0 14 rfl rfl)
abbrev cX3_closeBracket : ByteArray := prog_22_method_16_code
def yX3_closeBracket : MethodName := ⟨RX3, "closeBracket", "()V"⟩
def dkwX3_closeBracket_0 : List UInt8 := [42, 16, 41, 182, 0, 78, 42, 89, 180, 0, 101, 4, 100, 181, 0, 101, 177]
abbrev dktX3_closeBracket_0 : List UInt8 := dkwX3_closeBracket_0 ++ []
theorem dksX3_closeBracket_0 : cX3_closeBracket.data.toList.drop 0 = dktX3_closeBracket_0 := by decide +kernel
theorem dX3_closeBracket_0 : decode cX3_closeBracket 0 = .ok (.aload_n 0, 1) := dk_42 (dk_at dksX3_closeBracket_0 0 rfl rfl)
theorem dX3_closeBracket_1 : decode cX3_closeBracket 1 = .ok (.bipush 41, 2) := dk_16 41 (dk_at dksX3_closeBracket_0 1 rfl rfl)
theorem dX3_closeBracket_3 : decode cX3_closeBracket 3 = .ok (.invokevirtual 78, 3) := dk_182 0 78 (dk_at dksX3_closeBracket_0 3 rfl rfl)
theorem dX3_closeBracket_6 : decode cX3_closeBracket 6 = .ok (.aload_n 0, 1) := dk_42 (dk_at dksX3_closeBracket_0 6 rfl rfl)
theorem dX3_closeBracket_7 : decode cX3_closeBracket 7 = .ok (.dup, 1) := dk_89 (dk_at dksX3_closeBracket_0 7 rfl rfl)
theorem dX3_closeBracket_8 : decode cX3_closeBracket 8 = .ok (.getfield 101, 3) := dk_180 0 101 (dk_at dksX3_closeBracket_0 8 rfl rfl)
theorem dX3_closeBracket_11 : decode cX3_closeBracket 11 = .ok (.iconst 1, 1) := dk_4 (dk_at dksX3_closeBracket_0 11 rfl rfl)
theorem dX3_closeBracket_12 : decode cX3_closeBracket 12 = .ok (.isub, 1) := dk_100 (dk_at dksX3_closeBracket_0 12 rfl rfl)
theorem dX3_closeBracket_13 : decode cX3_closeBracket 13 = .ok (.putfield 101, 3) := dk_181 0 101 (dk_at dksX3_closeBracket_0 13 rfl rfl)
theorem dX3_closeBracket_16 : decode cX3_closeBracket 16 = .ok (.return_, 1) := dk_177 (dk_at dksX3_closeBracket_0 16 rfl rfl)
abbrev cX3_behind : ByteArray := prog_22_method_3_code
def yX3_behind : MethodName := ⟨RX3, "behind", "()C"⟩
def dkwX3_behind_1 : List UInt8 := [167, 0, 4, 3, 172]
abbrev dktX3_behind_1 : List UInt8 := dkwX3_behind_1 ++ []
def dkwX3_behind_0 : List UInt8 := [42, 180, 0, 57, 4, 96, 42, 180, 0, 53, 162, 0, 17, 42, 180, 0, 49, 42, 180, 0, 57, 4, 96, 52]
abbrev dktX3_behind_0 : List UInt8 := dkwX3_behind_0 ++ dktX3_behind_1
theorem dksX3_behind_0 : cX3_behind.data.toList.drop 0 = dktX3_behind_0 := by decide +kernel
theorem dksX3_behind_1 : cX3_behind.data.toList.drop 24 = dktX3_behind_1 := dk_seg dksX3_behind_0 24 rfl rfl
theorem dX3_behind_0 : decode cX3_behind 0 = .ok (.aload_n 0, 1) := dk_42 (dk_at dksX3_behind_0 0 rfl rfl)
theorem dX3_behind_1 : decode cX3_behind 1 = .ok (.getfield 57, 3) := dk_180 0 57 (dk_at dksX3_behind_0 1 rfl rfl)
theorem dX3_behind_4 : decode cX3_behind 4 = .ok (.iconst 1, 1) := dk_4 (dk_at dksX3_behind_0 4 rfl rfl)
theorem dX3_behind_5 : decode cX3_behind 5 = .ok (.iadd, 1) := dk_96 (dk_at dksX3_behind_0 5 rfl rfl)
theorem dX3_behind_6 : decode cX3_behind 6 = .ok (.aload_n 0, 1) := dk_42 (dk_at dksX3_behind_0 6 rfl rfl)
theorem dX3_behind_7 : decode cX3_behind 7 = .ok (.getfield 53, 3) := dk_180 0 53 (dk_at dksX3_behind_0 7 rfl rfl)
theorem dX3_behind_10 : decode cX3_behind 10 = .ok (.if_icmp .ge 17, 3) := dk_162 0 17 (dk_at dksX3_behind_0 10 rfl rfl)
theorem dX3_behind_13 : decode cX3_behind 13 = .ok (.aload_n 0, 1) := dk_42 (dk_at dksX3_behind_0 13 rfl rfl)
theorem dX3_behind_14 : decode cX3_behind 14 = .ok (.getfield 49, 3) := dk_180 0 49 (dk_at dksX3_behind_0 14 rfl rfl)
theorem dX3_behind_17 : decode cX3_behind 17 = .ok (.aload_n 0, 1) := dk_42 (dk_at dksX3_behind_0 17 rfl rfl)
theorem dX3_behind_18 : decode cX3_behind 18 = .ok (.getfield 57, 3) := dk_180 0 57 (dk_at dksX3_behind_0 18 rfl rfl)
theorem dX3_behind_21 : decode cX3_behind 21 = .ok (.iconst 1, 1) := dk_4 (dk_at dksX3_behind_0 21 rfl rfl)
theorem dX3_behind_22 : decode cX3_behind 22 = .ok (.iadd, 1) := dk_96 (dk_at dksX3_behind_0 22 rfl rfl)
theorem dX3_behind_23 : decode cX3_behind 23 = .ok (.caload, 1) := dk_52 (dk_at dksX3_behind_0 23 rfl rfl)
theorem dX3_behind_24 : decode cX3_behind 24 = .ok (.goto 4, 3) := dk_167 0 4 (dk_at dksX3_behind_1 0 rfl rfl)
theorem dX3_behind_27 : decode cX3_behind 27 = .ok (.iconst 0, 1) := dk_3 (dk_at dksX3_behind_1 3 rfl rfl)
theorem dX3_behind_28 : decode cX3_behind 28 = .ok (.ireturn, 1) := dk_172 (dk_at dksX3_behind_1 4 rfl rfl)
abbrev cX3_function : ByteArray := prog_22_method_23_code
def yX3_function : MethodName := ⟨RX3, "function", "(CC)LBasicMachine$Expression;"⟩
def dkwX3_function_6 : List UInt8 := [182, 0, 174, 42, 182, 0, 187, 62, 187, 0, 190, 89, 29, 42, 182, 0, 154, 183, 0, 192, 176]
abbrev dktX3_function_6 : List UInt8 := dkwX3_function_6 ++ []
def dkwX3_function_5 : List UInt8 := [1, 176, 27, 16, 70, 159, 0, 16, 187, 0, 125, 89, 27, 42, 182, 0, 154, 183, 0, 127, 176, 42, 18, 185]
abbrev dktX3_function_5 : List UInt8 := dkwX3_function_5 ++ dktX3_function_6
def dkwX3_function_4 : List UInt8 := [159, 0, 12, 42, 18, 183, 182, 0, 174, 167, 0, 17, 27, 16, 70, 160, 0, 9, 28, 16, 78, 159, 0, 5]
abbrev dktX3_function_4 : List UInt8 := dkwX3_function_4 ++ dktX3_function_5
def dkwX3_function_3 : List UInt8 := [5, 96, 42, 180, 0, 53, 162, 0, 19, 42, 180, 0, 49, 42, 180, 0, 57, 5, 96, 52, 16, 79]
abbrev dktX3_function_3 : List UInt8 := dkwX3_function_3 ++ dktX3_function_4
def dkwX3_function_2 : List UInt8 := [28, 16, 71, 160, 0, 55, 42, 180, 0, 179, 153, 0, 39, 42, 180, 0, 101, 154, 0, 32, 42, 180, 0, 57]
abbrev dktX3_function_2 : List UInt8 := dkwX3_function_2 ++ dktX3_function_3
def dkwX3_function_1 : List UInt8 := [160, 0, 18, 28, 16, 78, 160, 0, 12, 42, 18, 177, 182, 0, 174, 167, 0, 81, 27, 16, 83, 160, 0, 61]
abbrev dktX3_function_1 : List UInt8 := dkwX3_function_1 ++ dktX3_function_2
def dkwX3_function_0 : List UInt8 := [27, 16, 65, 160, 0, 18, 28, 16, 66, 160, 0, 12, 42, 18, 172, 182, 0, 174, 167, 0, 102, 27, 16, 73]
abbrev dktX3_function_0 : List UInt8 := dkwX3_function_0 ++ dktX3_function_1
theorem dksX3_function_0 : cX3_function.data.toList.drop 0 = dktX3_function_0 := by decide +kernel
theorem dksX3_function_1 : cX3_function.data.toList.drop 24 = dktX3_function_1 := dk_seg dksX3_function_0 24 rfl rfl
theorem dksX3_function_2 : cX3_function.data.toList.drop 48 = dktX3_function_2 := dk_seg dksX3_function_1 24 rfl rfl
theorem dksX3_function_3 : cX3_function.data.toList.drop 72 = dktX3_function_3 := dk_seg dksX3_function_2 24 rfl rfl
theorem dksX3_function_4 : cX3_function.data.toList.drop 94 = dktX3_function_4 := dk_seg dksX3_function_3 22 rfl rfl
theorem dksX3_function_5 : cX3_function.data.toList.drop 118 = dktX3_function_5 := dk_seg dksX3_function_4 24 rfl rfl
theorem dksX3_function_6 : cX3_function.data.toList.drop 142 = dktX3_function_6 := dk_seg dksX3_function_5 24 rfl rfl
theorem dX3_function_0 : decode cX3_function 0 = .ok (.iload_n 1, 1) := dk_27 (dk_at dksX3_function_0 0 rfl rfl)
theorem dX3_function_1 : decode cX3_function 1 = .ok (.bipush 65, 2) := dk_16 65 (dk_at dksX3_function_0 1 rfl rfl)
theorem dX3_function_3 : decode cX3_function 3 = .ok (.if_icmp .ne 18, 3) := dk_160 0 18 (dk_at dksX3_function_0 3 rfl rfl)
theorem dX3_function_6 : decode cX3_function 6 = .ok (.iload_n 2, 1) := dk_28 (dk_at dksX3_function_0 6 rfl rfl)
theorem dX3_function_7 : decode cX3_function 7 = .ok (.bipush 66, 2) := dk_16 66 (dk_at dksX3_function_0 7 rfl rfl)
theorem dX3_function_9 : decode cX3_function 9 = .ok (.if_icmp .ne 12, 3) := dk_160 0 12 (dk_at dksX3_function_0 9 rfl rfl)
theorem dX3_function_12 : decode cX3_function 12 = .ok (.aload_n 0, 1) := dk_42 (dk_at dksX3_function_0 12 rfl rfl)
theorem dX3_function_13 : decode cX3_function 13 = .ok (.ldc 172, 2) := dk_18 172 (dk_at dksX3_function_0 13 rfl rfl)
theorem dX3_function_15 : decode cX3_function 15 = .ok (.invokevirtual 174, 3) := dk_182 0 174 (dk_at dksX3_function_0 15 rfl rfl)
theorem dX3_function_18 : decode cX3_function 18 = .ok (.goto 102, 3) := dk_167 0 102 (dk_at dksX3_function_0 18 rfl rfl)
theorem dX3_function_21 : decode cX3_function 21 = .ok (.iload_n 1, 1) := dk_27 (dk_at dksX3_function_0 21 rfl rfl)
theorem dX3_function_22 : decode cX3_function 22 = .ok (.bipush 73, 2) := dk_16 73 (dk_at dksX3_function_0 22 rfl rfl)
theorem dX3_function_24 : decode cX3_function 24 = .ok (.if_icmp .ne 18, 3) := dk_160 0 18 (dk_at dksX3_function_1 0 rfl rfl)
theorem dX3_function_27 : decode cX3_function 27 = .ok (.iload_n 2, 1) := dk_28 (dk_at dksX3_function_1 3 rfl rfl)
theorem dX3_function_28 : decode cX3_function 28 = .ok (.bipush 78, 2) := dk_16 78 (dk_at dksX3_function_1 4 rfl rfl)
theorem dX3_function_30 : decode cX3_function 30 = .ok (.if_icmp .ne 12, 3) := dk_160 0 12 (dk_at dksX3_function_1 6 rfl rfl)
theorem dX3_function_33 : decode cX3_function 33 = .ok (.aload_n 0, 1) := dk_42 (dk_at dksX3_function_1 9 rfl rfl)
theorem dX3_function_34 : decode cX3_function 34 = .ok (.ldc 177, 2) := dk_18 177 (dk_at dksX3_function_1 10 rfl rfl)
theorem dX3_function_36 : decode cX3_function 36 = .ok (.invokevirtual 174, 3) := dk_182 0 174 (dk_at dksX3_function_1 12 rfl rfl)
theorem dX3_function_39 : decode cX3_function 39 = .ok (.goto 81, 3) := dk_167 0 81 (dk_at dksX3_function_1 15 rfl rfl)
theorem dX3_function_42 : decode cX3_function 42 = .ok (.iload_n 1, 1) := dk_27 (dk_at dksX3_function_1 18 rfl rfl)
theorem dX3_function_43 : decode cX3_function 43 = .ok (.bipush 83, 2) := dk_16 83 (dk_at dksX3_function_1 19 rfl rfl)
theorem dX3_function_45 : decode cX3_function 45 = .ok (.if_icmp .ne 61, 3) := dk_160 0 61 (dk_at dksX3_function_1 21 rfl rfl)
theorem dX3_function_48 : decode cX3_function 48 = .ok (.iload_n 2, 1) := dk_28 (dk_at dksX3_function_2 0 rfl rfl)
theorem dX3_function_49 : decode cX3_function 49 = .ok (.bipush 71, 2) := dk_16 71 (dk_at dksX3_function_2 1 rfl rfl)
theorem dX3_function_51 : decode cX3_function 51 = .ok (.if_icmp .ne 55, 3) := dk_160 0 55 (dk_at dksX3_function_2 3 rfl rfl)
theorem dX3_function_54 : decode cX3_function 54 = .ok (.aload_n 0, 1) := dk_42 (dk_at dksX3_function_2 6 rfl rfl)
theorem dX3_function_55 : decode cX3_function 55 = .ok (.getfield 179, 3) := dk_180 0 179 (dk_at dksX3_function_2 7 rfl rfl)
theorem dX3_function_58 : decode cX3_function 58 = .ok (.ifCond .eq 39, 3) := dk_153 0 39 (dk_at dksX3_function_2 10 rfl rfl)
theorem dX3_function_61 : decode cX3_function 61 = .ok (.aload_n 0, 1) := dk_42 (dk_at dksX3_function_2 13 rfl rfl)
theorem dX3_function_62 : decode cX3_function 62 = .ok (.getfield 101, 3) := dk_180 0 101 (dk_at dksX3_function_2 14 rfl rfl)
theorem dX3_function_65 : decode cX3_function 65 = .ok (.ifCond .ne 32, 3) := dk_154 0 32 (dk_at dksX3_function_2 17 rfl rfl)
theorem dX3_function_68 : decode cX3_function 68 = .ok (.aload_n 0, 1) := dk_42 (dk_at dksX3_function_2 20 rfl rfl)
theorem dX3_function_69 : decode cX3_function 69 = .ok (.getfield 57, 3) := dk_180 0 57 (dk_at dksX3_function_2 21 rfl rfl)
theorem dX3_function_72 : decode cX3_function 72 = .ok (.iconst 2, 1) := dk_5 (dk_at dksX3_function_3 0 rfl rfl)
theorem dX3_function_73 : decode cX3_function 73 = .ok (.iadd, 1) := dk_96 (dk_at dksX3_function_3 1 rfl rfl)
theorem dX3_function_74 : decode cX3_function 74 = .ok (.aload_n 0, 1) := dk_42 (dk_at dksX3_function_3 2 rfl rfl)
theorem dX3_function_75 : decode cX3_function 75 = .ok (.getfield 53, 3) := dk_180 0 53 (dk_at dksX3_function_3 3 rfl rfl)
theorem dX3_function_78 : decode cX3_function 78 = .ok (.if_icmp .ge 19, 3) := dk_162 0 19 (dk_at dksX3_function_3 6 rfl rfl)
theorem dX3_function_81 : decode cX3_function 81 = .ok (.aload_n 0, 1) := dk_42 (dk_at dksX3_function_3 9 rfl rfl)
theorem dX3_function_82 : decode cX3_function 82 = .ok (.getfield 49, 3) := dk_180 0 49 (dk_at dksX3_function_3 10 rfl rfl)
theorem dX3_function_85 : decode cX3_function 85 = .ok (.aload_n 0, 1) := dk_42 (dk_at dksX3_function_3 13 rfl rfl)
theorem dX3_function_86 : decode cX3_function 86 = .ok (.getfield 57, 3) := dk_180 0 57 (dk_at dksX3_function_3 14 rfl rfl)
theorem dX3_function_89 : decode cX3_function 89 = .ok (.iconst 2, 1) := dk_5 (dk_at dksX3_function_3 17 rfl rfl)
theorem dX3_function_90 : decode cX3_function 90 = .ok (.iadd, 1) := dk_96 (dk_at dksX3_function_3 18 rfl rfl)
theorem dX3_function_91 : decode cX3_function 91 = .ok (.caload, 1) := dk_52 (dk_at dksX3_function_3 19 rfl rfl)
theorem dX3_function_92 : decode cX3_function 92 = .ok (.bipush 79, 2) := dk_16 79 (dk_at dksX3_function_3 20 rfl rfl)
theorem dX3_function_94 : decode cX3_function 94 = .ok (.if_icmp .eq 12, 3) := dk_159 0 12 (dk_at dksX3_function_4 0 rfl rfl)
theorem dX3_function_97 : decode cX3_function 97 = .ok (.aload_n 0, 1) := dk_42 (dk_at dksX3_function_4 3 rfl rfl)
theorem dX3_function_98 : decode cX3_function 98 = .ok (.ldc 183, 2) := dk_18 183 (dk_at dksX3_function_4 4 rfl rfl)
theorem dX3_function_100 : decode cX3_function 100 = .ok (.invokevirtual 174, 3) := dk_182 0 174 (dk_at dksX3_function_4 6 rfl rfl)
theorem dX3_function_103 : decode cX3_function 103 = .ok (.goto 17, 3) := dk_167 0 17 (dk_at dksX3_function_4 9 rfl rfl)
theorem dX3_function_106 : decode cX3_function 106 = .ok (.iload_n 1, 1) := dk_27 (dk_at dksX3_function_4 12 rfl rfl)
theorem dX3_function_107 : decode cX3_function 107 = .ok (.bipush 70, 2) := dk_16 70 (dk_at dksX3_function_4 13 rfl rfl)
theorem dX3_function_109 : decode cX3_function 109 = .ok (.if_icmp .ne 9, 3) := dk_160 0 9 (dk_at dksX3_function_4 15 rfl rfl)
theorem dX3_function_112 : decode cX3_function 112 = .ok (.iload_n 2, 1) := dk_28 (dk_at dksX3_function_4 18 rfl rfl)
theorem dX3_function_113 : decode cX3_function 113 = .ok (.bipush 78, 2) := dk_16 78 (dk_at dksX3_function_4 19 rfl rfl)
theorem dX3_function_115 : decode cX3_function 115 = .ok (.if_icmp .eq 5, 3) := dk_159 0 5 (dk_at dksX3_function_4 21 rfl rfl)
theorem dX3_function_118 : decode cX3_function 118 = .ok (.aconst_null, 1) := dk_1 (dk_at dksX3_function_5 0 rfl rfl)
theorem dX3_function_119 : decode cX3_function 119 = .ok (.areturn, 1) := dk_176 (dk_at dksX3_function_5 1 rfl rfl)
theorem dX3_function_120 : decode cX3_function 120 = .ok (.iload_n 1, 1) := dk_27 (dk_at dksX3_function_5 2 rfl rfl)
theorem dX3_function_121 : decode cX3_function 121 = .ok (.bipush 70, 2) := dk_16 70 (dk_at dksX3_function_5 3 rfl rfl)
theorem dX3_function_123 : decode cX3_function 123 = .ok (.if_icmp .eq 16, 3) := dk_159 0 16 (dk_at dksX3_function_5 5 rfl rfl)
theorem dX3_function_126 : decode cX3_function 126 = .ok (.new 125, 3) := dk_187 0 125 (dk_at dksX3_function_5 8 rfl rfl)
theorem dX3_function_129 : decode cX3_function 129 = .ok (.dup, 1) := dk_89 (dk_at dksX3_function_5 11 rfl rfl)
theorem dX3_function_130 : decode cX3_function 130 = .ok (.iload_n 1, 1) := dk_27 (dk_at dksX3_function_5 12 rfl rfl)
theorem dX3_function_131 : decode cX3_function 131 = .ok (.aload_n 0, 1) := dk_42 (dk_at dksX3_function_5 13 rfl rfl)
theorem dX3_function_132 : decode cX3_function 132 = .ok (.invokevirtual 154, 3) := dk_182 0 154 (dk_at dksX3_function_5 14 rfl rfl)
theorem dX3_function_135 : decode cX3_function 135 = .ok (.invokespecial 127, 3) := dk_183 0 127 (dk_at dksX3_function_5 17 rfl rfl)
theorem dX3_function_138 : decode cX3_function 138 = .ok (.areturn, 1) := dk_176 (dk_at dksX3_function_5 20 rfl rfl)
theorem dX3_function_139 : decode cX3_function 139 = .ok (.aload_n 0, 1) := dk_42 (dk_at dksX3_function_5 21 rfl rfl)
theorem dX3_function_140 : decode cX3_function 140 = .ok (.ldc 185, 2) := dk_18 185 (dk_at dksX3_function_5 22 rfl rfl)
theorem dX3_function_142 : decode cX3_function 142 = .ok (.invokevirtual 174, 3) := dk_182 0 174 (dk_at dksX3_function_6 0 rfl rfl)
theorem dX3_function_145 : decode cX3_function 145 = .ok (.aload_n 0, 1) := dk_42 (dk_at dksX3_function_6 3 rfl rfl)
theorem dX3_function_146 : decode cX3_function 146 = .ok (.invokevirtual 187, 3) := dk_182 0 187 (dk_at dksX3_function_6 4 rfl rfl)
theorem dX3_function_149 : decode cX3_function 149 = .ok (.istore_n 3, 1) := dk_62 (dk_at dksX3_function_6 7 rfl rfl)
theorem dX3_function_150 : decode cX3_function 150 = .ok (.new 190, 3) := dk_187 0 190 (dk_at dksX3_function_6 8 rfl rfl)
theorem dX3_function_153 : decode cX3_function 153 = .ok (.dup, 1) := dk_89 (dk_at dksX3_function_6 11 rfl rfl)
theorem dX3_function_154 : decode cX3_function 154 = .ok (.iload_n 3, 1) := dk_29 (dk_at dksX3_function_6 12 rfl rfl)
theorem dX3_function_155 : decode cX3_function 155 = .ok (.aload_n 0, 1) := dk_42 (dk_at dksX3_function_6 13 rfl rfl)
theorem dX3_function_156 : decode cX3_function 156 = .ok (.invokevirtual 154, 3) := dk_182 0 154 (dk_at dksX3_function_6 14 rfl rfl)
theorem dX3_function_159 : decode cX3_function 159 = .ok (.invokespecial 192, 3) := dk_183 0 192 (dk_at dksX3_function_6 17 rfl rfl)
theorem dX3_function_162 : decode cX3_function 162 = .ok (.areturn, 1) := dk_176 (dk_at dksX3_function_6 20 rfl rfl)
abbrev cX3_take_2 : ByteArray := prog_22_method_7_code
def yX3_take_2 : MethodName := ⟨RX3, "take", "(Ljava/lang/String;)V"⟩
def dkwX3_take_2_1 : List UInt8 := [167, 255, 236, 177]
abbrev dktX3_take_2_1 : List UInt8 := dkwX3_take_2_1 ++ []
def dkwX3_take_2_0 : List UInt8 := [3, 61, 28, 43, 182, 0, 71, 162, 0, 18, 42, 43, 28, 182, 0, 74, 182, 0, 78, 132, 2, 1]
abbrev dktX3_take_2_0 : List UInt8 := dkwX3_take_2_0 ++ dktX3_take_2_1
theorem dksX3_take_2_0 : cX3_take_2.data.toList.drop 0 = dktX3_take_2_0 := by decide +kernel
theorem dksX3_take_2_1 : cX3_take_2.data.toList.drop 22 = dktX3_take_2_1 := dk_seg dksX3_take_2_0 22 rfl rfl
theorem dX3_take_2_0 : decode cX3_take_2 0 = .ok (.iconst 0, 1) := dk_3 (dk_at dksX3_take_2_0 0 rfl rfl)
theorem dX3_take_2_1 : decode cX3_take_2 1 = .ok (.istore_n 2, 1) := dk_61 (dk_at dksX3_take_2_0 1 rfl rfl)
theorem dX3_take_2_2 : decode cX3_take_2 2 = .ok (.iload_n 2, 1) := dk_28 (dk_at dksX3_take_2_0 2 rfl rfl)
theorem dX3_take_2_3 : decode cX3_take_2 3 = .ok (.aload_n 1, 1) := dk_43 (dk_at dksX3_take_2_0 3 rfl rfl)
theorem dX3_take_2_4 : decode cX3_take_2 4 = .ok (.invokevirtual 71, 3) := dk_182 0 71 (dk_at dksX3_take_2_0 4 rfl rfl)
theorem dX3_take_2_7 : decode cX3_take_2 7 = .ok (.if_icmp .ge 18, 3) := dk_162 0 18 (dk_at dksX3_take_2_0 7 rfl rfl)
theorem dX3_take_2_10 : decode cX3_take_2 10 = .ok (.aload_n 0, 1) := dk_42 (dk_at dksX3_take_2_0 10 rfl rfl)
theorem dX3_take_2_11 : decode cX3_take_2 11 = .ok (.aload_n 1, 1) := dk_43 (dk_at dksX3_take_2_0 11 rfl rfl)
theorem dX3_take_2_12 : decode cX3_take_2 12 = .ok (.iload_n 2, 1) := dk_28 (dk_at dksX3_take_2_0 12 rfl rfl)
theorem dX3_take_2_13 : decode cX3_take_2 13 = .ok (.invokevirtual 74, 3) := dk_182 0 74 (dk_at dksX3_take_2_0 13 rfl rfl)
theorem dX3_take_2_16 : decode cX3_take_2 16 = .ok (.invokevirtual 78, 3) := dk_182 0 78 (dk_at dksX3_take_2_0 16 rfl rfl)
theorem dX3_take_2_19 : decode cX3_take_2 19 = .ok (.iinc 2 1, 3) := dk_132 2 1 (dk_at dksX3_take_2_0 19 rfl rfl)
theorem dX3_take_2_22 : decode cX3_take_2 22 = .ok (.goto (-20), 3) := dk_167 255 236 (dk_at dksX3_take_2_1 0 rfl rfl)
theorem dX3_take_2_25 : decode cX3_take_2 25 = .ok (.return_, 1) := dk_177 (dk_at dksX3_take_2_1 3 rfl rfl)
abbrev cX3_functionName : ByteArray := prog_22_method_24_code
def yX3_functionName : MethodName := ⟨RX3, "functionName", "()I"⟩
def dkwX3_functionName_2 : List UInt8 := [16, 65, 100, 172]
abbrev dktX3_functionName_2 : List UInt8 := dkwX3_functionName_2 ++ []
def dkwX3_functionName_1 : List UInt8 := [182, 0, 67, 42, 89, 180, 0, 57, 4, 96, 181, 0, 57, 42, 180, 0, 49, 42, 180, 0, 57, 4, 100, 52]
abbrev dktX3_functionName_1 : List UInt8 := dkwX3_functionName_1 ++ dktX3_functionName_2
def dkwX3_functionName_0 : List UInt8 := [42, 42, 182, 0, 63, 16, 65, 161, 0, 16, 42, 182, 0, 63, 16, 67, 163, 0, 7, 4, 167, 0, 4, 3]
abbrev dktX3_functionName_0 : List UInt8 := dkwX3_functionName_0 ++ dktX3_functionName_1
theorem dksX3_functionName_0 : cX3_functionName.data.toList.drop 0 = dktX3_functionName_0 := by decide +kernel
theorem dksX3_functionName_1 : cX3_functionName.data.toList.drop 24 = dktX3_functionName_1 := dk_seg dksX3_functionName_0 24 rfl rfl
theorem dksX3_functionName_2 : cX3_functionName.data.toList.drop 48 = dktX3_functionName_2 := dk_seg dksX3_functionName_1 24 rfl rfl
theorem dX3_functionName_0 : decode cX3_functionName 0 = .ok (.aload_n 0, 1) := dk_42 (dk_at dksX3_functionName_0 0 rfl rfl)
theorem dX3_functionName_1 : decode cX3_functionName 1 = .ok (.aload_n 0, 1) := dk_42 (dk_at dksX3_functionName_0 1 rfl rfl)
theorem dX3_functionName_2 : decode cX3_functionName 2 = .ok (.invokevirtual 63, 3) := dk_182 0 63 (dk_at dksX3_functionName_0 2 rfl rfl)
theorem dX3_functionName_5 : decode cX3_functionName 5 = .ok (.bipush 65, 2) := dk_16 65 (dk_at dksX3_functionName_0 5 rfl rfl)
theorem dX3_functionName_7 : decode cX3_functionName 7 = .ok (.if_icmp .lt 16, 3) := dk_161 0 16 (dk_at dksX3_functionName_0 7 rfl rfl)
theorem dX3_functionName_10 : decode cX3_functionName 10 = .ok (.aload_n 0, 1) := dk_42 (dk_at dksX3_functionName_0 10 rfl rfl)
theorem dX3_functionName_11 : decode cX3_functionName 11 = .ok (.invokevirtual 63, 3) := dk_182 0 63 (dk_at dksX3_functionName_0 11 rfl rfl)
theorem dX3_functionName_14 : decode cX3_functionName 14 = .ok (.bipush 67, 2) := dk_16 67 (dk_at dksX3_functionName_0 14 rfl rfl)
theorem dX3_functionName_16 : decode cX3_functionName 16 = .ok (.if_icmp .gt 7, 3) := dk_163 0 7 (dk_at dksX3_functionName_0 16 rfl rfl)
theorem dX3_functionName_19 : decode cX3_functionName 19 = .ok (.iconst 1, 1) := dk_4 (dk_at dksX3_functionName_0 19 rfl rfl)
theorem dX3_functionName_20 : decode cX3_functionName 20 = .ok (.goto 4, 3) := dk_167 0 4 (dk_at dksX3_functionName_0 20 rfl rfl)
theorem dX3_functionName_23 : decode cX3_functionName 23 = .ok (.iconst 0, 1) := dk_3 (dk_at dksX3_functionName_0 23 rfl rfl)
theorem dX3_functionName_24 : decode cX3_functionName 24 = .ok (.invokevirtual 67, 3) := dk_182 0 67 (dk_at dksX3_functionName_1 0 rfl rfl)
theorem dX3_functionName_27 : decode cX3_functionName 27 = .ok (.aload_n 0, 1) := dk_42 (dk_at dksX3_functionName_1 3 rfl rfl)
theorem dX3_functionName_28 : decode cX3_functionName 28 = .ok (.dup, 1) := dk_89 (dk_at dksX3_functionName_1 4 rfl rfl)
theorem dX3_functionName_29 : decode cX3_functionName 29 = .ok (.getfield 57, 3) := dk_180 0 57 (dk_at dksX3_functionName_1 5 rfl rfl)
theorem dX3_functionName_32 : decode cX3_functionName 32 = .ok (.iconst 1, 1) := dk_4 (dk_at dksX3_functionName_1 8 rfl rfl)
theorem dX3_functionName_33 : decode cX3_functionName 33 = .ok (.iadd, 1) := dk_96 (dk_at dksX3_functionName_1 9 rfl rfl)
theorem dX3_functionName_34 : decode cX3_functionName 34 = .ok (.putfield 57, 3) := dk_181 0 57 (dk_at dksX3_functionName_1 10 rfl rfl)
theorem dX3_functionName_37 : decode cX3_functionName 37 = .ok (.aload_n 0, 1) := dk_42 (dk_at dksX3_functionName_1 13 rfl rfl)
theorem dX3_functionName_38 : decode cX3_functionName 38 = .ok (.getfield 49, 3) := dk_180 0 49 (dk_at dksX3_functionName_1 14 rfl rfl)
theorem dX3_functionName_41 : decode cX3_functionName 41 = .ok (.aload_n 0, 1) := dk_42 (dk_at dksX3_functionName_1 17 rfl rfl)
theorem dX3_functionName_42 : decode cX3_functionName 42 = .ok (.getfield 57, 3) := dk_180 0 57 (dk_at dksX3_functionName_1 18 rfl rfl)
theorem dX3_functionName_45 : decode cX3_functionName 45 = .ok (.iconst 1, 1) := dk_4 (dk_at dksX3_functionName_1 21 rfl rfl)
theorem dX3_functionName_46 : decode cX3_functionName 46 = .ok (.isub, 1) := dk_100 (dk_at dksX3_functionName_1 22 rfl rfl)
theorem dX3_functionName_47 : decode cX3_functionName 47 = .ok (.caload, 1) := dk_52 (dk_at dksX3_functionName_1 23 rfl rfl)
theorem dX3_functionName_48 : decode cX3_functionName 48 = .ok (.bipush 65, 2) := dk_16 65 (dk_at dksX3_functionName_2 0 rfl rfl)
theorem dX3_functionName_50 : decode cX3_functionName 50 = .ok (.isub, 1) := dk_100 (dk_at dksX3_functionName_2 2 rfl rfl)
theorem dX3_functionName_51 : decode cX3_functionName 51 = .ok (.ireturn, 1) := dk_172 (dk_at dksX3_functionName_2 3 rfl rfl)
abbrev cX3_variable : ByteArray := prog_22_method_13_code
def yX3_variable : MethodName := ⟨RX3, "variable", "()I"⟩
def dkwX3_variable_1 : List UInt8 := [180, 0, 49, 42, 180, 0, 57, 4, 100, 52, 16, 65, 100, 172]
abbrev dktX3_variable_1 : List UInt8 := dkwX3_variable_1 ++ []
def dkwX3_variable_0 : List UInt8 := [42, 42, 182, 0, 63, 184, 0, 98, 182, 0, 67, 42, 89, 180, 0, 57, 4, 96, 181, 0, 57, 42]
abbrev dktX3_variable_0 : List UInt8 := dkwX3_variable_0 ++ dktX3_variable_1
theorem dksX3_variable_0 : cX3_variable.data.toList.drop 0 = dktX3_variable_0 := by decide +kernel
theorem dksX3_variable_1 : cX3_variable.data.toList.drop 22 = dktX3_variable_1 := dk_seg dksX3_variable_0 22 rfl rfl
theorem dX3_variable_0 : decode cX3_variable 0 = .ok (.aload_n 0, 1) := dk_42 (dk_at dksX3_variable_0 0 rfl rfl)
theorem dX3_variable_1 : decode cX3_variable 1 = .ok (.aload_n 0, 1) := dk_42 (dk_at dksX3_variable_0 1 rfl rfl)
theorem dX3_variable_2 : decode cX3_variable 2 = .ok (.invokevirtual 63, 3) := dk_182 0 63 (dk_at dksX3_variable_0 2 rfl rfl)
theorem dX3_variable_5 : decode cX3_variable 5 = .ok (.invokestatic 98, 3) := dk_184 0 98 (dk_at dksX3_variable_0 5 rfl rfl)
theorem dX3_variable_8 : decode cX3_variable 8 = .ok (.invokevirtual 67, 3) := dk_182 0 67 (dk_at dksX3_variable_0 8 rfl rfl)
theorem dX3_variable_11 : decode cX3_variable 11 = .ok (.aload_n 0, 1) := dk_42 (dk_at dksX3_variable_0 11 rfl rfl)
theorem dX3_variable_12 : decode cX3_variable 12 = .ok (.dup, 1) := dk_89 (dk_at dksX3_variable_0 12 rfl rfl)
theorem dX3_variable_13 : decode cX3_variable 13 = .ok (.getfield 57, 3) := dk_180 0 57 (dk_at dksX3_variable_0 13 rfl rfl)
theorem dX3_variable_16 : decode cX3_variable 16 = .ok (.iconst 1, 1) := dk_4 (dk_at dksX3_variable_0 16 rfl rfl)
theorem dX3_variable_17 : decode cX3_variable 17 = .ok (.iadd, 1) := dk_96 (dk_at dksX3_variable_0 17 rfl rfl)
theorem dX3_variable_18 : decode cX3_variable 18 = .ok (.putfield 57, 3) := dk_181 0 57 (dk_at dksX3_variable_0 18 rfl rfl)
theorem dX3_variable_21 : decode cX3_variable 21 = .ok (.aload_n 0, 1) := dk_42 (dk_at dksX3_variable_0 21 rfl rfl)
theorem dX3_variable_22 : decode cX3_variable 22 = .ok (.getfield 49, 3) := dk_180 0 49 (dk_at dksX3_variable_1 0 rfl rfl)
theorem dX3_variable_25 : decode cX3_variable 25 = .ok (.aload_n 0, 1) := dk_42 (dk_at dksX3_variable_1 3 rfl rfl)
theorem dX3_variable_26 : decode cX3_variable 26 = .ok (.getfield 57, 3) := dk_180 0 57 (dk_at dksX3_variable_1 4 rfl rfl)
theorem dX3_variable_29 : decode cX3_variable 29 = .ok (.iconst 1, 1) := dk_4 (dk_at dksX3_variable_1 7 rfl rfl)
theorem dX3_variable_30 : decode cX3_variable 30 = .ok (.isub, 1) := dk_100 (dk_at dksX3_variable_1 8 rfl rfl)
theorem dX3_variable_31 : decode cX3_variable 31 = .ok (.caload, 1) := dk_52 (dk_at dksX3_variable_1 9 rfl rfl)
theorem dX3_variable_32 : decode cX3_variable 32 = .ok (.bipush 65, 2) := dk_16 65 (dk_at dksX3_variable_1 10 rfl rfl)
theorem dX3_variable_34 : decode cX3_variable 34 = .ok (.isub, 1) := dk_100 (dk_at dksX3_variable_1 12 rfl rfl)
theorem dX3_variable_35 : decode cX3_variable 35 = .ok (.ireturn, 1) := dk_172 (dk_at dksX3_variable_1 13 rfl rfl)
abbrev cX3_isVariable : ByteArray := prog_22_method_12_code
def yX3_isVariable : MethodName := ⟨RX3, "isVariable", "(C)Z"⟩
def dkwX3_isVariable_1 : List UInt8 := [172]
abbrev dktX3_isVariable_1 : List UInt8 := dkwX3_isVariable_1 ++ []
def dkwX3_isVariable_0 : List UInt8 := [26, 16, 65, 161, 0, 20, 26, 16, 90, 163, 0, 14, 26, 184, 0, 95, 154, 0, 7, 4, 167, 0, 4, 3]
abbrev dktX3_isVariable_0 : List UInt8 := dkwX3_isVariable_0 ++ dktX3_isVariable_1
theorem dksX3_isVariable_0 : cX3_isVariable.data.toList.drop 0 = dktX3_isVariable_0 := by decide +kernel
theorem dksX3_isVariable_1 : cX3_isVariable.data.toList.drop 24 = dktX3_isVariable_1 := dk_seg dksX3_isVariable_0 24 rfl rfl
theorem dX3_isVariable_0 : decode cX3_isVariable 0 = .ok (.iload_n 0, 1) := dk_26 (dk_at dksX3_isVariable_0 0 rfl rfl)
theorem dX3_isVariable_1 : decode cX3_isVariable 1 = .ok (.bipush 65, 2) := dk_16 65 (dk_at dksX3_isVariable_0 1 rfl rfl)
theorem dX3_isVariable_3 : decode cX3_isVariable 3 = .ok (.if_icmp .lt 20, 3) := dk_161 0 20 (dk_at dksX3_isVariable_0 3 rfl rfl)
theorem dX3_isVariable_6 : decode cX3_isVariable 6 = .ok (.iload_n 0, 1) := dk_26 (dk_at dksX3_isVariable_0 6 rfl rfl)
theorem dX3_isVariable_7 : decode cX3_isVariable 7 = .ok (.bipush 90, 2) := dk_16 90 (dk_at dksX3_isVariable_0 7 rfl rfl)
theorem dX3_isVariable_9 : decode cX3_isVariable 9 = .ok (.if_icmp .gt 14, 3) := dk_163 0 14 (dk_at dksX3_isVariable_0 9 rfl rfl)
theorem dX3_isVariable_12 : decode cX3_isVariable 12 = .ok (.iload_n 0, 1) := dk_26 (dk_at dksX3_isVariable_0 12 rfl rfl)
theorem dX3_isVariable_13 : decode cX3_isVariable 13 = .ok (.invokestatic 95, 3) := dk_184 0 95 (dk_at dksX3_isVariable_0 13 rfl rfl)
theorem dX3_isVariable_16 : decode cX3_isVariable 16 = .ok (.ifCond .ne 7, 3) := dk_154 0 7 (dk_at dksX3_isVariable_0 16 rfl rfl)
theorem dX3_isVariable_19 : decode cX3_isVariable 19 = .ok (.iconst 1, 1) := dk_4 (dk_at dksX3_isVariable_0 19 rfl rfl)
theorem dX3_isVariable_20 : decode cX3_isVariable 20 = .ok (.goto 4, 3) := dk_167 0 4 (dk_at dksX3_isVariable_0 20 rfl rfl)
theorem dX3_isVariable_23 : decode cX3_isVariable 23 = .ok (.iconst 0, 1) := dk_3 (dk_at dksX3_isVariable_0 23 rfl rfl)
theorem dX3_isVariable_24 : decode cX3_isVariable 24 = .ok (.ireturn, 1) := dk_172 (dk_at dksX3_isVariable_1 0 rfl rfl)
abbrev cX3_ifThen : ByteArray := prog_22_method_29_code
def yX3_ifThen : MethodName := ⟨RX3, "ifThen", "()LBasicMachine$Statement;"⟩
def dkwX3_ifThen_5 : List UInt8 := [28, 45, 42, 182, 0, 235, 183, 1, 26, 176]
abbrev dktX3_ifThen_5 : List UInt8 := dkwX3_ifThen_5 ++ []
def dkwX3_ifThen_4 : List UInt8 := [167, 0, 4, 3, 182, 0, 67, 42, 182, 0, 110, 78, 42, 19, 1, 22, 182, 0, 174, 187, 1, 24, 89, 43]
abbrev dktX3_ifThen_4 : List UInt8 := dkwX3_ifThen_4 ++ dktX3_ifThen_5
def dkwX3_ifThen_3 : List UInt8 := [182, 0, 90, 153, 0, 8, 16, 6, 167, 0, 8, 7, 167, 0, 4, 3, 61, 42, 28, 158, 0, 7, 4]
abbrev dktX3_ifThen_3 : List UInt8 := dkwX3_ifThen_3 ++ dktX3_ifThen_4
def dkwX3_ifThen_2 : List UInt8 := [153, 0, 7, 8, 167, 0, 35, 4, 167, 0, 31, 42, 16, 62, 182, 0, 90, 153, 0, 21, 42, 16, 61]
abbrev dktX3_ifThen_2 : List UInt8 := dkwX3_ifThen_2 ++ dktX3_ifThen_3
def dkwX3_ifThen_1 : List UInt8 := [153, 0, 33, 42, 16, 61, 182, 0, 90, 153, 0, 7, 6, 167, 0, 48, 42, 16, 62, 182, 0, 90]
abbrev dktX3_ifThen_1 : List UInt8 := dkwX3_ifThen_1 ++ dktX3_ifThen_2
def dkwX3_ifThen_0 : List UInt8 := [42, 182, 0, 110, 76, 42, 16, 61, 182, 0, 90, 153, 0, 7, 5, 167, 0, 70, 42, 16, 60, 182, 0, 90]
abbrev dktX3_ifThen_0 : List UInt8 := dkwX3_ifThen_0 ++ dktX3_ifThen_1
theorem dksX3_ifThen_0 : cX3_ifThen.data.toList.drop 0 = dktX3_ifThen_0 := by decide +kernel
theorem dksX3_ifThen_1 : cX3_ifThen.data.toList.drop 24 = dktX3_ifThen_1 := dk_seg dksX3_ifThen_0 24 rfl rfl
theorem dksX3_ifThen_2 : cX3_ifThen.data.toList.drop 46 = dktX3_ifThen_2 := dk_seg dksX3_ifThen_1 22 rfl rfl
theorem dksX3_ifThen_3 : cX3_ifThen.data.toList.drop 69 = dktX3_ifThen_3 := dk_seg dksX3_ifThen_2 23 rfl rfl
theorem dksX3_ifThen_4 : cX3_ifThen.data.toList.drop 92 = dktX3_ifThen_4 := dk_seg dksX3_ifThen_3 23 rfl rfl
theorem dksX3_ifThen_5 : cX3_ifThen.data.toList.drop 116 = dktX3_ifThen_5 := dk_seg dksX3_ifThen_4 24 rfl rfl
theorem dX3_ifThen_0 : decode cX3_ifThen 0 = .ok (.aload_n 0, 1) := dk_42 (dk_at dksX3_ifThen_0 0 rfl rfl)
theorem dX3_ifThen_1 : decode cX3_ifThen 1 = .ok (.invokevirtual 110, 3) := dk_182 0 110 (dk_at dksX3_ifThen_0 1 rfl rfl)
theorem dX3_ifThen_4 : decode cX3_ifThen 4 = .ok (.astore_n 1, 1) := dk_76 (dk_at dksX3_ifThen_0 4 rfl rfl)
theorem dX3_ifThen_5 : decode cX3_ifThen 5 = .ok (.aload_n 0, 1) := dk_42 (dk_at dksX3_ifThen_0 5 rfl rfl)
theorem dX3_ifThen_6 : decode cX3_ifThen 6 = .ok (.bipush 61, 2) := dk_16 61 (dk_at dksX3_ifThen_0 6 rfl rfl)
theorem dX3_ifThen_8 : decode cX3_ifThen 8 = .ok (.invokevirtual 90, 3) := dk_182 0 90 (dk_at dksX3_ifThen_0 8 rfl rfl)
theorem dX3_ifThen_11 : decode cX3_ifThen 11 = .ok (.ifCond .eq 7, 3) := dk_153 0 7 (dk_at dksX3_ifThen_0 11 rfl rfl)
theorem dX3_ifThen_14 : decode cX3_ifThen 14 = .ok (.iconst 2, 1) := dk_5 (dk_at dksX3_ifThen_0 14 rfl rfl)
theorem dX3_ifThen_15 : decode cX3_ifThen 15 = .ok (.goto 70, 3) := dk_167 0 70 (dk_at dksX3_ifThen_0 15 rfl rfl)
theorem dX3_ifThen_18 : decode cX3_ifThen 18 = .ok (.aload_n 0, 1) := dk_42 (dk_at dksX3_ifThen_0 18 rfl rfl)
theorem dX3_ifThen_19 : decode cX3_ifThen 19 = .ok (.bipush 60, 2) := dk_16 60 (dk_at dksX3_ifThen_0 19 rfl rfl)
theorem dX3_ifThen_21 : decode cX3_ifThen 21 = .ok (.invokevirtual 90, 3) := dk_182 0 90 (dk_at dksX3_ifThen_0 21 rfl rfl)
theorem dX3_ifThen_24 : decode cX3_ifThen 24 = .ok (.ifCond .eq 33, 3) := dk_153 0 33 (dk_at dksX3_ifThen_1 0 rfl rfl)
theorem dX3_ifThen_27 : decode cX3_ifThen 27 = .ok (.aload_n 0, 1) := dk_42 (dk_at dksX3_ifThen_1 3 rfl rfl)
theorem dX3_ifThen_28 : decode cX3_ifThen 28 = .ok (.bipush 61, 2) := dk_16 61 (dk_at dksX3_ifThen_1 4 rfl rfl)
theorem dX3_ifThen_30 : decode cX3_ifThen 30 = .ok (.invokevirtual 90, 3) := dk_182 0 90 (dk_at dksX3_ifThen_1 6 rfl rfl)
theorem dX3_ifThen_33 : decode cX3_ifThen 33 = .ok (.ifCond .eq 7, 3) := dk_153 0 7 (dk_at dksX3_ifThen_1 9 rfl rfl)
theorem dX3_ifThen_36 : decode cX3_ifThen 36 = .ok (.iconst 3, 1) := dk_6 (dk_at dksX3_ifThen_1 12 rfl rfl)
theorem dX3_ifThen_37 : decode cX3_ifThen 37 = .ok (.goto 48, 3) := dk_167 0 48 (dk_at dksX3_ifThen_1 13 rfl rfl)
theorem dX3_ifThen_40 : decode cX3_ifThen 40 = .ok (.aload_n 0, 1) := dk_42 (dk_at dksX3_ifThen_1 16 rfl rfl)
theorem dX3_ifThen_41 : decode cX3_ifThen 41 = .ok (.bipush 62, 2) := dk_16 62 (dk_at dksX3_ifThen_1 17 rfl rfl)
theorem dX3_ifThen_43 : decode cX3_ifThen 43 = .ok (.invokevirtual 90, 3) := dk_182 0 90 (dk_at dksX3_ifThen_1 19 rfl rfl)
theorem dX3_ifThen_46 : decode cX3_ifThen 46 = .ok (.ifCond .eq 7, 3) := dk_153 0 7 (dk_at dksX3_ifThen_2 0 rfl rfl)
theorem dX3_ifThen_49 : decode cX3_ifThen 49 = .ok (.iconst 5, 1) := dk_8 (dk_at dksX3_ifThen_2 3 rfl rfl)
theorem dX3_ifThen_50 : decode cX3_ifThen 50 = .ok (.goto 35, 3) := dk_167 0 35 (dk_at dksX3_ifThen_2 4 rfl rfl)
theorem dX3_ifThen_53 : decode cX3_ifThen 53 = .ok (.iconst 1, 1) := dk_4 (dk_at dksX3_ifThen_2 7 rfl rfl)
theorem dX3_ifThen_54 : decode cX3_ifThen 54 = .ok (.goto 31, 3) := dk_167 0 31 (dk_at dksX3_ifThen_2 8 rfl rfl)
theorem dX3_ifThen_57 : decode cX3_ifThen 57 = .ok (.aload_n 0, 1) := dk_42 (dk_at dksX3_ifThen_2 11 rfl rfl)
theorem dX3_ifThen_58 : decode cX3_ifThen 58 = .ok (.bipush 62, 2) := dk_16 62 (dk_at dksX3_ifThen_2 12 rfl rfl)
theorem dX3_ifThen_60 : decode cX3_ifThen 60 = .ok (.invokevirtual 90, 3) := dk_182 0 90 (dk_at dksX3_ifThen_2 14 rfl rfl)
theorem dX3_ifThen_63 : decode cX3_ifThen 63 = .ok (.ifCond .eq 21, 3) := dk_153 0 21 (dk_at dksX3_ifThen_2 17 rfl rfl)
theorem dX3_ifThen_66 : decode cX3_ifThen 66 = .ok (.aload_n 0, 1) := dk_42 (dk_at dksX3_ifThen_2 20 rfl rfl)
theorem dX3_ifThen_67 : decode cX3_ifThen 67 = .ok (.bipush 61, 2) := dk_16 61 (dk_at dksX3_ifThen_2 21 rfl rfl)
theorem dX3_ifThen_69 : decode cX3_ifThen 69 = .ok (.invokevirtual 90, 3) := dk_182 0 90 (dk_at dksX3_ifThen_3 0 rfl rfl)
theorem dX3_ifThen_72 : decode cX3_ifThen 72 = .ok (.ifCond .eq 8, 3) := dk_153 0 8 (dk_at dksX3_ifThen_3 3 rfl rfl)
theorem dX3_ifThen_75 : decode cX3_ifThen 75 = .ok (.bipush 6, 2) := dk_16 6 (dk_at dksX3_ifThen_3 6 rfl rfl)
theorem dX3_ifThen_77 : decode cX3_ifThen 77 = .ok (.goto 8, 3) := dk_167 0 8 (dk_at dksX3_ifThen_3 8 rfl rfl)
theorem dX3_ifThen_80 : decode cX3_ifThen 80 = .ok (.iconst 4, 1) := dk_7 (dk_at dksX3_ifThen_3 11 rfl rfl)
theorem dX3_ifThen_81 : decode cX3_ifThen 81 = .ok (.goto 4, 3) := dk_167 0 4 (dk_at dksX3_ifThen_3 12 rfl rfl)
theorem dX3_ifThen_84 : decode cX3_ifThen 84 = .ok (.iconst 0, 1) := dk_3 (dk_at dksX3_ifThen_3 15 rfl rfl)
theorem dX3_ifThen_85 : decode cX3_ifThen 85 = .ok (.istore_n 2, 1) := dk_61 (dk_at dksX3_ifThen_3 16 rfl rfl)
theorem dX3_ifThen_86 : decode cX3_ifThen 86 = .ok (.aload_n 0, 1) := dk_42 (dk_at dksX3_ifThen_3 17 rfl rfl)
theorem dX3_ifThen_87 : decode cX3_ifThen 87 = .ok (.iload_n 2, 1) := dk_28 (dk_at dksX3_ifThen_3 18 rfl rfl)
theorem dX3_ifThen_88 : decode cX3_ifThen 88 = .ok (.ifCond .le 7, 3) := dk_158 0 7 (dk_at dksX3_ifThen_3 19 rfl rfl)
theorem dX3_ifThen_91 : decode cX3_ifThen 91 = .ok (.iconst 1, 1) := dk_4 (dk_at dksX3_ifThen_3 22 rfl rfl)
theorem dX3_ifThen_92 : decode cX3_ifThen 92 = .ok (.goto 4, 3) := dk_167 0 4 (dk_at dksX3_ifThen_4 0 rfl rfl)
theorem dX3_ifThen_95 : decode cX3_ifThen 95 = .ok (.iconst 0, 1) := dk_3 (dk_at dksX3_ifThen_4 3 rfl rfl)
theorem dX3_ifThen_96 : decode cX3_ifThen 96 = .ok (.invokevirtual 67, 3) := dk_182 0 67 (dk_at dksX3_ifThen_4 4 rfl rfl)
theorem dX3_ifThen_99 : decode cX3_ifThen 99 = .ok (.aload_n 0, 1) := dk_42 (dk_at dksX3_ifThen_4 7 rfl rfl)
theorem dX3_ifThen_100 : decode cX3_ifThen 100 = .ok (.invokevirtual 110, 3) := dk_182 0 110 (dk_at dksX3_ifThen_4 8 rfl rfl)
theorem dX3_ifThen_103 : decode cX3_ifThen 103 = .ok (.astore_n 3, 1) := dk_78 (dk_at dksX3_ifThen_4 11 rfl rfl)
theorem dX3_ifThen_104 : decode cX3_ifThen 104 = .ok (.aload_n 0, 1) := dk_42 (dk_at dksX3_ifThen_4 12 rfl rfl)
theorem dX3_ifThen_105 : decode cX3_ifThen 105 = .ok (.ldc_w 278, 3) := dk_19 1 22 (dk_at dksX3_ifThen_4 13 rfl rfl)
theorem dX3_ifThen_108 : decode cX3_ifThen 108 = .ok (.invokevirtual 174, 3) := dk_182 0 174 (dk_at dksX3_ifThen_4 16 rfl rfl)
theorem dX3_ifThen_111 : decode cX3_ifThen 111 = .ok (.new 280, 3) := dk_187 1 24 (dk_at dksX3_ifThen_4 19 rfl rfl)
theorem dX3_ifThen_114 : decode cX3_ifThen 114 = .ok (.dup, 1) := dk_89 (dk_at dksX3_ifThen_4 22 rfl rfl)
theorem dX3_ifThen_115 : decode cX3_ifThen 115 = .ok (.aload_n 1, 1) := dk_43 (dk_at dksX3_ifThen_4 23 rfl rfl)
theorem dX3_ifThen_116 : decode cX3_ifThen 116 = .ok (.iload_n 2, 1) := dk_28 (dk_at dksX3_ifThen_5 0 rfl rfl)
theorem dX3_ifThen_117 : decode cX3_ifThen 117 = .ok (.aload_n 3, 1) := dk_45 (dk_at dksX3_ifThen_5 1 rfl rfl)
theorem dX3_ifThen_118 : decode cX3_ifThen 118 = .ok (.aload_n 0, 1) := dk_42 (dk_at dksX3_ifThen_5 2 rfl rfl)
theorem dX3_ifThen_119 : decode cX3_ifThen 119 = .ok (.invokevirtual 235, 3) := dk_182 0 235 (dk_at dksX3_ifThen_5 3 rfl rfl)
theorem dX3_ifThen_122 : decode cX3_ifThen 122 = .ok (.invokespecial 282, 3) := dk_183 1 26 (dk_at dksX3_ifThen_5 6 rfl rfl)
theorem dX3_ifThen_125 : decode cX3_ifThen 125 = .ok (.areturn, 1) := dk_176 (dk_at dksX3_ifThen_5 9 rfl rfl)
abbrev cX3_on : ByteArray := prog_22_method_30_code
def yX3_on : MethodName := ⟨RX3, "on", "()LBasicMachine$Statement;"⟩
def dkwX3_on_3 : List UInt8 := [132, 5, 1, 167, 255, 238, 187, 1, 29, 89, 43, 25, 4, 183, 1, 31, 176]
abbrev dktX3_on_3 : List UInt8 := dkwX3_on_3 ++ []
def dkwX3_on_2 : List UInt8 := [188, 10, 58, 4, 3, 54, 5, 21, 5, 29, 162, 0, 18, 25, 4, 21, 5, 44, 21, 5, 46, 79]
abbrev dktX3_on_2 : List UInt8 := dkwX3_on_2 ++ dktX3_on_3
def dkwX3_on_1 : List UInt8 := [42, 182, 0, 235, 79, 132, 3, 1, 29, 7, 162, 0, 12, 42, 16, 44, 182, 0, 90, 154, 255, 235, 29]
abbrev dktX3_on_1 : List UInt8 := dkwX3_on_1 ++ dktX3_on_2
def dkwX3_on_0 : List UInt8 := [42, 4, 181, 0, 179, 42, 182, 0, 110, 76, 42, 18, 15, 182, 0, 174, 7, 188, 10, 77, 3, 62, 44, 29]
abbrev dktX3_on_0 : List UInt8 := dkwX3_on_0 ++ dktX3_on_1
theorem dksX3_on_0 : cX3_on.data.toList.drop 0 = dktX3_on_0 := by decide +kernel
theorem dksX3_on_1 : cX3_on.data.toList.drop 24 = dktX3_on_1 := dk_seg dksX3_on_0 24 rfl rfl
theorem dksX3_on_2 : cX3_on.data.toList.drop 47 = dktX3_on_2 := dk_seg dksX3_on_1 23 rfl rfl
theorem dksX3_on_3 : cX3_on.data.toList.drop 69 = dktX3_on_3 := dk_seg dksX3_on_2 22 rfl rfl
theorem dX3_on_0 : decode cX3_on 0 = .ok (.aload_n 0, 1) := dk_42 (dk_at dksX3_on_0 0 rfl rfl)
theorem dX3_on_1 : decode cX3_on 1 = .ok (.iconst 1, 1) := dk_4 (dk_at dksX3_on_0 1 rfl rfl)
theorem dX3_on_2 : decode cX3_on 2 = .ok (.putfield 179, 3) := dk_181 0 179 (dk_at dksX3_on_0 2 rfl rfl)
theorem dX3_on_5 : decode cX3_on 5 = .ok (.aload_n 0, 1) := dk_42 (dk_at dksX3_on_0 5 rfl rfl)
theorem dX3_on_6 : decode cX3_on 6 = .ok (.invokevirtual 110, 3) := dk_182 0 110 (dk_at dksX3_on_0 6 rfl rfl)
theorem dX3_on_9 : decode cX3_on 9 = .ok (.astore_n 1, 1) := dk_76 (dk_at dksX3_on_0 9 rfl rfl)
theorem dX3_on_10 : decode cX3_on 10 = .ok (.aload_n 0, 1) := dk_42 (dk_at dksX3_on_0 10 rfl rfl)
theorem dX3_on_11 : decode cX3_on 11 = .ok (.ldc 15, 2) := dk_18 15 (dk_at dksX3_on_0 11 rfl rfl)
theorem dX3_on_13 : decode cX3_on 13 = .ok (.invokevirtual 174, 3) := dk_182 0 174 (dk_at dksX3_on_0 13 rfl rfl)
theorem dX3_on_16 : decode cX3_on 16 = .ok (.iconst 4, 1) := dk_7 (dk_at dksX3_on_0 16 rfl rfl)
theorem dX3_on_17 : decode cX3_on 17 = .ok (.newarray .int, 2) := dk_188_10 (dk_at dksX3_on_0 17 rfl rfl)
theorem dX3_on_19 : decode cX3_on 19 = .ok (.astore_n 2, 1) := dk_77 (dk_at dksX3_on_0 19 rfl rfl)
theorem dX3_on_20 : decode cX3_on 20 = .ok (.iconst 0, 1) := dk_3 (dk_at dksX3_on_0 20 rfl rfl)
theorem dX3_on_21 : decode cX3_on 21 = .ok (.istore_n 3, 1) := dk_62 (dk_at dksX3_on_0 21 rfl rfl)
theorem dX3_on_22 : decode cX3_on 22 = .ok (.aload_n 2, 1) := dk_44 (dk_at dksX3_on_0 22 rfl rfl)
theorem dX3_on_23 : decode cX3_on 23 = .ok (.iload_n 3, 1) := dk_29 (dk_at dksX3_on_0 23 rfl rfl)
theorem dX3_on_24 : decode cX3_on 24 = .ok (.aload_n 0, 1) := dk_42 (dk_at dksX3_on_1 0 rfl rfl)
theorem dX3_on_25 : decode cX3_on 25 = .ok (.invokevirtual 235, 3) := dk_182 0 235 (dk_at dksX3_on_1 1 rfl rfl)
theorem dX3_on_28 : decode cX3_on 28 = .ok (.iastore, 1) := dk_79 (dk_at dksX3_on_1 4 rfl rfl)
theorem dX3_on_29 : decode cX3_on 29 = .ok (.iinc 3 1, 3) := dk_132 3 1 (dk_at dksX3_on_1 5 rfl rfl)
theorem dX3_on_32 : decode cX3_on 32 = .ok (.iload_n 3, 1) := dk_29 (dk_at dksX3_on_1 8 rfl rfl)
theorem dX3_on_33 : decode cX3_on 33 = .ok (.iconst 4, 1) := dk_7 (dk_at dksX3_on_1 9 rfl rfl)
theorem dX3_on_34 : decode cX3_on 34 = .ok (.if_icmp .ge 12, 3) := dk_162 0 12 (dk_at dksX3_on_1 10 rfl rfl)
theorem dX3_on_37 : decode cX3_on 37 = .ok (.aload_n 0, 1) := dk_42 (dk_at dksX3_on_1 13 rfl rfl)
theorem dX3_on_38 : decode cX3_on 38 = .ok (.bipush 44, 2) := dk_16 44 (dk_at dksX3_on_1 14 rfl rfl)
theorem dX3_on_40 : decode cX3_on 40 = .ok (.invokevirtual 90, 3) := dk_182 0 90 (dk_at dksX3_on_1 16 rfl rfl)
theorem dX3_on_43 : decode cX3_on 43 = .ok (.ifCond .ne (-21), 3) := dk_154 255 235 (dk_at dksX3_on_1 19 rfl rfl)
theorem dX3_on_46 : decode cX3_on 46 = .ok (.iload_n 3, 1) := dk_29 (dk_at dksX3_on_1 22 rfl rfl)
theorem dX3_on_47 : decode cX3_on 47 = .ok (.newarray .int, 2) := dk_188_10 (dk_at dksX3_on_2 0 rfl rfl)
theorem dX3_on_49 : decode cX3_on 49 = .ok (.astore 4, 2) := dk_58 4 (dk_at dksX3_on_2 2 rfl rfl)
theorem dX3_on_51 : decode cX3_on 51 = .ok (.iconst 0, 1) := dk_3 (dk_at dksX3_on_2 4 rfl rfl)
theorem dX3_on_52 : decode cX3_on 52 = .ok (.istore 5, 2) := dk_54 5 (dk_at dksX3_on_2 5 rfl rfl)
theorem dX3_on_54 : decode cX3_on 54 = .ok (.iload 5, 2) := dk_21 5 (dk_at dksX3_on_2 7 rfl rfl)
theorem dX3_on_56 : decode cX3_on 56 = .ok (.iload_n 3, 1) := dk_29 (dk_at dksX3_on_2 9 rfl rfl)
theorem dX3_on_57 : decode cX3_on 57 = .ok (.if_icmp .ge 18, 3) := dk_162 0 18 (dk_at dksX3_on_2 10 rfl rfl)
theorem dX3_on_60 : decode cX3_on 60 = .ok (.aload 4, 2) := dk_25 4 (dk_at dksX3_on_2 13 rfl rfl)
theorem dX3_on_62 : decode cX3_on 62 = .ok (.iload 5, 2) := dk_21 5 (dk_at dksX3_on_2 15 rfl rfl)
theorem dX3_on_64 : decode cX3_on 64 = .ok (.aload_n 2, 1) := dk_44 (dk_at dksX3_on_2 17 rfl rfl)
theorem dX3_on_65 : decode cX3_on 65 = .ok (.iload 5, 2) := dk_21 5 (dk_at dksX3_on_2 18 rfl rfl)
theorem dX3_on_67 : decode cX3_on 67 = .ok (.iaload, 1) := dk_46 (dk_at dksX3_on_2 20 rfl rfl)
theorem dX3_on_68 : decode cX3_on 68 = .ok (.iastore, 1) := dk_79 (dk_at dksX3_on_2 21 rfl rfl)
theorem dX3_on_69 : decode cX3_on 69 = .ok (.iinc 5 1, 3) := dk_132 5 1 (dk_at dksX3_on_3 0 rfl rfl)
theorem dX3_on_72 : decode cX3_on 72 = .ok (.goto (-18), 3) := dk_167 255 238 (dk_at dksX3_on_3 3 rfl rfl)
theorem dX3_on_75 : decode cX3_on 75 = .ok (.new 285, 3) := dk_187 1 29 (dk_at dksX3_on_3 6 rfl rfl)
theorem dX3_on_78 : decode cX3_on 78 = .ok (.dup, 1) := dk_89 (dk_at dksX3_on_3 9 rfl rfl)
theorem dX3_on_79 : decode cX3_on 79 = .ok (.aload_n 1, 1) := dk_43 (dk_at dksX3_on_3 10 rfl rfl)
theorem dX3_on_80 : decode cX3_on 80 = .ok (.aload 4, 2) := dk_25 4 (dk_at dksX3_on_3 11 rfl rfl)
theorem dX3_on_82 : decode cX3_on 82 = .ok (.invokespecial 287, 3) := dk_183 1 31 (dk_at dksX3_on_3 13 rfl rfl)
theorem dX3_on_85 : decode cX3_on 85 = .ok (.areturn, 1) := dk_176 (dk_at dksX3_on_3 16 rfl rfl)
abbrev cX3_loop : ByteArray := prog_22_method_31_code
def yX3_loop : MethodName := ⟨RX3, "loop", "()LBasicMachine$Statement;"⟩
def dkwX3_loop_3 : List UInt8 := [183, 1, 38, 176]
abbrev dktX3_loop_3 : List UInt8 := dkwX3_loop_3 ++ []
def dkwX3_loop_2 : List UInt8 := [183, 1, 38, 176, 42, 19, 1, 41, 182, 0, 174, 187, 1, 36, 89, 27, 44, 45, 42, 182, 0, 110]
abbrev dktX3_loop_2 : List UInt8 := dkwX3_loop_2 ++ dktX3_loop_3
def dkwX3_loop_1 : List UInt8 := [182, 0, 110, 78, 42, 180, 0, 57, 42, 180, 0, 53, 161, 0, 15, 187, 1, 36, 89, 27, 44, 45, 1]
abbrev dktX3_loop_1 : List UInt8 := dkwX3_loop_1 ++ dktX3_loop_2
def dkwX3_loop_0 : List UInt8 := [42, 182, 0, 166, 60, 42, 16, 61, 182, 0, 78, 42, 182, 0, 110, 77, 42, 19, 1, 34, 182, 0, 174, 42]
abbrev dktX3_loop_0 : List UInt8 := dkwX3_loop_0 ++ dktX3_loop_1
theorem dksX3_loop_0 : cX3_loop.data.toList.drop 0 = dktX3_loop_0 := by decide +kernel
theorem dksX3_loop_1 : cX3_loop.data.toList.drop 24 = dktX3_loop_1 := dk_seg dksX3_loop_0 24 rfl rfl
theorem dksX3_loop_2 : cX3_loop.data.toList.drop 47 = dktX3_loop_2 := dk_seg dksX3_loop_1 23 rfl rfl
theorem dksX3_loop_3 : cX3_loop.data.toList.drop 69 = dktX3_loop_3 := dk_seg dksX3_loop_2 22 rfl rfl
theorem dX3_loop_0 : decode cX3_loop 0 = .ok (.aload_n 0, 1) := dk_42 (dk_at dksX3_loop_0 0 rfl rfl)
theorem dX3_loop_1 : decode cX3_loop 1 = .ok (.invokevirtual 166, 3) := dk_182 0 166 (dk_at dksX3_loop_0 1 rfl rfl)
theorem dX3_loop_4 : decode cX3_loop 4 = .ok (.istore_n 1, 1) := dk_60 (dk_at dksX3_loop_0 4 rfl rfl)
theorem dX3_loop_5 : decode cX3_loop 5 = .ok (.aload_n 0, 1) := dk_42 (dk_at dksX3_loop_0 5 rfl rfl)
theorem dX3_loop_6 : decode cX3_loop 6 = .ok (.bipush 61, 2) := dk_16 61 (dk_at dksX3_loop_0 6 rfl rfl)
theorem dX3_loop_8 : decode cX3_loop 8 = .ok (.invokevirtual 78, 3) := dk_182 0 78 (dk_at dksX3_loop_0 8 rfl rfl)
theorem dX3_loop_11 : decode cX3_loop 11 = .ok (.aload_n 0, 1) := dk_42 (dk_at dksX3_loop_0 11 rfl rfl)
theorem dX3_loop_12 : decode cX3_loop 12 = .ok (.invokevirtual 110, 3) := dk_182 0 110 (dk_at dksX3_loop_0 12 rfl rfl)
theorem dX3_loop_15 : decode cX3_loop 15 = .ok (.astore_n 2, 1) := dk_77 (dk_at dksX3_loop_0 15 rfl rfl)
theorem dX3_loop_16 : decode cX3_loop 16 = .ok (.aload_n 0, 1) := dk_42 (dk_at dksX3_loop_0 16 rfl rfl)
theorem dX3_loop_17 : decode cX3_loop 17 = .ok (.ldc_w 290, 3) := dk_19 1 34 (dk_at dksX3_loop_0 17 rfl rfl)
theorem dX3_loop_20 : decode cX3_loop 20 = .ok (.invokevirtual 174, 3) := dk_182 0 174 (dk_at dksX3_loop_0 20 rfl rfl)
theorem dX3_loop_23 : decode cX3_loop 23 = .ok (.aload_n 0, 1) := dk_42 (dk_at dksX3_loop_0 23 rfl rfl)
theorem dX3_loop_24 : decode cX3_loop 24 = .ok (.invokevirtual 110, 3) := dk_182 0 110 (dk_at dksX3_loop_1 0 rfl rfl)
theorem dX3_loop_27 : decode cX3_loop 27 = .ok (.astore_n 3, 1) := dk_78 (dk_at dksX3_loop_1 3 rfl rfl)
theorem dX3_loop_28 : decode cX3_loop 28 = .ok (.aload_n 0, 1) := dk_42 (dk_at dksX3_loop_1 4 rfl rfl)
theorem dX3_loop_29 : decode cX3_loop 29 = .ok (.getfield 57, 3) := dk_180 0 57 (dk_at dksX3_loop_1 5 rfl rfl)
theorem dX3_loop_32 : decode cX3_loop 32 = .ok (.aload_n 0, 1) := dk_42 (dk_at dksX3_loop_1 8 rfl rfl)
theorem dX3_loop_33 : decode cX3_loop 33 = .ok (.getfield 53, 3) := dk_180 0 53 (dk_at dksX3_loop_1 9 rfl rfl)
theorem dX3_loop_36 : decode cX3_loop 36 = .ok (.if_icmp .lt 15, 3) := dk_161 0 15 (dk_at dksX3_loop_1 12 rfl rfl)
theorem dX3_loop_39 : decode cX3_loop 39 = .ok (.new 292, 3) := dk_187 1 36 (dk_at dksX3_loop_1 15 rfl rfl)
theorem dX3_loop_42 : decode cX3_loop 42 = .ok (.dup, 1) := dk_89 (dk_at dksX3_loop_1 18 rfl rfl)
theorem dX3_loop_43 : decode cX3_loop 43 = .ok (.iload_n 1, 1) := dk_27 (dk_at dksX3_loop_1 19 rfl rfl)
theorem dX3_loop_44 : decode cX3_loop 44 = .ok (.aload_n 2, 1) := dk_44 (dk_at dksX3_loop_1 20 rfl rfl)
theorem dX3_loop_45 : decode cX3_loop 45 = .ok (.aload_n 3, 1) := dk_45 (dk_at dksX3_loop_1 21 rfl rfl)
theorem dX3_loop_46 : decode cX3_loop 46 = .ok (.aconst_null, 1) := dk_1 (dk_at dksX3_loop_1 22 rfl rfl)
theorem dX3_loop_47 : decode cX3_loop 47 = .ok (.invokespecial 294, 3) := dk_183 1 38 (dk_at dksX3_loop_2 0 rfl rfl)
theorem dX3_loop_50 : decode cX3_loop 50 = .ok (.areturn, 1) := dk_176 (dk_at dksX3_loop_2 3 rfl rfl)
theorem dX3_loop_51 : decode cX3_loop 51 = .ok (.aload_n 0, 1) := dk_42 (dk_at dksX3_loop_2 4 rfl rfl)
theorem dX3_loop_52 : decode cX3_loop 52 = .ok (.ldc_w 297, 3) := dk_19 1 41 (dk_at dksX3_loop_2 5 rfl rfl)
theorem dX3_loop_55 : decode cX3_loop 55 = .ok (.invokevirtual 174, 3) := dk_182 0 174 (dk_at dksX3_loop_2 8 rfl rfl)
theorem dX3_loop_58 : decode cX3_loop 58 = .ok (.new 292, 3) := dk_187 1 36 (dk_at dksX3_loop_2 11 rfl rfl)
theorem dX3_loop_61 : decode cX3_loop 61 = .ok (.dup, 1) := dk_89 (dk_at dksX3_loop_2 14 rfl rfl)
theorem dX3_loop_62 : decode cX3_loop 62 = .ok (.iload_n 1, 1) := dk_27 (dk_at dksX3_loop_2 15 rfl rfl)
theorem dX3_loop_63 : decode cX3_loop 63 = .ok (.aload_n 2, 1) := dk_44 (dk_at dksX3_loop_2 16 rfl rfl)
theorem dX3_loop_64 : decode cX3_loop 64 = .ok (.aload_n 3, 1) := dk_45 (dk_at dksX3_loop_2 17 rfl rfl)
theorem dX3_loop_65 : decode cX3_loop 65 = .ok (.aload_n 0, 1) := dk_42 (dk_at dksX3_loop_2 18 rfl rfl)
theorem dX3_loop_66 : decode cX3_loop 66 = .ok (.invokevirtual 110, 3) := dk_182 0 110 (dk_at dksX3_loop_2 19 rfl rfl)
theorem dX3_loop_69 : decode cX3_loop 69 = .ok (.invokespecial 294, 3) := dk_183 1 38 (dk_at dksX3_loop_3 0 rfl rfl)
theorem dX3_loop_72 : decode cX3_loop 72 = .ok (.areturn, 1) := dk_176 (dk_at dksX3_loop_3 3 rfl rfl)
abbrev cX3_data : ByteArray := prog_22_method_32_code
def yX3_data : MethodName := ⟨RX3, "data", "()LBasicMachine$Statement;"⟩
def dkwX3_data_3 : List UInt8 := [21, 4, 49, 82, 132, 4, 1, 167, 255, 239, 187, 1, 43, 89, 45, 183, 1, 45, 176]
abbrev dktX3_data_3 : List UInt8 := dkwX3_data_3 ++ []
def dkwX3_data_2 : List UInt8 := [182, 0, 90, 154, 255, 213, 28, 188, 7, 78, 3, 54, 4, 21, 4, 28, 162, 0, 17, 45, 21, 4, 43]
abbrev dktX3_data_2 : List UInt8 := dkwX3_data_2 ++ dktX3_data_3
def dkwX3_data_1 : List UInt8 := [153, 0, 9, 24, 4, 119, 167, 0, 5, 24, 4, 82, 132, 2, 1, 28, 16, 6, 162, 0, 12, 42, 16, 44]
abbrev dktX3_data_1 : List UInt8 := dkwX3_data_1 ++ dktX3_data_2
def dkwX3_data_0 : List UInt8 := [16, 6, 188, 7, 76, 3, 61, 42, 16, 45, 182, 0, 90, 62, 42, 182, 0, 143, 57, 4, 43, 28, 29]
abbrev dktX3_data_0 : List UInt8 := dkwX3_data_0 ++ dktX3_data_1
theorem dksX3_data_0 : cX3_data.data.toList.drop 0 = dktX3_data_0 := by decide +kernel
theorem dksX3_data_1 : cX3_data.data.toList.drop 23 = dktX3_data_1 := dk_seg dksX3_data_0 23 rfl rfl
theorem dksX3_data_2 : cX3_data.data.toList.drop 47 = dktX3_data_2 := dk_seg dksX3_data_1 24 rfl rfl
theorem dksX3_data_3 : cX3_data.data.toList.drop 70 = dktX3_data_3 := dk_seg dksX3_data_2 23 rfl rfl
theorem dX3_data_0 : decode cX3_data 0 = .ok (.bipush 6, 2) := dk_16 6 (dk_at dksX3_data_0 0 rfl rfl)
theorem dX3_data_2 : decode cX3_data 2 = .ok (.newarray .double, 2) := dk_188_7 (dk_at dksX3_data_0 2 rfl rfl)
theorem dX3_data_4 : decode cX3_data 4 = .ok (.astore_n 1, 1) := dk_76 (dk_at dksX3_data_0 4 rfl rfl)
theorem dX3_data_5 : decode cX3_data 5 = .ok (.iconst 0, 1) := dk_3 (dk_at dksX3_data_0 5 rfl rfl)
theorem dX3_data_6 : decode cX3_data 6 = .ok (.istore_n 2, 1) := dk_61 (dk_at dksX3_data_0 6 rfl rfl)
theorem dX3_data_7 : decode cX3_data 7 = .ok (.aload_n 0, 1) := dk_42 (dk_at dksX3_data_0 7 rfl rfl)
theorem dX3_data_8 : decode cX3_data 8 = .ok (.bipush 45, 2) := dk_16 45 (dk_at dksX3_data_0 8 rfl rfl)
theorem dX3_data_10 : decode cX3_data 10 = .ok (.invokevirtual 90, 3) := dk_182 0 90 (dk_at dksX3_data_0 10 rfl rfl)
theorem dX3_data_13 : decode cX3_data 13 = .ok (.istore_n 3, 1) := dk_62 (dk_at dksX3_data_0 13 rfl rfl)
theorem dX3_data_14 : decode cX3_data 14 = .ok (.aload_n 0, 1) := dk_42 (dk_at dksX3_data_0 14 rfl rfl)
theorem dX3_data_15 : decode cX3_data 15 = .ok (.invokevirtual 143, 3) := dk_182 0 143 (dk_at dksX3_data_0 15 rfl rfl)
theorem dX3_data_18 : decode cX3_data 18 = .ok (.dstore 4, 2) := dk_57 4 (dk_at dksX3_data_0 18 rfl rfl)
theorem dX3_data_20 : decode cX3_data 20 = .ok (.aload_n 1, 1) := dk_43 (dk_at dksX3_data_0 20 rfl rfl)
theorem dX3_data_21 : decode cX3_data 21 = .ok (.iload_n 2, 1) := dk_28 (dk_at dksX3_data_0 21 rfl rfl)
theorem dX3_data_22 : decode cX3_data 22 = .ok (.iload_n 3, 1) := dk_29 (dk_at dksX3_data_0 22 rfl rfl)
theorem dX3_data_23 : decode cX3_data 23 = .ok (.ifCond .eq 9, 3) := dk_153 0 9 (dk_at dksX3_data_1 0 rfl rfl)
theorem dX3_data_26 : decode cX3_data 26 = .ok (.dload 4, 2) := dk_24 4 (dk_at dksX3_data_1 3 rfl rfl)
theorem dX3_data_28 : decode cX3_data 28 = .ok (.dneg, 1) := dk_119 (dk_at dksX3_data_1 5 rfl rfl)
theorem dX3_data_29 : decode cX3_data 29 = .ok (.goto 5, 3) := dk_167 0 5 (dk_at dksX3_data_1 6 rfl rfl)
theorem dX3_data_32 : decode cX3_data 32 = .ok (.dload 4, 2) := dk_24 4 (dk_at dksX3_data_1 9 rfl rfl)
theorem dX3_data_34 : decode cX3_data 34 = .ok (.dastore, 1) := dk_82 (dk_at dksX3_data_1 11 rfl rfl)
theorem dX3_data_35 : decode cX3_data 35 = .ok (.iinc 2 1, 3) := dk_132 2 1 (dk_at dksX3_data_1 12 rfl rfl)
theorem dX3_data_38 : decode cX3_data 38 = .ok (.iload_n 2, 1) := dk_28 (dk_at dksX3_data_1 15 rfl rfl)
theorem dX3_data_39 : decode cX3_data 39 = .ok (.bipush 6, 2) := dk_16 6 (dk_at dksX3_data_1 16 rfl rfl)
theorem dX3_data_41 : decode cX3_data 41 = .ok (.if_icmp .ge 12, 3) := dk_162 0 12 (dk_at dksX3_data_1 18 rfl rfl)
theorem dX3_data_44 : decode cX3_data 44 = .ok (.aload_n 0, 1) := dk_42 (dk_at dksX3_data_1 21 rfl rfl)
theorem dX3_data_45 : decode cX3_data 45 = .ok (.bipush 44, 2) := dk_16 44 (dk_at dksX3_data_1 22 rfl rfl)
theorem dX3_data_47 : decode cX3_data 47 = .ok (.invokevirtual 90, 3) := dk_182 0 90 (dk_at dksX3_data_2 0 rfl rfl)
theorem dX3_data_50 : decode cX3_data 50 = .ok (.ifCond .ne (-43), 3) := dk_154 255 213 (dk_at dksX3_data_2 3 rfl rfl)
theorem dX3_data_53 : decode cX3_data 53 = .ok (.iload_n 2, 1) := dk_28 (dk_at dksX3_data_2 6 rfl rfl)
theorem dX3_data_54 : decode cX3_data 54 = .ok (.newarray .double, 2) := dk_188_7 (dk_at dksX3_data_2 7 rfl rfl)
theorem dX3_data_56 : decode cX3_data 56 = .ok (.astore_n 3, 1) := dk_78 (dk_at dksX3_data_2 9 rfl rfl)
theorem dX3_data_57 : decode cX3_data 57 = .ok (.iconst 0, 1) := dk_3 (dk_at dksX3_data_2 10 rfl rfl)
theorem dX3_data_58 : decode cX3_data 58 = .ok (.istore 4, 2) := dk_54 4 (dk_at dksX3_data_2 11 rfl rfl)
theorem dX3_data_60 : decode cX3_data 60 = .ok (.iload 4, 2) := dk_21 4 (dk_at dksX3_data_2 13 rfl rfl)
theorem dX3_data_62 : decode cX3_data 62 = .ok (.iload_n 2, 1) := dk_28 (dk_at dksX3_data_2 15 rfl rfl)
theorem dX3_data_63 : decode cX3_data 63 = .ok (.if_icmp .ge 17, 3) := dk_162 0 17 (dk_at dksX3_data_2 16 rfl rfl)
theorem dX3_data_66 : decode cX3_data 66 = .ok (.aload_n 3, 1) := dk_45 (dk_at dksX3_data_2 19 rfl rfl)
theorem dX3_data_67 : decode cX3_data 67 = .ok (.iload 4, 2) := dk_21 4 (dk_at dksX3_data_2 20 rfl rfl)
theorem dX3_data_69 : decode cX3_data 69 = .ok (.aload_n 1, 1) := dk_43 (dk_at dksX3_data_2 22 rfl rfl)
theorem dX3_data_70 : decode cX3_data 70 = .ok (.iload 4, 2) := dk_21 4 (dk_at dksX3_data_3 0 rfl rfl)
theorem dX3_data_72 : decode cX3_data 72 = .ok (.daload, 1) := dk_49 (dk_at dksX3_data_3 2 rfl rfl)
theorem dX3_data_73 : decode cX3_data 73 = .ok (.dastore, 1) := dk_82 (dk_at dksX3_data_3 3 rfl rfl)
theorem dX3_data_74 : decode cX3_data 74 = .ok (.iinc 4 1, 3) := dk_132 4 1 (dk_at dksX3_data_3 4 rfl rfl)
theorem dX3_data_77 : decode cX3_data 77 = .ok (.goto (-17), 3) := dk_167 255 239 (dk_at dksX3_data_3 7 rfl rfl)
theorem dX3_data_80 : decode cX3_data 80 = .ok (.new 299, 3) := dk_187 1 43 (dk_at dksX3_data_3 10 rfl rfl)
theorem dX3_data_83 : decode cX3_data 83 = .ok (.dup, 1) := dk_89 (dk_at dksX3_data_3 13 rfl rfl)
theorem dX3_data_84 : decode cX3_data 84 = .ok (.aload_n 3, 1) := dk_45 (dk_at dksX3_data_3 14 rfl rfl)
theorem dX3_data_85 : decode cX3_data 85 = .ok (.invokespecial 301, 3) := dk_183 1 45 (dk_at dksX3_data_3 15 rfl rfl)
theorem dX3_data_88 : decode cX3_data 88 = .ok (.areturn, 1) := dk_176 (dk_at dksX3_data_3 18 rfl rfl)
abbrev cX3_dim : ByteArray := prog_22_method_34_code
def yX3_dim : MethodName := ⟨RX3, "dim", "()LBasicMachine$Statement;"⟩
def dkwX3_dim_1 : List UInt8 := [182, 1, 48, 62, 42, 16, 41, 182, 0, 78, 187, 1, 51, 89, 27, 28, 29, 183, 1, 53, 176]
abbrev dktX3_dim_1 : List UInt8 := dkwX3_dim_1 ++ []
def dkwX3_dim_0 : List UInt8 := [42, 182, 0, 104, 60, 42, 16, 40, 182, 0, 78, 42, 182, 1, 48, 61, 42, 16, 44, 182, 0, 78, 42]
abbrev dktX3_dim_0 : List UInt8 := dkwX3_dim_0 ++ dktX3_dim_1
theorem dksX3_dim_0 : cX3_dim.data.toList.drop 0 = dktX3_dim_0 := by decide +kernel
theorem dksX3_dim_1 : cX3_dim.data.toList.drop 23 = dktX3_dim_1 := dk_seg dksX3_dim_0 23 rfl rfl
theorem dX3_dim_0 : decode cX3_dim 0 = .ok (.aload_n 0, 1) := dk_42 (dk_at dksX3_dim_0 0 rfl rfl)
theorem dX3_dim_1 : decode cX3_dim 1 = .ok (.invokevirtual 104, 3) := dk_182 0 104 (dk_at dksX3_dim_0 1 rfl rfl)
theorem dX3_dim_4 : decode cX3_dim 4 = .ok (.istore_n 1, 1) := dk_60 (dk_at dksX3_dim_0 4 rfl rfl)
theorem dX3_dim_5 : decode cX3_dim 5 = .ok (.aload_n 0, 1) := dk_42 (dk_at dksX3_dim_0 5 rfl rfl)
theorem dX3_dim_6 : decode cX3_dim 6 = .ok (.bipush 40, 2) := dk_16 40 (dk_at dksX3_dim_0 6 rfl rfl)
theorem dX3_dim_8 : decode cX3_dim 8 = .ok (.invokevirtual 78, 3) := dk_182 0 78 (dk_at dksX3_dim_0 8 rfl rfl)
theorem dX3_dim_11 : decode cX3_dim 11 = .ok (.aload_n 0, 1) := dk_42 (dk_at dksX3_dim_0 11 rfl rfl)
theorem dX3_dim_12 : decode cX3_dim 12 = .ok (.invokevirtual 304, 3) := dk_182 1 48 (dk_at dksX3_dim_0 12 rfl rfl)
theorem dX3_dim_15 : decode cX3_dim 15 = .ok (.istore_n 2, 1) := dk_61 (dk_at dksX3_dim_0 15 rfl rfl)
theorem dX3_dim_16 : decode cX3_dim 16 = .ok (.aload_n 0, 1) := dk_42 (dk_at dksX3_dim_0 16 rfl rfl)
theorem dX3_dim_17 : decode cX3_dim 17 = .ok (.bipush 44, 2) := dk_16 44 (dk_at dksX3_dim_0 17 rfl rfl)
theorem dX3_dim_19 : decode cX3_dim 19 = .ok (.invokevirtual 78, 3) := dk_182 0 78 (dk_at dksX3_dim_0 19 rfl rfl)
theorem dX3_dim_22 : decode cX3_dim 22 = .ok (.aload_n 0, 1) := dk_42 (dk_at dksX3_dim_0 22 rfl rfl)
theorem dX3_dim_23 : decode cX3_dim 23 = .ok (.invokevirtual 304, 3) := dk_182 1 48 (dk_at dksX3_dim_1 0 rfl rfl)
theorem dX3_dim_26 : decode cX3_dim 26 = .ok (.istore_n 3, 1) := dk_62 (dk_at dksX3_dim_1 3 rfl rfl)
theorem dX3_dim_27 : decode cX3_dim 27 = .ok (.aload_n 0, 1) := dk_42 (dk_at dksX3_dim_1 4 rfl rfl)
theorem dX3_dim_28 : decode cX3_dim 28 = .ok (.bipush 41, 2) := dk_16 41 (dk_at dksX3_dim_1 5 rfl rfl)
theorem dX3_dim_30 : decode cX3_dim 30 = .ok (.invokevirtual 78, 3) := dk_182 0 78 (dk_at dksX3_dim_1 7 rfl rfl)
theorem dX3_dim_33 : decode cX3_dim 33 = .ok (.new 307, 3) := dk_187 1 51 (dk_at dksX3_dim_1 10 rfl rfl)
theorem dX3_dim_36 : decode cX3_dim 36 = .ok (.dup, 1) := dk_89 (dk_at dksX3_dim_1 13 rfl rfl)
theorem dX3_dim_37 : decode cX3_dim 37 = .ok (.iload_n 1, 1) := dk_27 (dk_at dksX3_dim_1 14 rfl rfl)
theorem dX3_dim_38 : decode cX3_dim 38 = .ok (.iload_n 2, 1) := dk_28 (dk_at dksX3_dim_1 15 rfl rfl)
theorem dX3_dim_39 : decode cX3_dim 39 = .ok (.iload_n 3, 1) := dk_29 (dk_at dksX3_dim_1 16 rfl rfl)
theorem dX3_dim_40 : decode cX3_dim 40 = .ok (.invokespecial 309, 3) := dk_183 1 53 (dk_at dksX3_dim_1 17 rfl rfl)
theorem dX3_dim_43 : decode cX3_dim 43 = .ok (.areturn, 1) := dk_176 (dk_at dksX3_dim_1 20 rfl rfl)
abbrev cX3_size : ByteArray := prog_22_method_33_code
def yX3_size : MethodName := ⟨RX3, "size", "()I"⟩
def dkwX3_size_2 : List UInt8 := [16, 48, 100, 172]
abbrev dktX3_size_2 : List UInt8 := dkwX3_size_2 ++ []
def dkwX3_size_1 : List UInt8 := [182, 0, 67, 42, 89, 180, 0, 57, 4, 96, 181, 0, 57, 42, 180, 0, 49, 42, 180, 0, 57, 4, 100, 52]
abbrev dktX3_size_1 : List UInt8 := dkwX3_size_1 ++ dktX3_size_2
def dkwX3_size_0 : List UInt8 := [42, 42, 182, 0, 63, 16, 49, 161, 0, 16, 42, 182, 0, 63, 16, 54, 163, 0, 7, 4, 167, 0, 4, 3]
abbrev dktX3_size_0 : List UInt8 := dkwX3_size_0 ++ dktX3_size_1
theorem dksX3_size_0 : cX3_size.data.toList.drop 0 = dktX3_size_0 := by decide +kernel
theorem dksX3_size_1 : cX3_size.data.toList.drop 24 = dktX3_size_1 := dk_seg dksX3_size_0 24 rfl rfl
theorem dksX3_size_2 : cX3_size.data.toList.drop 48 = dktX3_size_2 := dk_seg dksX3_size_1 24 rfl rfl
theorem dX3_size_0 : decode cX3_size 0 = .ok (.aload_n 0, 1) := dk_42 (dk_at dksX3_size_0 0 rfl rfl)
theorem dX3_size_1 : decode cX3_size 1 = .ok (.aload_n 0, 1) := dk_42 (dk_at dksX3_size_0 1 rfl rfl)
theorem dX3_size_2 : decode cX3_size 2 = .ok (.invokevirtual 63, 3) := dk_182 0 63 (dk_at dksX3_size_0 2 rfl rfl)
theorem dX3_size_5 : decode cX3_size 5 = .ok (.bipush 49, 2) := dk_16 49 (dk_at dksX3_size_0 5 rfl rfl)
theorem dX3_size_7 : decode cX3_size 7 = .ok (.if_icmp .lt 16, 3) := dk_161 0 16 (dk_at dksX3_size_0 7 rfl rfl)
theorem dX3_size_10 : decode cX3_size 10 = .ok (.aload_n 0, 1) := dk_42 (dk_at dksX3_size_0 10 rfl rfl)
theorem dX3_size_11 : decode cX3_size 11 = .ok (.invokevirtual 63, 3) := dk_182 0 63 (dk_at dksX3_size_0 11 rfl rfl)
theorem dX3_size_14 : decode cX3_size 14 = .ok (.bipush 54, 2) := dk_16 54 (dk_at dksX3_size_0 14 rfl rfl)
theorem dX3_size_16 : decode cX3_size 16 = .ok (.if_icmp .gt 7, 3) := dk_163 0 7 (dk_at dksX3_size_0 16 rfl rfl)
theorem dX3_size_19 : decode cX3_size 19 = .ok (.iconst 1, 1) := dk_4 (dk_at dksX3_size_0 19 rfl rfl)
theorem dX3_size_20 : decode cX3_size 20 = .ok (.goto 4, 3) := dk_167 0 4 (dk_at dksX3_size_0 20 rfl rfl)
theorem dX3_size_23 : decode cX3_size 23 = .ok (.iconst 0, 1) := dk_3 (dk_at dksX3_size_0 23 rfl rfl)
theorem dX3_size_24 : decode cX3_size 24 = .ok (.invokevirtual 67, 3) := dk_182 0 67 (dk_at dksX3_size_1 0 rfl rfl)
theorem dX3_size_27 : decode cX3_size 27 = .ok (.aload_n 0, 1) := dk_42 (dk_at dksX3_size_1 3 rfl rfl)
theorem dX3_size_28 : decode cX3_size 28 = .ok (.dup, 1) := dk_89 (dk_at dksX3_size_1 4 rfl rfl)
theorem dX3_size_29 : decode cX3_size 29 = .ok (.getfield 57, 3) := dk_180 0 57 (dk_at dksX3_size_1 5 rfl rfl)
theorem dX3_size_32 : decode cX3_size 32 = .ok (.iconst 1, 1) := dk_4 (dk_at dksX3_size_1 8 rfl rfl)
theorem dX3_size_33 : decode cX3_size 33 = .ok (.iadd, 1) := dk_96 (dk_at dksX3_size_1 9 rfl rfl)
theorem dX3_size_34 : decode cX3_size 34 = .ok (.putfield 57, 3) := dk_181 0 57 (dk_at dksX3_size_1 10 rfl rfl)
theorem dX3_size_37 : decode cX3_size 37 = .ok (.aload_n 0, 1) := dk_42 (dk_at dksX3_size_1 13 rfl rfl)
theorem dX3_size_38 : decode cX3_size 38 = .ok (.getfield 49, 3) := dk_180 0 49 (dk_at dksX3_size_1 14 rfl rfl)
theorem dX3_size_41 : decode cX3_size 41 = .ok (.aload_n 0, 1) := dk_42 (dk_at dksX3_size_1 17 rfl rfl)
theorem dX3_size_42 : decode cX3_size 42 = .ok (.getfield 57, 3) := dk_180 0 57 (dk_at dksX3_size_1 18 rfl rfl)
theorem dX3_size_45 : decode cX3_size 45 = .ok (.iconst 1, 1) := dk_4 (dk_at dksX3_size_1 21 rfl rfl)
theorem dX3_size_46 : decode cX3_size 46 = .ok (.isub, 1) := dk_100 (dk_at dksX3_size_1 22 rfl rfl)
theorem dX3_size_47 : decode cX3_size 47 = .ok (.caload, 1) := dk_52 (dk_at dksX3_size_1 23 rfl rfl)
theorem dX3_size_48 : decode cX3_size 48 = .ok (.bipush 48, 2) := dk_16 48 (dk_at dksX3_size_2 0 rfl rfl)
theorem dX3_size_50 : decode cX3_size 50 = .ok (.isub, 1) := dk_100 (dk_at dksX3_size_2 2 rfl rfl)
theorem dX3_size_51 : decode cX3_size 51 = .ok (.ireturn, 1) := dk_172 (dk_at dksX3_size_2 3 rfl rfl)
abbrev cX3_define : ByteArray := prog_22_method_35_code
def yX3_define : MethodName := ⟨RX3, "define", "()LBasicMachine$Statement;"⟩
def dkwX3_define_2 : List UInt8 := [176]
abbrev dktX3_define_2 : List UInt8 := dkwX3_define_2 ++ []
def dkwX3_define_1 : List UInt8 := [16, 41, 182, 0, 78, 42, 16, 61, 182, 0, 78, 187, 1, 56, 89, 27, 28, 42, 182, 0, 110, 183, 1, 58]
abbrev dktX3_define_1 : List UInt8 := dkwX3_define_1 ++ dktX3_define_2
def dkwX3_define_0 : List UInt8 := [42, 18, 185, 182, 0, 174, 42, 182, 0, 187, 60, 42, 16, 40, 182, 0, 78, 42, 182, 0, 166, 61, 42]
abbrev dktX3_define_0 : List UInt8 := dkwX3_define_0 ++ dktX3_define_1
theorem dksX3_define_0 : cX3_define.data.toList.drop 0 = dktX3_define_0 := by decide +kernel
theorem dksX3_define_1 : cX3_define.data.toList.drop 23 = dktX3_define_1 := dk_seg dksX3_define_0 23 rfl rfl
theorem dksX3_define_2 : cX3_define.data.toList.drop 47 = dktX3_define_2 := dk_seg dksX3_define_1 24 rfl rfl
theorem dX3_define_0 : decode cX3_define 0 = .ok (.aload_n 0, 1) := dk_42 (dk_at dksX3_define_0 0 rfl rfl)
theorem dX3_define_1 : decode cX3_define 1 = .ok (.ldc 185, 2) := dk_18 185 (dk_at dksX3_define_0 1 rfl rfl)
theorem dX3_define_3 : decode cX3_define 3 = .ok (.invokevirtual 174, 3) := dk_182 0 174 (dk_at dksX3_define_0 3 rfl rfl)
theorem dX3_define_6 : decode cX3_define 6 = .ok (.aload_n 0, 1) := dk_42 (dk_at dksX3_define_0 6 rfl rfl)
theorem dX3_define_7 : decode cX3_define 7 = .ok (.invokevirtual 187, 3) := dk_182 0 187 (dk_at dksX3_define_0 7 rfl rfl)
theorem dX3_define_10 : decode cX3_define 10 = .ok (.istore_n 1, 1) := dk_60 (dk_at dksX3_define_0 10 rfl rfl)
theorem dX3_define_11 : decode cX3_define 11 = .ok (.aload_n 0, 1) := dk_42 (dk_at dksX3_define_0 11 rfl rfl)
theorem dX3_define_12 : decode cX3_define 12 = .ok (.bipush 40, 2) := dk_16 40 (dk_at dksX3_define_0 12 rfl rfl)
theorem dX3_define_14 : decode cX3_define 14 = .ok (.invokevirtual 78, 3) := dk_182 0 78 (dk_at dksX3_define_0 14 rfl rfl)
theorem dX3_define_17 : decode cX3_define 17 = .ok (.aload_n 0, 1) := dk_42 (dk_at dksX3_define_0 17 rfl rfl)
theorem dX3_define_18 : decode cX3_define 18 = .ok (.invokevirtual 166, 3) := dk_182 0 166 (dk_at dksX3_define_0 18 rfl rfl)
theorem dX3_define_21 : decode cX3_define 21 = .ok (.istore_n 2, 1) := dk_61 (dk_at dksX3_define_0 21 rfl rfl)
theorem dX3_define_22 : decode cX3_define 22 = .ok (.aload_n 0, 1) := dk_42 (dk_at dksX3_define_0 22 rfl rfl)
theorem dX3_define_23 : decode cX3_define 23 = .ok (.bipush 41, 2) := dk_16 41 (dk_at dksX3_define_1 0 rfl rfl)
theorem dX3_define_25 : decode cX3_define 25 = .ok (.invokevirtual 78, 3) := dk_182 0 78 (dk_at dksX3_define_1 2 rfl rfl)
theorem dX3_define_28 : decode cX3_define 28 = .ok (.aload_n 0, 1) := dk_42 (dk_at dksX3_define_1 5 rfl rfl)
theorem dX3_define_29 : decode cX3_define 29 = .ok (.bipush 61, 2) := dk_16 61 (dk_at dksX3_define_1 6 rfl rfl)
theorem dX3_define_31 : decode cX3_define 31 = .ok (.invokevirtual 78, 3) := dk_182 0 78 (dk_at dksX3_define_1 8 rfl rfl)
theorem dX3_define_34 : decode cX3_define 34 = .ok (.new 312, 3) := dk_187 1 56 (dk_at dksX3_define_1 11 rfl rfl)
theorem dX3_define_37 : decode cX3_define 37 = .ok (.dup, 1) := dk_89 (dk_at dksX3_define_1 14 rfl rfl)
theorem dX3_define_38 : decode cX3_define 38 = .ok (.iload_n 1, 1) := dk_27 (dk_at dksX3_define_1 15 rfl rfl)
theorem dX3_define_39 : decode cX3_define 39 = .ok (.iload_n 2, 1) := dk_28 (dk_at dksX3_define_1 16 rfl rfl)
theorem dX3_define_40 : decode cX3_define 40 = .ok (.aload_n 0, 1) := dk_42 (dk_at dksX3_define_1 17 rfl rfl)
theorem dX3_define_41 : decode cX3_define 41 = .ok (.invokevirtual 110, 3) := dk_182 0 110 (dk_at dksX3_define_1 18 rfl rfl)
theorem dX3_define_44 : decode cX3_define 44 = .ok (.invokespecial 314, 3) := dk_183 1 58 (dk_at dksX3_define_1 21 rfl rfl)
theorem dX3_define_47 : decode cX3_define 47 = .ok (.areturn, 1) := dk_176 (dk_at dksX3_define_2 0 rfl rfl)
abbrev cX3_mat : ByteArray := prog_22_method_36_code
def yX3_mat : MethodName := ⟨RX3, "mat", "()LBasicMachine$Statement;"⟩
def dkwX3_mat_9 : List UInt8 := [29, 42, 182, 0, 104, 1, 183, 1, 69, 176]
abbrev dktX3_mat_9 : List UInt8 := dkwX3_mat_9 ++ []
def dkwX3_mat_8 : List UInt8 := [29, 2, 1, 183, 1, 69, 176, 42, 89, 180, 0, 57, 4, 96, 181, 0, 57, 187, 1, 67, 89, 27, 21, 4]
abbrev dktX3_mat_8 : List UInt8 := dkwX3_mat_8 ++ dktX3_mat_9
def dkwX3_mat_7 : List UInt8 := [159, 0, 31, 21, 4, 16, 45, 159, 0, 24, 21, 4, 16, 42, 159, 0, 17, 187, 1, 67, 89, 27, 16, 61]
abbrev dktX3_mat_7 : List UInt8 := dkwX3_mat_7 ++ dktX3_mat_8
def dkwX3_mat_6 : List UInt8 := [182, 0, 104, 2, 45, 183, 1, 69, 176, 42, 182, 0, 104, 62, 42, 182, 0, 63, 54, 4, 21, 4, 16, 43]
abbrev dktX3_mat_6 : List UInt8 := dkwX3_mat_6 ++ dktX3_mat_7
def dkwX3_mat_5 : List UInt8 := [160, 0, 31, 42, 182, 0, 154, 78, 42, 16, 42, 182, 0, 78, 187, 1, 67, 89, 27, 16, 83, 42]
abbrev dktX3_mat_5 : List UInt8 := dkwX3_mat_5 ++ dktX3_mat_6
def dkwX3_mat_4 : List UInt8 := [62, 42, 16, 41, 182, 0, 78, 187, 1, 67, 89, 27, 16, 84, 29, 2, 1, 183, 1, 69, 176, 28, 16, 40]
abbrev dktX3_mat_4 : List UInt8 := dkwX3_mat_4 ++ dktX3_mat_5
def dkwX3_mat_3 : List UInt8 := [27, 2, 1, 183, 1, 69, 176, 28, 16, 84, 160, 0, 35, 42, 19, 1, 72, 182, 0, 174, 42, 182, 0, 104]
abbrev dktX3_mat_3 : List UInt8 := dkwX3_mat_3 ++ dktX3_mat_4
def dkwX3_mat_2 : List UInt8 := [28, 16, 67, 160, 0, 9, 19, 1, 63, 167, 0, 6, 19, 1, 65, 182, 0, 174, 187, 1, 67, 89, 27, 28]
abbrev dktX3_mat_2 : List UInt8 := dkwX3_mat_2 ++ dktX3_mat_3
def dkwX3_mat_1 : List UInt8 := [16, 67, 159, 0, 9, 28, 16, 73, 160, 0, 47, 42, 28, 16, 90, 160, 0, 9, 19, 1, 61, 167, 0, 18]
abbrev dktX3_mat_1 : List UInt8 := dkwX3_mat_1 ++ dktX3_mat_2
def dkwX3_mat_0 : List UInt8 := [42, 182, 0, 104, 60, 42, 16, 61, 182, 0, 78, 42, 182, 0, 63, 61, 28, 16, 90, 159, 0, 15, 28]
abbrev dktX3_mat_0 : List UInt8 := dkwX3_mat_0 ++ dktX3_mat_1
theorem dksX3_mat_0 : cX3_mat.data.toList.drop 0 = dktX3_mat_0 := by decide +kernel
theorem dksX3_mat_1 : cX3_mat.data.toList.drop 23 = dktX3_mat_1 := dk_seg dksX3_mat_0 23 rfl rfl
theorem dksX3_mat_2 : cX3_mat.data.toList.drop 47 = dktX3_mat_2 := dk_seg dksX3_mat_1 24 rfl rfl
theorem dksX3_mat_3 : cX3_mat.data.toList.drop 71 = dktX3_mat_3 := dk_seg dksX3_mat_2 24 rfl rfl
theorem dksX3_mat_4 : cX3_mat.data.toList.drop 95 = dktX3_mat_4 := dk_seg dksX3_mat_3 24 rfl rfl
theorem dksX3_mat_5 : cX3_mat.data.toList.drop 119 = dktX3_mat_5 := dk_seg dksX3_mat_4 24 rfl rfl
theorem dksX3_mat_6 : cX3_mat.data.toList.drop 141 = dktX3_mat_6 := dk_seg dksX3_mat_5 22 rfl rfl
theorem dksX3_mat_7 : cX3_mat.data.toList.drop 165 = dktX3_mat_7 := dk_seg dksX3_mat_6 24 rfl rfl
theorem dksX3_mat_8 : cX3_mat.data.toList.drop 189 = dktX3_mat_8 := dk_seg dksX3_mat_7 24 rfl rfl
theorem dksX3_mat_9 : cX3_mat.data.toList.drop 213 = dktX3_mat_9 := dk_seg dksX3_mat_8 24 rfl rfl
theorem dX3_mat_0 : decode cX3_mat 0 = .ok (.aload_n 0, 1) := dk_42 (dk_at dksX3_mat_0 0 rfl rfl)
theorem dX3_mat_1 : decode cX3_mat 1 = .ok (.invokevirtual 104, 3) := dk_182 0 104 (dk_at dksX3_mat_0 1 rfl rfl)
theorem dX3_mat_4 : decode cX3_mat 4 = .ok (.istore_n 1, 1) := dk_60 (dk_at dksX3_mat_0 4 rfl rfl)
theorem dX3_mat_5 : decode cX3_mat 5 = .ok (.aload_n 0, 1) := dk_42 (dk_at dksX3_mat_0 5 rfl rfl)
theorem dX3_mat_6 : decode cX3_mat 6 = .ok (.bipush 61, 2) := dk_16 61 (dk_at dksX3_mat_0 6 rfl rfl)
theorem dX3_mat_8 : decode cX3_mat 8 = .ok (.invokevirtual 78, 3) := dk_182 0 78 (dk_at dksX3_mat_0 8 rfl rfl)
theorem dX3_mat_11 : decode cX3_mat 11 = .ok (.aload_n 0, 1) := dk_42 (dk_at dksX3_mat_0 11 rfl rfl)
theorem dX3_mat_12 : decode cX3_mat 12 = .ok (.invokevirtual 63, 3) := dk_182 0 63 (dk_at dksX3_mat_0 12 rfl rfl)
theorem dX3_mat_15 : decode cX3_mat 15 = .ok (.istore_n 2, 1) := dk_61 (dk_at dksX3_mat_0 15 rfl rfl)
theorem dX3_mat_16 : decode cX3_mat 16 = .ok (.iload_n 2, 1) := dk_28 (dk_at dksX3_mat_0 16 rfl rfl)
theorem dX3_mat_17 : decode cX3_mat 17 = .ok (.bipush 90, 2) := dk_16 90 (dk_at dksX3_mat_0 17 rfl rfl)
theorem dX3_mat_19 : decode cX3_mat 19 = .ok (.if_icmp .eq 15, 3) := dk_159 0 15 (dk_at dksX3_mat_0 19 rfl rfl)
theorem dX3_mat_22 : decode cX3_mat 22 = .ok (.iload_n 2, 1) := dk_28 (dk_at dksX3_mat_0 22 rfl rfl)
theorem dX3_mat_23 : decode cX3_mat 23 = .ok (.bipush 67, 2) := dk_16 67 (dk_at dksX3_mat_1 0 rfl rfl)
theorem dX3_mat_25 : decode cX3_mat 25 = .ok (.if_icmp .eq 9, 3) := dk_159 0 9 (dk_at dksX3_mat_1 2 rfl rfl)
theorem dX3_mat_28 : decode cX3_mat 28 = .ok (.iload_n 2, 1) := dk_28 (dk_at dksX3_mat_1 5 rfl rfl)
theorem dX3_mat_29 : decode cX3_mat 29 = .ok (.bipush 73, 2) := dk_16 73 (dk_at dksX3_mat_1 6 rfl rfl)
theorem dX3_mat_31 : decode cX3_mat 31 = .ok (.if_icmp .ne 47, 3) := dk_160 0 47 (dk_at dksX3_mat_1 8 rfl rfl)
theorem dX3_mat_34 : decode cX3_mat 34 = .ok (.aload_n 0, 1) := dk_42 (dk_at dksX3_mat_1 11 rfl rfl)
theorem dX3_mat_35 : decode cX3_mat 35 = .ok (.iload_n 2, 1) := dk_28 (dk_at dksX3_mat_1 12 rfl rfl)
theorem dX3_mat_36 : decode cX3_mat 36 = .ok (.bipush 90, 2) := dk_16 90 (dk_at dksX3_mat_1 13 rfl rfl)
theorem dX3_mat_38 : decode cX3_mat 38 = .ok (.if_icmp .ne 9, 3) := dk_160 0 9 (dk_at dksX3_mat_1 15 rfl rfl)
theorem dX3_mat_41 : decode cX3_mat 41 = .ok (.ldc_w 317, 3) := dk_19 1 61 (dk_at dksX3_mat_1 18 rfl rfl)
theorem dX3_mat_44 : decode cX3_mat 44 = .ok (.goto 18, 3) := dk_167 0 18 (dk_at dksX3_mat_1 21 rfl rfl)
theorem dX3_mat_47 : decode cX3_mat 47 = .ok (.iload_n 2, 1) := dk_28 (dk_at dksX3_mat_2 0 rfl rfl)
theorem dX3_mat_48 : decode cX3_mat 48 = .ok (.bipush 67, 2) := dk_16 67 (dk_at dksX3_mat_2 1 rfl rfl)
theorem dX3_mat_50 : decode cX3_mat 50 = .ok (.if_icmp .ne 9, 3) := dk_160 0 9 (dk_at dksX3_mat_2 3 rfl rfl)
theorem dX3_mat_53 : decode cX3_mat 53 = .ok (.ldc_w 319, 3) := dk_19 1 63 (dk_at dksX3_mat_2 6 rfl rfl)
theorem dX3_mat_56 : decode cX3_mat 56 = .ok (.goto 6, 3) := dk_167 0 6 (dk_at dksX3_mat_2 9 rfl rfl)
theorem dX3_mat_59 : decode cX3_mat 59 = .ok (.ldc_w 321, 3) := dk_19 1 65 (dk_at dksX3_mat_2 12 rfl rfl)
theorem dX3_mat_62 : decode cX3_mat 62 = .ok (.invokevirtual 174, 3) := dk_182 0 174 (dk_at dksX3_mat_2 15 rfl rfl)
theorem dX3_mat_65 : decode cX3_mat 65 = .ok (.new 323, 3) := dk_187 1 67 (dk_at dksX3_mat_2 18 rfl rfl)
theorem dX3_mat_68 : decode cX3_mat 68 = .ok (.dup, 1) := dk_89 (dk_at dksX3_mat_2 21 rfl rfl)
theorem dX3_mat_69 : decode cX3_mat 69 = .ok (.iload_n 1, 1) := dk_27 (dk_at dksX3_mat_2 22 rfl rfl)
theorem dX3_mat_70 : decode cX3_mat 70 = .ok (.iload_n 2, 1) := dk_28 (dk_at dksX3_mat_2 23 rfl rfl)
theorem dX3_mat_71 : decode cX3_mat 71 = .ok (.iload_n 1, 1) := dk_27 (dk_at dksX3_mat_3 0 rfl rfl)
theorem dX3_mat_72 : decode cX3_mat 72 = .ok (.iconst (-1), 1) := dk_2 (dk_at dksX3_mat_3 1 rfl rfl)
theorem dX3_mat_73 : decode cX3_mat 73 = .ok (.aconst_null, 1) := dk_1 (dk_at dksX3_mat_3 2 rfl rfl)
theorem dX3_mat_74 : decode cX3_mat 74 = .ok (.invokespecial 325, 3) := dk_183 1 69 (dk_at dksX3_mat_3 3 rfl rfl)
theorem dX3_mat_77 : decode cX3_mat 77 = .ok (.areturn, 1) := dk_176 (dk_at dksX3_mat_3 6 rfl rfl)
theorem dX3_mat_78 : decode cX3_mat 78 = .ok (.iload_n 2, 1) := dk_28 (dk_at dksX3_mat_3 7 rfl rfl)
theorem dX3_mat_79 : decode cX3_mat 79 = .ok (.bipush 84, 2) := dk_16 84 (dk_at dksX3_mat_3 8 rfl rfl)
theorem dX3_mat_81 : decode cX3_mat 81 = .ok (.if_icmp .ne 35, 3) := dk_160 0 35 (dk_at dksX3_mat_3 10 rfl rfl)
theorem dX3_mat_84 : decode cX3_mat 84 = .ok (.aload_n 0, 1) := dk_42 (dk_at dksX3_mat_3 13 rfl rfl)
theorem dX3_mat_85 : decode cX3_mat 85 = .ok (.ldc_w 328, 3) := dk_19 1 72 (dk_at dksX3_mat_3 14 rfl rfl)
theorem dX3_mat_88 : decode cX3_mat 88 = .ok (.invokevirtual 174, 3) := dk_182 0 174 (dk_at dksX3_mat_3 17 rfl rfl)
theorem dX3_mat_91 : decode cX3_mat 91 = .ok (.aload_n 0, 1) := dk_42 (dk_at dksX3_mat_3 20 rfl rfl)
theorem dX3_mat_92 : decode cX3_mat 92 = .ok (.invokevirtual 104, 3) := dk_182 0 104 (dk_at dksX3_mat_3 21 rfl rfl)
theorem dX3_mat_95 : decode cX3_mat 95 = .ok (.istore_n 3, 1) := dk_62 (dk_at dksX3_mat_4 0 rfl rfl)
theorem dX3_mat_96 : decode cX3_mat 96 = .ok (.aload_n 0, 1) := dk_42 (dk_at dksX3_mat_4 1 rfl rfl)
theorem dX3_mat_97 : decode cX3_mat 97 = .ok (.bipush 41, 2) := dk_16 41 (dk_at dksX3_mat_4 2 rfl rfl)
theorem dX3_mat_99 : decode cX3_mat 99 = .ok (.invokevirtual 78, 3) := dk_182 0 78 (dk_at dksX3_mat_4 4 rfl rfl)
theorem dX3_mat_102 : decode cX3_mat 102 = .ok (.new 323, 3) := dk_187 1 67 (dk_at dksX3_mat_4 7 rfl rfl)
theorem dX3_mat_105 : decode cX3_mat 105 = .ok (.dup, 1) := dk_89 (dk_at dksX3_mat_4 10 rfl rfl)
theorem dX3_mat_106 : decode cX3_mat 106 = .ok (.iload_n 1, 1) := dk_27 (dk_at dksX3_mat_4 11 rfl rfl)
theorem dX3_mat_107 : decode cX3_mat 107 = .ok (.bipush 84, 2) := dk_16 84 (dk_at dksX3_mat_4 12 rfl rfl)
theorem dX3_mat_109 : decode cX3_mat 109 = .ok (.iload_n 3, 1) := dk_29 (dk_at dksX3_mat_4 14 rfl rfl)
theorem dX3_mat_110 : decode cX3_mat 110 = .ok (.iconst (-1), 1) := dk_2 (dk_at dksX3_mat_4 15 rfl rfl)
theorem dX3_mat_111 : decode cX3_mat 111 = .ok (.aconst_null, 1) := dk_1 (dk_at dksX3_mat_4 16 rfl rfl)
theorem dX3_mat_112 : decode cX3_mat 112 = .ok (.invokespecial 325, 3) := dk_183 1 69 (dk_at dksX3_mat_4 17 rfl rfl)
theorem dX3_mat_115 : decode cX3_mat 115 = .ok (.areturn, 1) := dk_176 (dk_at dksX3_mat_4 20 rfl rfl)
theorem dX3_mat_116 : decode cX3_mat 116 = .ok (.iload_n 2, 1) := dk_28 (dk_at dksX3_mat_4 21 rfl rfl)
theorem dX3_mat_117 : decode cX3_mat 117 = .ok (.bipush 40, 2) := dk_16 40 (dk_at dksX3_mat_4 22 rfl rfl)
theorem dX3_mat_119 : decode cX3_mat 119 = .ok (.if_icmp .ne 31, 3) := dk_160 0 31 (dk_at dksX3_mat_5 0 rfl rfl)
theorem dX3_mat_122 : decode cX3_mat 122 = .ok (.aload_n 0, 1) := dk_42 (dk_at dksX3_mat_5 3 rfl rfl)
theorem dX3_mat_123 : decode cX3_mat 123 = .ok (.invokevirtual 154, 3) := dk_182 0 154 (dk_at dksX3_mat_5 4 rfl rfl)
theorem dX3_mat_126 : decode cX3_mat 126 = .ok (.astore_n 3, 1) := dk_78 (dk_at dksX3_mat_5 7 rfl rfl)
theorem dX3_mat_127 : decode cX3_mat 127 = .ok (.aload_n 0, 1) := dk_42 (dk_at dksX3_mat_5 8 rfl rfl)
theorem dX3_mat_128 : decode cX3_mat 128 = .ok (.bipush 42, 2) := dk_16 42 (dk_at dksX3_mat_5 9 rfl rfl)
theorem dX3_mat_130 : decode cX3_mat 130 = .ok (.invokevirtual 78, 3) := dk_182 0 78 (dk_at dksX3_mat_5 11 rfl rfl)
theorem dX3_mat_133 : decode cX3_mat 133 = .ok (.new 323, 3) := dk_187 1 67 (dk_at dksX3_mat_5 14 rfl rfl)
theorem dX3_mat_136 : decode cX3_mat 136 = .ok (.dup, 1) := dk_89 (dk_at dksX3_mat_5 17 rfl rfl)
theorem dX3_mat_137 : decode cX3_mat 137 = .ok (.iload_n 1, 1) := dk_27 (dk_at dksX3_mat_5 18 rfl rfl)
theorem dX3_mat_138 : decode cX3_mat 138 = .ok (.bipush 83, 2) := dk_16 83 (dk_at dksX3_mat_5 19 rfl rfl)
theorem dX3_mat_140 : decode cX3_mat 140 = .ok (.aload_n 0, 1) := dk_42 (dk_at dksX3_mat_5 21 rfl rfl)
theorem dX3_mat_141 : decode cX3_mat 141 = .ok (.invokevirtual 104, 3) := dk_182 0 104 (dk_at dksX3_mat_6 0 rfl rfl)
theorem dX3_mat_144 : decode cX3_mat 144 = .ok (.iconst (-1), 1) := dk_2 (dk_at dksX3_mat_6 3 rfl rfl)
theorem dX3_mat_145 : decode cX3_mat 145 = .ok (.aload_n 3, 1) := dk_45 (dk_at dksX3_mat_6 4 rfl rfl)
theorem dX3_mat_146 : decode cX3_mat 146 = .ok (.invokespecial 325, 3) := dk_183 1 69 (dk_at dksX3_mat_6 5 rfl rfl)
theorem dX3_mat_149 : decode cX3_mat 149 = .ok (.areturn, 1) := dk_176 (dk_at dksX3_mat_6 8 rfl rfl)
theorem dX3_mat_150 : decode cX3_mat 150 = .ok (.aload_n 0, 1) := dk_42 (dk_at dksX3_mat_6 9 rfl rfl)
theorem dX3_mat_151 : decode cX3_mat 151 = .ok (.invokevirtual 104, 3) := dk_182 0 104 (dk_at dksX3_mat_6 10 rfl rfl)
theorem dX3_mat_154 : decode cX3_mat 154 = .ok (.istore_n 3, 1) := dk_62 (dk_at dksX3_mat_6 13 rfl rfl)
theorem dX3_mat_155 : decode cX3_mat 155 = .ok (.aload_n 0, 1) := dk_42 (dk_at dksX3_mat_6 14 rfl rfl)
theorem dX3_mat_156 : decode cX3_mat 156 = .ok (.invokevirtual 63, 3) := dk_182 0 63 (dk_at dksX3_mat_6 15 rfl rfl)
theorem dX3_mat_159 : decode cX3_mat 159 = .ok (.istore 4, 2) := dk_54 4 (dk_at dksX3_mat_6 18 rfl rfl)
theorem dX3_mat_161 : decode cX3_mat 161 = .ok (.iload 4, 2) := dk_21 4 (dk_at dksX3_mat_6 20 rfl rfl)
theorem dX3_mat_163 : decode cX3_mat 163 = .ok (.bipush 43, 2) := dk_16 43 (dk_at dksX3_mat_6 22 rfl rfl)
theorem dX3_mat_165 : decode cX3_mat 165 = .ok (.if_icmp .eq 31, 3) := dk_159 0 31 (dk_at dksX3_mat_7 0 rfl rfl)
theorem dX3_mat_168 : decode cX3_mat 168 = .ok (.iload 4, 2) := dk_21 4 (dk_at dksX3_mat_7 3 rfl rfl)
theorem dX3_mat_170 : decode cX3_mat 170 = .ok (.bipush 45, 2) := dk_16 45 (dk_at dksX3_mat_7 5 rfl rfl)
theorem dX3_mat_172 : decode cX3_mat 172 = .ok (.if_icmp .eq 24, 3) := dk_159 0 24 (dk_at dksX3_mat_7 7 rfl rfl)
theorem dX3_mat_175 : decode cX3_mat 175 = .ok (.iload 4, 2) := dk_21 4 (dk_at dksX3_mat_7 10 rfl rfl)
theorem dX3_mat_177 : decode cX3_mat 177 = .ok (.bipush 42, 2) := dk_16 42 (dk_at dksX3_mat_7 12 rfl rfl)
theorem dX3_mat_179 : decode cX3_mat 179 = .ok (.if_icmp .eq 17, 3) := dk_159 0 17 (dk_at dksX3_mat_7 14 rfl rfl)
theorem dX3_mat_182 : decode cX3_mat 182 = .ok (.new 323, 3) := dk_187 1 67 (dk_at dksX3_mat_7 17 rfl rfl)
theorem dX3_mat_185 : decode cX3_mat 185 = .ok (.dup, 1) := dk_89 (dk_at dksX3_mat_7 20 rfl rfl)
theorem dX3_mat_186 : decode cX3_mat 186 = .ok (.iload_n 1, 1) := dk_27 (dk_at dksX3_mat_7 21 rfl rfl)
theorem dX3_mat_187 : decode cX3_mat 187 = .ok (.bipush 61, 2) := dk_16 61 (dk_at dksX3_mat_7 22 rfl rfl)
theorem dX3_mat_189 : decode cX3_mat 189 = .ok (.iload_n 3, 1) := dk_29 (dk_at dksX3_mat_8 0 rfl rfl)
theorem dX3_mat_190 : decode cX3_mat 190 = .ok (.iconst (-1), 1) := dk_2 (dk_at dksX3_mat_8 1 rfl rfl)
theorem dX3_mat_191 : decode cX3_mat 191 = .ok (.aconst_null, 1) := dk_1 (dk_at dksX3_mat_8 2 rfl rfl)
theorem dX3_mat_192 : decode cX3_mat 192 = .ok (.invokespecial 325, 3) := dk_183 1 69 (dk_at dksX3_mat_8 3 rfl rfl)
theorem dX3_mat_195 : decode cX3_mat 195 = .ok (.areturn, 1) := dk_176 (dk_at dksX3_mat_8 6 rfl rfl)
theorem dX3_mat_196 : decode cX3_mat 196 = .ok (.aload_n 0, 1) := dk_42 (dk_at dksX3_mat_8 7 rfl rfl)
theorem dX3_mat_197 : decode cX3_mat 197 = .ok (.dup, 1) := dk_89 (dk_at dksX3_mat_8 8 rfl rfl)
theorem dX3_mat_198 : decode cX3_mat 198 = .ok (.getfield 57, 3) := dk_180 0 57 (dk_at dksX3_mat_8 9 rfl rfl)
theorem dX3_mat_201 : decode cX3_mat 201 = .ok (.iconst 1, 1) := dk_4 (dk_at dksX3_mat_8 12 rfl rfl)
theorem dX3_mat_202 : decode cX3_mat 202 = .ok (.iadd, 1) := dk_96 (dk_at dksX3_mat_8 13 rfl rfl)
theorem dX3_mat_203 : decode cX3_mat 203 = .ok (.putfield 57, 3) := dk_181 0 57 (dk_at dksX3_mat_8 14 rfl rfl)
theorem dX3_mat_206 : decode cX3_mat 206 = .ok (.new 323, 3) := dk_187 1 67 (dk_at dksX3_mat_8 17 rfl rfl)
theorem dX3_mat_209 : decode cX3_mat 209 = .ok (.dup, 1) := dk_89 (dk_at dksX3_mat_8 20 rfl rfl)
theorem dX3_mat_210 : decode cX3_mat 210 = .ok (.iload_n 1, 1) := dk_27 (dk_at dksX3_mat_8 21 rfl rfl)
theorem dX3_mat_211 : decode cX3_mat 211 = .ok (.iload 4, 2) := dk_21 4 (dk_at dksX3_mat_8 22 rfl rfl)
theorem dX3_mat_213 : decode cX3_mat 213 = .ok (.iload_n 3, 1) := dk_29 (dk_at dksX3_mat_9 0 rfl rfl)
theorem dX3_mat_214 : decode cX3_mat 214 = .ok (.aload_n 0, 1) := dk_42 (dk_at dksX3_mat_9 1 rfl rfl)
theorem dX3_mat_215 : decode cX3_mat 215 = .ok (.invokevirtual 104, 3) := dk_182 0 104 (dk_at dksX3_mat_9 2 rfl rfl)
theorem dX3_mat_218 : decode cX3_mat 218 = .ok (.aconst_null, 1) := dk_1 (dk_at dksX3_mat_9 5 rfl rfl)
theorem dX3_mat_219 : decode cX3_mat 219 = .ok (.invokespecial 325, 3) := dk_183 1 69 (dk_at dksX3_mat_9 6 rfl rfl)
theorem dX3_mat_222 : decode cX3_mat 222 = .ok (.areturn, 1) := dk_176 (dk_at dksX3_mat_9 9 rfl rfl)
theorem q129 : (Jvm.Cond.initialized "BasicMachine$Parser") ∈ lw_all := lw_g (lw_at lw_m1 8 rfl) rfl
theorem q416 : (Jvm.Cond.instantiable "BasicMachine$Parser" (6 : Nat)) ∈ lw_all := lw_g (lw_at lw_m2 55 rfl) rfl
theorem q418 : (Jvm.Cond.instanceMethod ({ cls := "BasicMachine$Parser", name := "<init>", desc := "([CI)V" } : Jvm.MethodName)) ∈ lw_all := lw_g (lw_at lw_m2 57 rfl) rfl
theorem q419 : (Jvm.Cond.code ({ cls := "BasicMachine$Parser", name := "<init>", desc := "([CI)V" } : Jvm.MethodName) prog_22_method_1_code (3 : Nat) (Option.none : Option Jvm.ClassFile.FieldType)) ∈ lw_all := lw_g (lw_at lw_m2 58 rfl) rfl
theorem q420 : (Jvm.Cond.methodLink "BasicMachine$Parser" (1 : Nat) ({ cls := "java/lang/Object", name := "<init>", desc := "()V" } : Jvm.MethodName)) ∈ lw_all := lw_g (lw_at lw_m2 59 rfl) rfl
theorem q421 : (Jvm.Cond.classLink "BasicMachine$Parser" (7 : Nat) "java/lang/String") ∈ lw_all := lw_g (lw_at lw_m2 60 rfl) rfl
theorem q423 : (Jvm.Cond.stringRef "BasicMachine$Parser" (9 : Nat) "LET") ∈ lw_tbl := lw_at lw_m2 62 rfl
theorem q424 : (Jvm.Cond.stringRef "BasicMachine$Parser" (11 : Nat) "PRINT") ∈ lw_tbl := lw_at lw_m2 63 rfl
theorem q425 : (Jvm.Cond.stringRef "BasicMachine$Parser" (13 : Nat) "IF") ∈ lw_tbl := lw_at lw_m2 64 rfl
theorem q426 : (Jvm.Cond.stringRef "BasicMachine$Parser" (15 : Nat) "GOTO") ∈ lw_tbl := lw_at lw_m2 65 rfl
theorem q427 : (Jvm.Cond.stringRef "BasicMachine$Parser" (17 : Nat) "ON") ∈ lw_tbl := lw_at lw_m2 66 rfl
theorem q428 : (Jvm.Cond.stringRef "BasicMachine$Parser" (19 : Nat) "GOSUB") ∈ lw_tbl := lw_at lw_m2 67 rfl
theorem q429 : (Jvm.Cond.stringRef "BasicMachine$Parser" (21 : Nat) "RETURN") ∈ lw_tbl := lw_at lw_m2 68 rfl
theorem q430 : (Jvm.Cond.stringRef "BasicMachine$Parser" (23 : Nat) "FOR") ∈ lw_tbl := lw_at lw_m2 69 rfl
theorem q431 : (Jvm.Cond.stringRef "BasicMachine$Parser" (25 : Nat) "NEXT") ∈ lw_tbl := lw_at lw_m2 70 rfl
theorem q432 : (Jvm.Cond.stringRef "BasicMachine$Parser" (27 : Nat) "READ") ∈ lw_tbl := lw_at lw_m2 71 rfl
theorem q433 : (Jvm.Cond.stringRef "BasicMachine$Parser" (29 : Nat) "DATA") ∈ lw_tbl := lw_at lw_m2 72 rfl
theorem q434 : (Jvm.Cond.stringRef "BasicMachine$Parser" (31 : Nat) "RESTORE") ∈ lw_tbl := lw_at lw_m2 73 rfl
theorem q435 : (Jvm.Cond.stringRef "BasicMachine$Parser" (33 : Nat) "DIM") ∈ lw_tbl := lw_at lw_m2 74 rfl
theorem q436 : (Jvm.Cond.stringRef "BasicMachine$Parser" (35 : Nat) "DEF") ∈ lw_tbl := lw_at lw_m2 75 rfl
theorem q437 : (Jvm.Cond.stringRef "BasicMachine$Parser" (37 : Nat) "MAT") ∈ lw_tbl := lw_at lw_m2 76 rfl
theorem q438 : (Jvm.Cond.stringRef "BasicMachine$Parser" (39 : Nat) "REM") ∈ lw_tbl := lw_at lw_m2 77 rfl
theorem q439 : (Jvm.Cond.stringRef "BasicMachine$Parser" (41 : Nat) "END") ∈ lw_tbl := lw_at lw_m2 78 rfl
theorem q440 : (Jvm.Cond.fieldLink "BasicMachine$Parser" (49 : Nat) "BasicMachine$Parser" "text" "[C") ∈ lw_all := lw_g (lw_at lw_m2 79 rfl) rfl
theorem q441 : (Jvm.Cond.fieldLink "BasicMachine$Parser" (53 : Nat) "BasicMachine$Parser" "length" "I") ∈ lw_all := lw_g (lw_at lw_m2 80 rfl) rfl
theorem q442 : (Jvm.Cond.fieldLink "BasicMachine$Parser" (57 : Nat) "BasicMachine$Parser" "at" "I") ∈ lw_all := lw_g (lw_at lw_m2 81 rfl) rfl
theorem q444 : (Jvm.Cond.fieldLink "BasicMachine$Parser" (101 : Nat) "BasicMachine$Parser" "open" "I") ∈ lw_all := lw_g (lw_at lw_m2 83 rfl) rfl
theorem q445 : (Jvm.Cond.fieldLink "BasicMachine$Parser" (179 : Nat) "BasicMachine$Parser" "goes" "Z") ∈ lw_all := lw_g (lw_at lw_m2 84 rfl) rfl
theorem q446 : (Jvm.Cond.fieldLink "BasicMachine$Parser" (43 : Nat) "BasicMachine$Parser" "words" "[Ljava/lang/String;") ∈ lw_all := lw_g (lw_at lw_m2 85 rfl) rfl
theorem q447 : (Jvm.Cond.laysFinal "BasicMachine$Parser" "BasicMachine$Parser" "text" "[C") ∈ lw_all := lw_g (lw_at lw_m2 86 rfl) rfl
theorem q448 : (Jvm.Cond.soleField "BasicMachine$Parser" "text") ∈ lw_all := lw_g (lw_at lw_m2 87 rfl) rfl
theorem q449 : (Jvm.Cond.laysFinal "BasicMachine$Parser" "BasicMachine$Parser" "length" "I") ∈ lw_all := lw_g (lw_at lw_m2 88 rfl) rfl
theorem q450 : (Jvm.Cond.soleField "BasicMachine$Parser" "length") ∈ lw_all := lw_g (lw_at lw_m2 89 rfl) rfl
theorem q451 : (Jvm.Cond.lays "BasicMachine$Parser" "BasicMachine$Parser" "at" "I") ∈ lw_all := lw_g (lw_at lw_m2 90 rfl) rfl
theorem q452 : (Jvm.Cond.soleField "BasicMachine$Parser" "at") ∈ lw_all := lw_g (lw_at lw_m2 91 rfl) rfl
theorem q453 : (Jvm.Cond.lays "BasicMachine$Parser" "BasicMachine$Parser" "open" "I") ∈ lw_all := lw_g (lw_at lw_m2 92 rfl) rfl
theorem q454 : (Jvm.Cond.soleField "BasicMachine$Parser" "open") ∈ lw_all := lw_g (lw_at lw_m2 93 rfl) rfl
theorem q455 : (Jvm.Cond.lays "BasicMachine$Parser" "BasicMachine$Parser" "goes" "Z") ∈ lw_all := lw_g (lw_at lw_m2 94 rfl) rfl
theorem q456 : (Jvm.Cond.soleField "BasicMachine$Parser" "goes") ∈ lw_all := lw_g (lw_at lw_m2 95 rfl) rfl
theorem q457 : (Jvm.Cond.laysFinal "BasicMachine$Parser" "BasicMachine$Parser" "words" "[Ljava/lang/String;") ∈ lw_all := lw_g (lw_at lw_m2 96 rfl) rfl
theorem q458 : (Jvm.Cond.soleField "BasicMachine$Parser" "words") ∈ lw_all := lw_g (lw_at lw_m2 97 rfl) rfl
theorem q459 : (Jvm.Cond.superclass "BasicMachine$Parser" "java/lang/Object") ∈ lw_all := lw_g (lw_at lw_m2 98 rfl) rfl
theorem q462 : (Jvm.Cond.instanceMethod ({ cls := "BasicMachine$Parser", name := "line", desc := "()LBasicMachine$Line;" } : Jvm.MethodName)) ∈ lw_all := lw_g (lw_at lw_m2 101 rfl) rfl
theorem q463 : (Jvm.Cond.selects "BasicMachine$Parser" ({ cls := "BasicMachine$Parser", name := "line", desc := "()LBasicMachine$Line;" } : Jvm.MethodName) ({ cls := "BasicMachine$Parser", name := "line", desc := "()LBasicMachine$Line;" } : Jvm.MethodName)) ∈ lw_all := lw_g (lw_at lw_m2 102 rfl) rfl
theorem q464 : (Jvm.Cond.code ({ cls := "BasicMachine$Parser", name := "line", desc := "()LBasicMachine$Line;" } : Jvm.MethodName) prog_22_method_37_code (3 : Nat) (Option.some (Jvm.ClassFile.FieldType.object "BasicMachine$Line"))) ∈ lw_all := lw_g (lw_at lw_m2 103 rfl) rfl
theorem q465 : (Jvm.Cond.methodLink "BasicMachine$Parser" (235 : Nat) ({ cls := "BasicMachine$Parser", name := "number", desc := "()I" } : Jvm.MethodName)) ∈ lw_all := lw_g (lw_at lw_m2 104 rfl) rfl
theorem q466 : (Jvm.Cond.privateMethod ({ cls := "BasicMachine$Parser", name := "number", desc := "()I" } : Jvm.MethodName)) ∈ lw_tbl := lw_at lw_m2 105 rfl
theorem q467 : (Jvm.Cond.instanceMethod ({ cls := "BasicMachine$Parser", name := "number", desc := "()I" } : Jvm.MethodName)) ∈ lw_all := lw_g (lw_at lw_m2 106 rfl) rfl
theorem q468 : (Jvm.Cond.code ({ cls := "BasicMachine$Parser", name := "number", desc := "()I" } : Jvm.MethodName) prog_22_method_9_code (3 : Nat) (Option.some Jvm.ClassFile.FieldType.int)) ∈ lw_all := lw_g (lw_at lw_m2 107 rfl) rfl
theorem q469 : (Jvm.Cond.methodLink "BasicMachine$Parser" (63 : Nat) ({ cls := "BasicMachine$Parser", name := "here", desc := "()C" } : Jvm.MethodName)) ∈ lw_all := lw_g (lw_at lw_m2 108 rfl) rfl
theorem q470 : (Jvm.Cond.privateMethod ({ cls := "BasicMachine$Parser", name := "here", desc := "()C" } : Jvm.MethodName)) ∈ lw_tbl := lw_at lw_m2 109 rfl
theorem q471 : (Jvm.Cond.instanceMethod ({ cls := "BasicMachine$Parser", name := "here", desc := "()C" } : Jvm.MethodName)) ∈ lw_all := lw_g (lw_at lw_m2 110 rfl) rfl
theorem q472 : (Jvm.Cond.code ({ cls := "BasicMachine$Parser", name := "here", desc := "()C" } : Jvm.MethodName) prog_22_method_2_code (1 : Nat) (Option.some Jvm.ClassFile.FieldType.char)) ∈ lw_all := lw_g (lw_at lw_m2 111 rfl) rfl
theorem q473 : (Jvm.Cond.methodLink "BasicMachine$Parser" (82 : Nat) ({ cls := "BasicMachine$Parser", name := "digit", desc := "(C)Z" } : Jvm.MethodName)) ∈ lw_all := lw_g (lw_at lw_m2 112 rfl) rfl
theorem q474 : (Jvm.Cond.static ({ cls := "BasicMachine$Parser", name := "digit", desc := "(C)Z" } : Jvm.MethodName)) ∈ lw_all := lw_g (lw_at lw_m2 113 rfl) rfl
theorem q475 : (Jvm.Cond.code ({ cls := "BasicMachine$Parser", name := "digit", desc := "(C)Z" } : Jvm.MethodName) prog_22_method_4_code (1 : Nat) (Option.some Jvm.ClassFile.FieldType.boolean)) ∈ lw_all := lw_g (lw_at lw_m2 114 rfl) rfl
theorem q476 : (Jvm.Cond.methodLink "BasicMachine$Parser" (67 : Nat) ({ cls := "BasicMachine$Parser", name := "need", desc := "(Z)V" } : Jvm.MethodName)) ∈ lw_all := lw_g (lw_at lw_m2 115 rfl) rfl
theorem q477 : (Jvm.Cond.privateMethod ({ cls := "BasicMachine$Parser", name := "need", desc := "(Z)V" } : Jvm.MethodName)) ∈ lw_tbl := lw_at lw_m2 116 rfl
theorem q478 : (Jvm.Cond.instanceMethod ({ cls := "BasicMachine$Parser", name := "need", desc := "(Z)V" } : Jvm.MethodName)) ∈ lw_all := lw_g (lw_at lw_m2 117 rfl) rfl
theorem q479 : (Jvm.Cond.code ({ cls := "BasicMachine$Parser", name := "need", desc := "(Z)V" } : Jvm.MethodName) prog_22_method_5_code (2 : Nat) (Option.none : Option Jvm.ClassFile.FieldType)) ∈ lw_all := lw_g (lw_at lw_m2 118 rfl) rfl
theorem q480 : (Jvm.Cond.classLink "BasicMachine$Parser" (60 : Nat) "java/lang/IllegalArgumentException") ∈ lw_all := lw_g (lw_at lw_m2 119 rfl) rfl
theorem q481 : (Jvm.Cond.methodLink "BasicMachine$Parser" (62 : Nat) ({ cls := "java/lang/IllegalArgumentException", name := "<init>", desc := "()V" } : Jvm.MethodName)) ∈ lw_all := lw_g (lw_at lw_m2 120 rfl) rfl
theorem q482 : (Jvm.Cond.classLink "BasicMachine$Parser" (330 : Nat) "BasicMachine$Line") ∈ lw_all := lw_g (lw_at lw_m2 121 rfl) rfl
theorem q484 : (Jvm.Cond.methodLink "BasicMachine$Parser" (332 : Nat) ({ cls := "BasicMachine$Line", name := "<init>", desc := "(ILBasicMachine$Statement;)V" } : Jvm.MethodName)) ∈ lw_all := lw_g (lw_at lw_m2 123 rfl) rfl
theorem q500 : (Jvm.Cond.methodLink "BasicMachine$Parser" (335 : Nat) ({ cls := "BasicMachine$Parser", name := "statement", desc := "()LBasicMachine$Statement;" } : Jvm.MethodName)) ∈ lw_all := lw_g (lw_at lw_m2 139 rfl) rfl
theorem q501 : (Jvm.Cond.privateMethod ({ cls := "BasicMachine$Parser", name := "statement", desc := "()LBasicMachine$Statement;" } : Jvm.MethodName)) ∈ lw_tbl := lw_at lw_m2 140 rfl
theorem q502 : (Jvm.Cond.instanceMethod ({ cls := "BasicMachine$Parser", name := "statement", desc := "()LBasicMachine$Statement;" } : Jvm.MethodName)) ∈ lw_all := lw_g (lw_at lw_m2 141 rfl) rfl
theorem q503 : (Jvm.Cond.code ({ cls := "BasicMachine$Parser", name := "statement", desc := "()LBasicMachine$Statement;" } : Jvm.MethodName) prog_22_method_28_code (4 : Nat) (Option.some (Jvm.ClassFile.FieldType.object "BasicMachine$Statement"))) ∈ lw_all := lw_g (lw_at lw_m2 142 rfl) rfl
theorem q504 : (Jvm.Cond.methodLink "BasicMachine$Parser" (204 : Nat) ({ cls := "BasicMachine$Parser", name := "word", desc := "()Ljava/lang/String;" } : Jvm.MethodName)) ∈ lw_all := lw_g (lw_at lw_m2 143 rfl) rfl
theorem q505 : (Jvm.Cond.privateMethod ({ cls := "BasicMachine$Parser", name := "word", desc := "()Ljava/lang/String;" } : Jvm.MethodName)) ∈ lw_tbl := lw_at lw_m2 144 rfl
theorem q506 : (Jvm.Cond.instanceMethod ({ cls := "BasicMachine$Parser", name := "word", desc := "()Ljava/lang/String;" } : Jvm.MethodName)) ∈ lw_all := lw_g (lw_at lw_m2 145 rfl) rfl
theorem q507 : (Jvm.Cond.code ({ cls := "BasicMachine$Parser", name := "word", desc := "()Ljava/lang/String;" } : Jvm.MethodName) prog_22_method_26_code (5 : Nat) (Option.some (Jvm.ClassFile.FieldType.object "java/lang/String"))) ∈ lw_all := lw_g (lw_at lw_m2 146 rfl) rfl
theorem q508 : (Jvm.Cond.methodLink "BasicMachine$Parser" (200 : Nat) ({ cls := "BasicMachine$Parser", name := "same", desc := "(Ljava/lang/String;I)I" } : Jvm.MethodName)) ∈ lw_all := lw_g (lw_at lw_m2 147 rfl) rfl
theorem q509 : (Jvm.Cond.privateMethod ({ cls := "BasicMachine$Parser", name := "same", desc := "(Ljava/lang/String;I)I" } : Jvm.MethodName)) ∈ lw_tbl := lw_at lw_m2 148 rfl
theorem q510 : (Jvm.Cond.instanceMethod ({ cls := "BasicMachine$Parser", name := "same", desc := "(Ljava/lang/String;I)I" } : Jvm.MethodName)) ∈ lw_all := lw_g (lw_at lw_m2 149 rfl) rfl
theorem q511 : (Jvm.Cond.code ({ cls := "BasicMachine$Parser", name := "same", desc := "(Ljava/lang/String;I)I" } : Jvm.MethodName) prog_22_method_27_code (4 : Nat) (Option.some Jvm.ClassFile.FieldType.int)) ∈ lw_all := lw_g (lw_at lw_m2 150 rfl) rfl
theorem q512 : (Jvm.Cond.methodLink "BasicMachine$Parser" (71 : Nat) ({ cls := "java/lang/String", name := "length", desc := "()I" } : Jvm.MethodName)) ∈ lw_all := lw_g (lw_at lw_m2 151 rfl) rfl
theorem q522 : (Jvm.Cond.methodLink "BasicMachine$Parser" (74 : Nat) ({ cls := "java/lang/String", name := "charAt", desc := "(I)C" } : Jvm.MethodName)) ∈ lw_all := lw_g (lw_at lw_m2 161 rfl) rfl
theorem q560 : (Jvm.Cond.methodLink "BasicMachine$Parser" (208 : Nat) ({ cls := "java/lang/String", name := "hashCode", desc := "()I" } : Jvm.MethodName)) ∈ lw_all := lw_g (lw_at lw_m2 199 rfl) rfl
theorem q846 : (Jvm.Cond.methodLink "BasicMachine$Parser" (211 : Nat) ({ cls := "java/lang/String", name := "equals", desc := "(Ljava/lang/Object;)Z" } : Jvm.MethodName)) ∈ lw_all := lw_g (lw_at lw_m4 5 rfl) rfl
theorem q854 : (Jvm.Cond.methodLink "BasicMachine$Parser" (215 : Nat) ({ cls := "BasicMachine$Parser", name := "place", desc := "()LBasicMachine$Place;" } : Jvm.MethodName)) ∈ lw_all := lw_g (lw_at lw_m4 13 rfl) rfl
theorem q855 : (Jvm.Cond.privateMethod ({ cls := "BasicMachine$Parser", name := "place", desc := "()LBasicMachine$Place;" } : Jvm.MethodName)) ∈ lw_tbl := lw_at lw_m4 14 rfl
theorem q856 : (Jvm.Cond.instanceMethod ({ cls := "BasicMachine$Parser", name := "place", desc := "()LBasicMachine$Place;" } : Jvm.MethodName)) ∈ lw_all := lw_g (lw_at lw_m4 15 rfl) rfl
theorem q857 : (Jvm.Cond.code ({ cls := "BasicMachine$Parser", name := "place", desc := "()LBasicMachine$Place;" } : Jvm.MethodName) prog_22_method_25_code (1 : Nat) (Option.some (Jvm.ClassFile.FieldType.object "BasicMachine$Place"))) ∈ lw_all := lw_g (lw_at lw_m4 16 rfl) rfl
theorem q858 : (Jvm.Cond.methodLink "BasicMachine$Parser" (95 : Nat) ({ cls := "BasicMachine$Parser", name := "isMatrix", desc := "(C)Z" } : Jvm.MethodName)) ∈ lw_all := lw_g (lw_at lw_m4 17 rfl) rfl
theorem q859 : (Jvm.Cond.static ({ cls := "BasicMachine$Parser", name := "isMatrix", desc := "(C)Z" } : Jvm.MethodName)) ∈ lw_all := lw_g (lw_at lw_m4 18 rfl) rfl
theorem q860 : (Jvm.Cond.code ({ cls := "BasicMachine$Parser", name := "isMatrix", desc := "(C)Z" } : Jvm.MethodName) prog_22_method_11_code (1 : Nat) (Option.some Jvm.ClassFile.FieldType.boolean)) ∈ lw_all := lw_g (lw_at lw_m4 19 rfl) rfl
theorem q861 : (Jvm.Cond.classLink "BasicMachine$Parser" (195 : Nat) "BasicMachine$Place") ∈ lw_all := lw_g (lw_at lw_m4 20 rfl) rfl
theorem q863 : (Jvm.Cond.methodLink "BasicMachine$Parser" (150 : Nat) ({ cls := "BasicMachine$Parser", name := "element", desc := "()LBasicMachine$Element;" } : Jvm.MethodName)) ∈ lw_all := lw_g (lw_at lw_m4 22 rfl) rfl
theorem q864 : (Jvm.Cond.privateMethod ({ cls := "BasicMachine$Parser", name := "element", desc := "()LBasicMachine$Element;" } : Jvm.MethodName)) ∈ lw_tbl := lw_at lw_m4 23 rfl
theorem q865 : (Jvm.Cond.instanceMethod ({ cls := "BasicMachine$Parser", name := "element", desc := "()LBasicMachine$Element;" } : Jvm.MethodName)) ∈ lw_all := lw_g (lw_at lw_m4 24 rfl) rfl
theorem q866 : (Jvm.Cond.code ({ cls := "BasicMachine$Parser", name := "element", desc := "()LBasicMachine$Element;" } : Jvm.MethodName) prog_22_method_17_code (4 : Nat) (Option.some (Jvm.ClassFile.FieldType.object "BasicMachine$Element"))) ∈ lw_all := lw_g (lw_at lw_m4 25 rfl) rfl
theorem q867 : (Jvm.Cond.methodLink "BasicMachine$Parser" (104 : Nat) ({ cls := "BasicMachine$Parser", name := "matrix", desc := "()I" } : Jvm.MethodName)) ∈ lw_all := lw_g (lw_at lw_m4 26 rfl) rfl
theorem q868 : (Jvm.Cond.privateMethod ({ cls := "BasicMachine$Parser", name := "matrix", desc := "()I" } : Jvm.MethodName)) ∈ lw_tbl := lw_at lw_m4 27 rfl
theorem q869 : (Jvm.Cond.instanceMethod ({ cls := "BasicMachine$Parser", name := "matrix", desc := "()I" } : Jvm.MethodName)) ∈ lw_all := lw_g (lw_at lw_m4 28 rfl) rfl
theorem q870 : (Jvm.Cond.code ({ cls := "BasicMachine$Parser", name := "matrix", desc := "()I" } : Jvm.MethodName) prog_22_method_14_code (1 : Nat) (Option.some Jvm.ClassFile.FieldType.int)) ∈ lw_all := lw_g (lw_at lw_m4 29 rfl) rfl
theorem q871 : (Jvm.Cond.methodLink "BasicMachine$Parser" (107 : Nat) ({ cls := "BasicMachine$Parser", name := "openBracket", desc := "()V" } : Jvm.MethodName)) ∈ lw_all := lw_g (lw_at lw_m4 30 rfl) rfl
theorem q872 : (Jvm.Cond.privateMethod ({ cls := "BasicMachine$Parser", name := "openBracket", desc := "()V" } : Jvm.MethodName)) ∈ lw_tbl := lw_at lw_m4 31 rfl
theorem q873 : (Jvm.Cond.instanceMethod ({ cls := "BasicMachine$Parser", name := "openBracket", desc := "()V" } : Jvm.MethodName)) ∈ lw_all := lw_g (lw_at lw_m4 32 rfl) rfl
theorem q874 : (Jvm.Cond.code ({ cls := "BasicMachine$Parser", name := "openBracket", desc := "()V" } : Jvm.MethodName) prog_22_method_15_code (1 : Nat) (Option.none : Option Jvm.ClassFile.FieldType)) ∈ lw_all := lw_g (lw_at lw_m4 33 rfl) rfl
theorem q875 : (Jvm.Cond.methodLink "BasicMachine$Parser" (78 : Nat) ({ cls := "BasicMachine$Parser", name := "take", desc := "(C)V" } : Jvm.MethodName)) ∈ lw_all := lw_g (lw_at lw_m4 34 rfl) rfl
theorem q876 : (Jvm.Cond.privateMethod ({ cls := "BasicMachine$Parser", name := "take", desc := "(C)V" } : Jvm.MethodName)) ∈ lw_tbl := lw_at lw_m4 35 rfl
theorem q877 : (Jvm.Cond.instanceMethod ({ cls := "BasicMachine$Parser", name := "take", desc := "(C)V" } : Jvm.MethodName)) ∈ lw_all := lw_g (lw_at lw_m4 36 rfl) rfl
theorem q878 : (Jvm.Cond.code ({ cls := "BasicMachine$Parser", name := "take", desc := "(C)V" } : Jvm.MethodName) prog_22_method_6_code (2 : Nat) (Option.none : Option Jvm.ClassFile.FieldType)) ∈ lw_all := lw_g (lw_at lw_m4 37 rfl) rfl
theorem q879 : (Jvm.Cond.methodLink "BasicMachine$Parser" (110 : Nat) ({ cls := "BasicMachine$Parser", name := "expression", desc := "()LBasicMachine$Expression;" } : Jvm.MethodName)) ∈ lw_all := lw_g (lw_at lw_m4 38 rfl) rfl
theorem q880 : (Jvm.Cond.instanceMethod ({ cls := "BasicMachine$Parser", name := "expression", desc := "()LBasicMachine$Expression;" } : Jvm.MethodName)) ∈ lw_all := lw_g (lw_at lw_m4 39 rfl) rfl
theorem q881 : (Jvm.Cond.selects "BasicMachine$Parser" ({ cls := "BasicMachine$Parser", name := "expression", desc := "()LBasicMachine$Expression;" } : Jvm.MethodName) ({ cls := "BasicMachine$Parser", name := "expression", desc := "()LBasicMachine$Expression;" } : Jvm.MethodName)) ∈ lw_all := lw_g (lw_at lw_m4 40 rfl) rfl
theorem q882 : (Jvm.Cond.code ({ cls := "BasicMachine$Parser", name := "expression", desc := "()LBasicMachine$Expression;" } : Jvm.MethodName) prog_22_method_18_code (4 : Nat) (Option.some (Jvm.ClassFile.FieldType.object "BasicMachine$Expression"))) ∈ lw_all := lw_g (lw_at lw_m4 41 rfl) rfl
theorem q883 : (Jvm.Cond.methodLink "BasicMachine$Parser" (90 : Nat) ({ cls := "BasicMachine$Parser", name := "takes", desc := "(C)Z" } : Jvm.MethodName)) ∈ lw_all := lw_g (lw_at lw_m4 42 rfl) rfl
theorem q884 : (Jvm.Cond.privateMethod ({ cls := "BasicMachine$Parser", name := "takes", desc := "(C)Z" } : Jvm.MethodName)) ∈ lw_tbl := lw_at lw_m4 43 rfl
theorem q885 : (Jvm.Cond.instanceMethod ({ cls := "BasicMachine$Parser", name := "takes", desc := "(C)Z" } : Jvm.MethodName)) ∈ lw_all := lw_g (lw_at lw_m4 44 rfl) rfl
theorem q886 : (Jvm.Cond.code ({ cls := "BasicMachine$Parser", name := "takes", desc := "(C)Z" } : Jvm.MethodName) prog_22_method_8_code (2 : Nat) (Option.some Jvm.ClassFile.FieldType.boolean)) ∈ lw_all := lw_g (lw_at lw_m4 45 rfl) rfl
theorem q887 : (Jvm.Cond.methodLink "BasicMachine$Parser" (122 : Nat) ({ cls := "BasicMachine$Parser", name := "term", desc := "()LBasicMachine$Expression;" } : Jvm.MethodName)) ∈ lw_all := lw_g (lw_at lw_m4 46 rfl) rfl
theorem q888 : (Jvm.Cond.privateMethod ({ cls := "BasicMachine$Parser", name := "term", desc := "()LBasicMachine$Expression;" } : Jvm.MethodName)) ∈ lw_tbl := lw_at lw_m4 47 rfl
theorem q889 : (Jvm.Cond.instanceMethod ({ cls := "BasicMachine$Parser", name := "term", desc := "()LBasicMachine$Expression;" } : Jvm.MethodName)) ∈ lw_all := lw_g (lw_at lw_m4 48 rfl) rfl
theorem q890 : (Jvm.Cond.code ({ cls := "BasicMachine$Parser", name := "term", desc := "()LBasicMachine$Expression;" } : Jvm.MethodName) prog_22_method_19_code (3 : Nat) (Option.some (Jvm.ClassFile.FieldType.object "BasicMachine$Expression"))) ∈ lw_all := lw_g (lw_at lw_m4 49 rfl) rfl
theorem q891 : (Jvm.Cond.methodLink "BasicMachine$Parser" (135 : Nat) ({ cls := "BasicMachine$Parser", name := "power", desc := "()LBasicMachine$Expression;" } : Jvm.MethodName)) ∈ lw_all := lw_g (lw_at lw_m4 50 rfl) rfl
theorem q892 : (Jvm.Cond.privateMethod ({ cls := "BasicMachine$Parser", name := "power", desc := "()LBasicMachine$Expression;" } : Jvm.MethodName)) ∈ lw_tbl := lw_at lw_m4 51 rfl
theorem q893 : (Jvm.Cond.instanceMethod ({ cls := "BasicMachine$Parser", name := "power", desc := "()LBasicMachine$Expression;" } : Jvm.MethodName)) ∈ lw_all := lw_g (lw_at lw_m4 52 rfl) rfl
theorem q894 : (Jvm.Cond.code ({ cls := "BasicMachine$Parser", name := "power", desc := "()LBasicMachine$Expression;" } : Jvm.MethodName) prog_22_method_20_code (2 : Nat) (Option.some (Jvm.ClassFile.FieldType.object "BasicMachine$Expression"))) ∈ lw_all := lw_g (lw_at lw_m4 53 rfl) rfl
theorem q895 : (Jvm.Cond.methodLink "BasicMachine$Parser" (138 : Nat) ({ cls := "BasicMachine$Parser", name := "part", desc := "()LBasicMachine$Expression;" } : Jvm.MethodName)) ∈ lw_all := lw_g (lw_at lw_m4 54 rfl) rfl
theorem q896 : (Jvm.Cond.privateMethod ({ cls := "BasicMachine$Parser", name := "part", desc := "()LBasicMachine$Expression;" } : Jvm.MethodName)) ∈ lw_tbl := lw_at lw_m4 55 rfl
theorem q897 : (Jvm.Cond.instanceMethod ({ cls := "BasicMachine$Parser", name := "part", desc := "()LBasicMachine$Expression;" } : Jvm.MethodName)) ∈ lw_all := lw_g (lw_at lw_m4 56 rfl) rfl
theorem q898 : (Jvm.Cond.code ({ cls := "BasicMachine$Parser", name := "part", desc := "()LBasicMachine$Expression;" } : Jvm.MethodName) prog_22_method_22_code (3 : Nat) (Option.some (Jvm.ClassFile.FieldType.object "BasicMachine$Expression"))) ∈ lw_all := lw_g (lw_at lw_m4 57 rfl) rfl
theorem q899 : (Jvm.Cond.classLink "BasicMachine$Parser" (141 : Nat) "BasicMachine$Numeral") ∈ lw_all := lw_g (lw_at lw_m4 58 rfl) rfl
theorem q901 : (Jvm.Cond.methodLink "BasicMachine$Parser" (143 : Nat) ({ cls := "BasicMachine$Parser", name := "numeral", desc := "()D" } : Jvm.MethodName)) ∈ lw_all := lw_g (lw_at lw_m4 60 rfl) rfl
theorem q902 : (Jvm.Cond.privateMethod ({ cls := "BasicMachine$Parser", name := "numeral", desc := "()D" } : Jvm.MethodName)) ∈ lw_tbl := lw_at lw_m4 61 rfl
theorem q903 : (Jvm.Cond.instanceMethod ({ cls := "BasicMachine$Parser", name := "numeral", desc := "()D" } : Jvm.MethodName)) ∈ lw_all := lw_g (lw_at lw_m4 62 rfl) rfl
theorem q904 : (Jvm.Cond.code ({ cls := "BasicMachine$Parser", name := "numeral", desc := "()D" } : Jvm.MethodName) prog_22_method_10_code (6 : Nat) (Option.some Jvm.ClassFile.FieldType.double)) ∈ lw_all := lw_g (lw_at lw_m4 63 rfl) rfl
theorem q905 : (Jvm.Cond.constantLong "BasicMachine$Parser" (86 : Nat) (10 : Int64)) ∈ lw_all := lw_g (lw_at lw_m4 64 rfl) rfl
theorem q906 : (Jvm.Cond.constantLong "BasicMachine$Parser" (88 : Nat) (48 : Int64)) ∈ lw_all := lw_g (lw_at lw_m4 65 rfl) rfl
theorem q907 : (Jvm.Cond.constantDouble "BasicMachine$Parser" (93 : Nat) (4621819117588971520 : UInt64)) ∈ lw_all := lw_g (lw_at lw_m4 66 rfl) rfl
theorem q908 : (Jvm.Cond.methodLinkNest "BasicMachine$Parser" (147 : Nat) ({ cls := "BasicMachine$Numeral", name := "<init>", desc := "(D)V" } : Jvm.MethodName) "BasicMachine") ∈ lw_tbl := lw_at lw_m4 67 rfl
theorem q919 : (Jvm.Cond.methodLink "BasicMachine$Parser" (154 : Nat) ({ cls := "BasicMachine$Parser", name := "inside", desc := "()LBasicMachine$Expression;" } : Jvm.MethodName)) ∈ lw_all := lw_g (lw_at lw_m4 78 rfl) rfl
theorem q920 : (Jvm.Cond.privateMethod ({ cls := "BasicMachine$Parser", name := "inside", desc := "()LBasicMachine$Expression;" } : Jvm.MethodName)) ∈ lw_tbl := lw_at lw_m4 79 rfl
theorem q921 : (Jvm.Cond.instanceMethod ({ cls := "BasicMachine$Parser", name := "inside", desc := "()LBasicMachine$Expression;" } : Jvm.MethodName)) ∈ lw_all := lw_g (lw_at lw_m4 80 rfl) rfl
theorem q922 : (Jvm.Cond.code ({ cls := "BasicMachine$Parser", name := "inside", desc := "()LBasicMachine$Expression;" } : Jvm.MethodName) prog_22_method_21_code (2 : Nat) (Option.some (Jvm.ClassFile.FieldType.object "BasicMachine$Expression"))) ∈ lw_all := lw_g (lw_at lw_m4 81 rfl) rfl
theorem q923 : (Jvm.Cond.methodLink "BasicMachine$Parser" (114 : Nat) ({ cls := "BasicMachine$Parser", name := "closeBracket", desc := "()V" } : Jvm.MethodName)) ∈ lw_all := lw_g (lw_at lw_m4 82 rfl) rfl
theorem q924 : (Jvm.Cond.privateMethod ({ cls := "BasicMachine$Parser", name := "closeBracket", desc := "()V" } : Jvm.MethodName)) ∈ lw_tbl := lw_at lw_m4 83 rfl
theorem q925 : (Jvm.Cond.instanceMethod ({ cls := "BasicMachine$Parser", name := "closeBracket", desc := "()V" } : Jvm.MethodName)) ∈ lw_all := lw_g (lw_at lw_m4 84 rfl) rfl
theorem q926 : (Jvm.Cond.code ({ cls := "BasicMachine$Parser", name := "closeBracket", desc := "()V" } : Jvm.MethodName) prog_22_method_16_code (1 : Nat) (Option.none : Option Jvm.ClassFile.FieldType)) ∈ lw_all := lw_g (lw_at lw_m4 85 rfl) rfl
theorem q927 : (Jvm.Cond.methodLink "BasicMachine$Parser" (157 : Nat) ({ cls := "BasicMachine$Parser", name := "behind", desc := "()C" } : Jvm.MethodName)) ∈ lw_all := lw_g (lw_at lw_m4 86 rfl) rfl
theorem q928 : (Jvm.Cond.privateMethod ({ cls := "BasicMachine$Parser", name := "behind", desc := "()C" } : Jvm.MethodName)) ∈ lw_tbl := lw_at lw_m4 87 rfl
theorem q929 : (Jvm.Cond.instanceMethod ({ cls := "BasicMachine$Parser", name := "behind", desc := "()C" } : Jvm.MethodName)) ∈ lw_all := lw_g (lw_at lw_m4 88 rfl) rfl
theorem q930 : (Jvm.Cond.code ({ cls := "BasicMachine$Parser", name := "behind", desc := "()C" } : Jvm.MethodName) prog_22_method_3_code (1 : Nat) (Option.some Jvm.ClassFile.FieldType.char)) ∈ lw_all := lw_g (lw_at lw_m4 89 rfl) rfl
theorem q931 : (Jvm.Cond.methodLink "BasicMachine$Parser" (160 : Nat) ({ cls := "BasicMachine$Parser", name := "function", desc := "(CC)LBasicMachine$Expression;" } : Jvm.MethodName)) ∈ lw_all := lw_g (lw_at lw_m4 90 rfl) rfl
theorem q932 : (Jvm.Cond.privateMethod ({ cls := "BasicMachine$Parser", name := "function", desc := "(CC)LBasicMachine$Expression;" } : Jvm.MethodName)) ∈ lw_tbl := lw_at lw_m4 91 rfl
theorem q933 : (Jvm.Cond.instanceMethod ({ cls := "BasicMachine$Parser", name := "function", desc := "(CC)LBasicMachine$Expression;" } : Jvm.MethodName)) ∈ lw_all := lw_g (lw_at lw_m4 92 rfl) rfl
theorem q934 : (Jvm.Cond.code ({ cls := "BasicMachine$Parser", name := "function", desc := "(CC)LBasicMachine$Expression;" } : Jvm.MethodName) prog_22_method_23_code (4 : Nat) (Option.some (Jvm.ClassFile.FieldType.object "BasicMachine$Expression"))) ∈ lw_all := lw_g (lw_at lw_m4 93 rfl) rfl
theorem q935 : (Jvm.Cond.stringRef "BasicMachine$Parser" (172 : Nat) "ABS") ∈ lw_tbl := lw_at lw_m4 94 rfl
theorem q936 : (Jvm.Cond.methodLink "BasicMachine$Parser" (174 : Nat) ({ cls := "BasicMachine$Parser", name := "take", desc := "(Ljava/lang/String;)V" } : Jvm.MethodName)) ∈ lw_all := lw_g (lw_at lw_m4 95 rfl) rfl
theorem q937 : (Jvm.Cond.privateMethod ({ cls := "BasicMachine$Parser", name := "take", desc := "(Ljava/lang/String;)V" } : Jvm.MethodName)) ∈ lw_tbl := lw_at lw_m4 96 rfl
theorem q938 : (Jvm.Cond.instanceMethod ({ cls := "BasicMachine$Parser", name := "take", desc := "(Ljava/lang/String;)V" } : Jvm.MethodName)) ∈ lw_all := lw_g (lw_at lw_m4 97 rfl) rfl
theorem q939 : (Jvm.Cond.code ({ cls := "BasicMachine$Parser", name := "take", desc := "(Ljava/lang/String;)V" } : Jvm.MethodName) prog_22_method_7_code (3 : Nat) (Option.none : Option Jvm.ClassFile.FieldType)) ∈ lw_all := lw_g (lw_at lw_m4 98 rfl) rfl
theorem q940 : (Jvm.Cond.stringRef "BasicMachine$Parser" (177 : Nat) "INT") ∈ lw_tbl := lw_at lw_m4 99 rfl
theorem q941 : (Jvm.Cond.stringRef "BasicMachine$Parser" (183 : Nat) "SGN") ∈ lw_tbl := lw_at lw_m4 100 rfl
theorem q942 : (Jvm.Cond.classLink "BasicMachine$Parser" (125 : Nat) "BasicMachine$Single") ∈ lw_all := lw_g (lw_at lw_m4 101 rfl) rfl
theorem q944 : (Jvm.Cond.methodLinkNest "BasicMachine$Parser" (127 : Nat) ({ cls := "BasicMachine$Single", name := "<init>", desc := "(CLBasicMachine$Expression;)V" } : Jvm.MethodName) "BasicMachine") ∈ lw_tbl := lw_at lw_m4 103 rfl
theorem q955 : (Jvm.Cond.stringRef "BasicMachine$Parser" (185 : Nat) "FN") ∈ lw_tbl := lw_at lw_m4 114 rfl
theorem q956 : (Jvm.Cond.methodLink "BasicMachine$Parser" (187 : Nat) ({ cls := "BasicMachine$Parser", name := "functionName", desc := "()I" } : Jvm.MethodName)) ∈ lw_all := lw_g (lw_at lw_m4 115 rfl) rfl
theorem q957 : (Jvm.Cond.privateMethod ({ cls := "BasicMachine$Parser", name := "functionName", desc := "()I" } : Jvm.MethodName)) ∈ lw_tbl := lw_at lw_m4 116 rfl
theorem q958 : (Jvm.Cond.instanceMethod ({ cls := "BasicMachine$Parser", name := "functionName", desc := "()I" } : Jvm.MethodName)) ∈ lw_all := lw_g (lw_at lw_m4 117 rfl) rfl
theorem q959 : (Jvm.Cond.code ({ cls := "BasicMachine$Parser", name := "functionName", desc := "()I" } : Jvm.MethodName) prog_22_method_24_code (1 : Nat) (Option.some Jvm.ClassFile.FieldType.int)) ∈ lw_all := lw_g (lw_at lw_m4 118 rfl) rfl
theorem q960 : (Jvm.Cond.classLink "BasicMachine$Parser" (190 : Nat) "BasicMachine$Call") ∈ lw_all := lw_g (lw_at lw_m4 119 rfl) rfl
theorem q962 : (Jvm.Cond.methodLinkNest "BasicMachine$Parser" (192 : Nat) ({ cls := "BasicMachine$Call", name := "<init>", desc := "(ILBasicMachine$Expression;)V" } : Jvm.MethodName) "BasicMachine") ∈ lw_tbl := lw_at lw_m4 121 rfl
theorem q973 : (Jvm.Cond.classLink "BasicMachine$Parser" (164 : Nat) "BasicMachine$Variable") ∈ lw_all := lw_g (lw_at lw_m4 132 rfl) rfl
theorem q975 : (Jvm.Cond.methodLink "BasicMachine$Parser" (166 : Nat) ({ cls := "BasicMachine$Parser", name := "variable", desc := "()I" } : Jvm.MethodName)) ∈ lw_all := lw_g (lw_at lw_m4 134 rfl) rfl
theorem q976 : (Jvm.Cond.privateMethod ({ cls := "BasicMachine$Parser", name := "variable", desc := "()I" } : Jvm.MethodName)) ∈ lw_tbl := lw_at lw_m4 135 rfl
theorem q977 : (Jvm.Cond.instanceMethod ({ cls := "BasicMachine$Parser", name := "variable", desc := "()I" } : Jvm.MethodName)) ∈ lw_all := lw_g (lw_at lw_m4 136 rfl) rfl
theorem q978 : (Jvm.Cond.code ({ cls := "BasicMachine$Parser", name := "variable", desc := "()I" } : Jvm.MethodName) prog_22_method_13_code (1 : Nat) (Option.some Jvm.ClassFile.FieldType.int)) ∈ lw_all := lw_g (lw_at lw_m4 137 rfl) rfl
theorem q979 : (Jvm.Cond.methodLink "BasicMachine$Parser" (98 : Nat) ({ cls := "BasicMachine$Parser", name := "isVariable", desc := "(C)Z" } : Jvm.MethodName)) ∈ lw_all := lw_g (lw_at lw_m4 138 rfl) rfl
theorem q980 : (Jvm.Cond.static ({ cls := "BasicMachine$Parser", name := "isVariable", desc := "(C)Z" } : Jvm.MethodName)) ∈ lw_all := lw_g (lw_at lw_m4 139 rfl) rfl
theorem q981 : (Jvm.Cond.code ({ cls := "BasicMachine$Parser", name := "isVariable", desc := "(C)Z" } : Jvm.MethodName) prog_22_method_12_code (1 : Nat) (Option.some Jvm.ClassFile.FieldType.boolean)) ∈ lw_all := lw_g (lw_at lw_m4 140 rfl) rfl
theorem q982 : (Jvm.Cond.methodLinkNest "BasicMachine$Parser" (169 : Nat) ({ cls := "BasicMachine$Variable", name := "<init>", desc := "(I)V" } : Jvm.MethodName) "BasicMachine") ∈ lw_tbl := lw_at lw_m4 141 rfl
theorem q990 : (Jvm.Cond.classLink "BasicMachine$Parser" (130 : Nat) "BasicMachine$Pair") ∈ lw_all := lw_g (lw_at lw_m4 149 rfl) rfl
theorem q992 : (Jvm.Cond.methodLinkNest "BasicMachine$Parser" (132 : Nat) ({ cls := "BasicMachine$Pair", name := "<init>", desc := "(CLBasicMachine$Expression;LBasicMachine$Expression;)V" } : Jvm.MethodName) "BasicMachine") ∈ lw_tbl := lw_at lw_m4 151 rfl
theorem q1006 : (Jvm.Cond.classLink "BasicMachine$Parser" (117 : Nat) "BasicMachine$Element") ∈ lw_all := lw_g (lw_at lw_m4 165 rfl) rfl
theorem q1008 : (Jvm.Cond.methodLinkNest "BasicMachine$Parser" (119 : Nat) ({ cls := "BasicMachine$Element", name := "<init>", desc := "(ILBasicMachine$Expression;LBasicMachine$Expression;)V" } : Jvm.MethodName) "BasicMachine") ∈ lw_tbl := lw_at lw_m4 167 rfl
theorem q1022 : (Jvm.Cond.methodLinkNest "BasicMachine$Parser" (197 : Nat) ({ cls := "BasicMachine$Place", name := "<init>", desc := "(LBasicMachine$Variable;LBasicMachine$Element;)V" } : Jvm.MethodName) "BasicMachine") ∈ lw_tbl := lw_at lw_m4 181 rfl
theorem q1033 : (Jvm.Cond.classLink "BasicMachine$Parser" (219 : Nat) "BasicMachine$Let") ∈ lw_all := lw_g (lw_at lw_m4 192 rfl) rfl
theorem q1035 : (Jvm.Cond.methodLinkNest "BasicMachine$Parser" (221 : Nat) ({ cls := "BasicMachine$Let", name := "<init>", desc := "(LBasicMachine$Place;LBasicMachine$Expression;)V" } : Jvm.MethodName) "BasicMachine") ∈ lw_tbl := lw_at lw_m4 194 rfl
theorem q1046 : (Jvm.Cond.classLink "BasicMachine$Parser" (224 : Nat) "BasicMachine$Print") ∈ lw_all := lw_g (lw_at lw_m4 205 rfl) rfl
theorem q1048 : (Jvm.Cond.methodLinkNest "BasicMachine$Parser" (226 : Nat) ({ cls := "BasicMachine$Print", name := "<init>", desc := "(LBasicMachine$Expression;)V" } : Jvm.MethodName) "BasicMachine") ∈ lw_tbl := lw_at lw_m4 207 rfl
theorem q1056 : (Jvm.Cond.methodLink "BasicMachine$Parser" (229 : Nat) ({ cls := "BasicMachine$Parser", name := "ifThen", desc := "()LBasicMachine$Statement;" } : Jvm.MethodName)) ∈ lw_all := lw_g (lw_at lw_m4 215 rfl) rfl
theorem q1057 : (Jvm.Cond.privateMethod ({ cls := "BasicMachine$Parser", name := "ifThen", desc := "()LBasicMachine$Statement;" } : Jvm.MethodName)) ∈ lw_tbl := lw_at lw_m4 216 rfl
theorem q1058 : (Jvm.Cond.instanceMethod ({ cls := "BasicMachine$Parser", name := "ifThen", desc := "()LBasicMachine$Statement;" } : Jvm.MethodName)) ∈ lw_all := lw_g (lw_at lw_m4 217 rfl) rfl
theorem q1059 : (Jvm.Cond.code ({ cls := "BasicMachine$Parser", name := "ifThen", desc := "()LBasicMachine$Statement;" } : Jvm.MethodName) prog_22_method_29_code (4 : Nat) (Option.some (Jvm.ClassFile.FieldType.object "BasicMachine$Statement"))) ∈ lw_all := lw_g (lw_at lw_m4 218 rfl) rfl
theorem q1060 : (Jvm.Cond.stringRef "BasicMachine$Parser" (278 : Nat) "THEN") ∈ lw_tbl := lw_at lw_m4 219 rfl
theorem q1061 : (Jvm.Cond.classLink "BasicMachine$Parser" (280 : Nat) "BasicMachine$If") ∈ lw_all := lw_g (lw_at lw_m4 220 rfl) rfl
theorem q1063 : (Jvm.Cond.methodLinkNest "BasicMachine$Parser" (282 : Nat) ({ cls := "BasicMachine$If", name := "<init>", desc := "(LBasicMachine$Expression;ILBasicMachine$Expression;I)V" } : Jvm.MethodName) "BasicMachine") ∈ lw_tbl := lw_at lw_m4 222 rfl
theorem q1080 : (Jvm.Cond.classLink "BasicMachine$Parser" (233 : Nat) "BasicMachine$Goto") ∈ lw_all := lw_g (lw_at lw_m4 239 rfl) rfl
theorem q1082 : (Jvm.Cond.methodLinkNest "BasicMachine$Parser" (238 : Nat) ({ cls := "BasicMachine$Goto", name := "<init>", desc := "(I)V" } : Jvm.MethodName) "BasicMachine") ∈ lw_tbl := lw_at lw_m5 1 rfl
theorem q1090 : (Jvm.Cond.methodLink "BasicMachine$Parser" (239 : Nat) ({ cls := "BasicMachine$Parser", name := "on", desc := "()LBasicMachine$Statement;" } : Jvm.MethodName)) ∈ lw_all := lw_g (lw_at lw_m5 9 rfl) rfl
theorem q1091 : (Jvm.Cond.privateMethod ({ cls := "BasicMachine$Parser", name := "on", desc := "()LBasicMachine$Statement;" } : Jvm.MethodName)) ∈ lw_tbl := lw_at lw_m5 10 rfl
theorem q1092 : (Jvm.Cond.instanceMethod ({ cls := "BasicMachine$Parser", name := "on", desc := "()LBasicMachine$Statement;" } : Jvm.MethodName)) ∈ lw_all := lw_g (lw_at lw_m5 11 rfl) rfl
theorem q1093 : (Jvm.Cond.code ({ cls := "BasicMachine$Parser", name := "on", desc := "()LBasicMachine$Statement;" } : Jvm.MethodName) prog_22_method_30_code (6 : Nat) (Option.some (Jvm.ClassFile.FieldType.object "BasicMachine$Statement"))) ∈ lw_all := lw_g (lw_at lw_m5 12 rfl) rfl
theorem q1094 : (Jvm.Cond.classLink "BasicMachine$Parser" (285 : Nat) "BasicMachine$On") ∈ lw_all := lw_g (lw_at lw_m5 13 rfl) rfl
theorem q1096 : (Jvm.Cond.methodLinkNest "BasicMachine$Parser" (287 : Nat) ({ cls := "BasicMachine$On", name := "<init>", desc := "(LBasicMachine$Expression;[I)V" } : Jvm.MethodName) "BasicMachine") ∈ lw_tbl := lw_at lw_m5 15 rfl
theorem q1107 : (Jvm.Cond.classLink "BasicMachine$Parser" (242 : Nat) "BasicMachine$Gosub") ∈ lw_all := lw_g (lw_at lw_m5 26 rfl) rfl
theorem q1109 : (Jvm.Cond.methodLinkNest "BasicMachine$Parser" (244 : Nat) ({ cls := "BasicMachine$Gosub", name := "<init>", desc := "(I)V" } : Jvm.MethodName) "BasicMachine") ∈ lw_tbl := lw_at lw_m5 28 rfl
theorem q1117 : (Jvm.Cond.classLink "BasicMachine$Parser" (245 : Nat) "BasicMachine$Return") ∈ lw_all := lw_g (lw_at lw_m5 36 rfl) rfl
theorem q1119 : (Jvm.Cond.methodLinkNest "BasicMachine$Parser" (247 : Nat) ({ cls := "BasicMachine$Return", name := "<init>", desc := "()V" } : Jvm.MethodName) "BasicMachine") ∈ lw_tbl := lw_at lw_m5 38 rfl
theorem q1124 : (Jvm.Cond.methodLink "BasicMachine$Parser" (248 : Nat) ({ cls := "BasicMachine$Parser", name := "loop", desc := "()LBasicMachine$Statement;" } : Jvm.MethodName)) ∈ lw_all := lw_g (lw_at lw_m5 43 rfl) rfl
theorem q1125 : (Jvm.Cond.privateMethod ({ cls := "BasicMachine$Parser", name := "loop", desc := "()LBasicMachine$Statement;" } : Jvm.MethodName)) ∈ lw_tbl := lw_at lw_m5 44 rfl
theorem q1126 : (Jvm.Cond.instanceMethod ({ cls := "BasicMachine$Parser", name := "loop", desc := "()LBasicMachine$Statement;" } : Jvm.MethodName)) ∈ lw_all := lw_g (lw_at lw_m5 45 rfl) rfl
theorem q1127 : (Jvm.Cond.code ({ cls := "BasicMachine$Parser", name := "loop", desc := "()LBasicMachine$Statement;" } : Jvm.MethodName) prog_22_method_31_code (4 : Nat) (Option.some (Jvm.ClassFile.FieldType.object "BasicMachine$Statement"))) ∈ lw_all := lw_g (lw_at lw_m5 46 rfl) rfl
theorem q1128 : (Jvm.Cond.stringRef "BasicMachine$Parser" (290 : Nat) "TO") ∈ lw_tbl := lw_at lw_m5 47 rfl
theorem q1129 : (Jvm.Cond.classLink "BasicMachine$Parser" (292 : Nat) "BasicMachine$For") ∈ lw_all := lw_g (lw_at lw_m5 48 rfl) rfl
theorem q1131 : (Jvm.Cond.methodLinkNest "BasicMachine$Parser" (294 : Nat) ({ cls := "BasicMachine$For", name := "<init>", desc := "(ILBasicMachine$Expression;LBasicMachine$Expression;LBasicMachine$Expression;)V" } : Jvm.MethodName) "BasicMachine") ∈ lw_tbl := lw_at lw_m5 50 rfl
theorem q1148 : (Jvm.Cond.stringRef "BasicMachine$Parser" (297 : Nat) "STEP") ∈ lw_tbl := lw_at lw_m5 67 rfl
theorem q1149 : (Jvm.Cond.classLink "BasicMachine$Parser" (251 : Nat) "BasicMachine$Next") ∈ lw_all := lw_g (lw_at lw_m5 68 rfl) rfl
theorem q1151 : (Jvm.Cond.methodLinkNest "BasicMachine$Parser" (253 : Nat) ({ cls := "BasicMachine$Next", name := "<init>", desc := "(I)V" } : Jvm.MethodName) "BasicMachine") ∈ lw_tbl := lw_at lw_m5 70 rfl
theorem q1159 : (Jvm.Cond.classLink "BasicMachine$Parser" (254 : Nat) "BasicMachine$Read") ∈ lw_all := lw_g (lw_at lw_m5 78 rfl) rfl
theorem q1161 : (Jvm.Cond.methodLinkNest "BasicMachine$Parser" (256 : Nat) ({ cls := "BasicMachine$Read", name := "<init>", desc := "(LBasicMachine$Place;)V" } : Jvm.MethodName) "BasicMachine") ∈ lw_tbl := lw_at lw_m5 80 rfl
theorem q1169 : (Jvm.Cond.methodLink "BasicMachine$Parser" (259 : Nat) ({ cls := "BasicMachine$Parser", name := "data", desc := "()LBasicMachine$Statement;" } : Jvm.MethodName)) ∈ lw_all := lw_g (lw_at lw_m5 88 rfl) rfl
theorem q1170 : (Jvm.Cond.privateMethod ({ cls := "BasicMachine$Parser", name := "data", desc := "()LBasicMachine$Statement;" } : Jvm.MethodName)) ∈ lw_tbl := lw_at lw_m5 89 rfl
theorem q1171 : (Jvm.Cond.instanceMethod ({ cls := "BasicMachine$Parser", name := "data", desc := "()LBasicMachine$Statement;" } : Jvm.MethodName)) ∈ lw_all := lw_g (lw_at lw_m5 90 rfl) rfl
theorem q1172 : (Jvm.Cond.code ({ cls := "BasicMachine$Parser", name := "data", desc := "()LBasicMachine$Statement;" } : Jvm.MethodName) prog_22_method_32_code (6 : Nat) (Option.some (Jvm.ClassFile.FieldType.object "BasicMachine$Statement"))) ∈ lw_all := lw_g (lw_at lw_m5 91 rfl) rfl
theorem q1173 : (Jvm.Cond.classLink "BasicMachine$Parser" (299 : Nat) "BasicMachine$Data") ∈ lw_all := lw_g (lw_at lw_m5 92 rfl) rfl
theorem q1175 : (Jvm.Cond.methodLinkNest "BasicMachine$Parser" (301 : Nat) ({ cls := "BasicMachine$Data", name := "<init>", desc := "([D)V" } : Jvm.MethodName) "BasicMachine") ∈ lw_tbl := lw_at lw_m5 94 rfl
theorem q1183 : (Jvm.Cond.classLink "BasicMachine$Parser" (262 : Nat) "BasicMachine$Restore") ∈ lw_all := lw_g (lw_at lw_m5 102 rfl) rfl
theorem q1185 : (Jvm.Cond.methodLinkNest "BasicMachine$Parser" (264 : Nat) ({ cls := "BasicMachine$Restore", name := "<init>", desc := "()V" } : Jvm.MethodName) "BasicMachine") ∈ lw_tbl := lw_at lw_m5 104 rfl
theorem q1190 : (Jvm.Cond.methodLink "BasicMachine$Parser" (265 : Nat) ({ cls := "BasicMachine$Parser", name := "dim", desc := "()LBasicMachine$Statement;" } : Jvm.MethodName)) ∈ lw_all := lw_g (lw_at lw_m5 109 rfl) rfl
theorem q1191 : (Jvm.Cond.privateMethod ({ cls := "BasicMachine$Parser", name := "dim", desc := "()LBasicMachine$Statement;" } : Jvm.MethodName)) ∈ lw_tbl := lw_at lw_m5 110 rfl
theorem q1192 : (Jvm.Cond.instanceMethod ({ cls := "BasicMachine$Parser", name := "dim", desc := "()LBasicMachine$Statement;" } : Jvm.MethodName)) ∈ lw_all := lw_g (lw_at lw_m5 111 rfl) rfl
theorem q1193 : (Jvm.Cond.code ({ cls := "BasicMachine$Parser", name := "dim", desc := "()LBasicMachine$Statement;" } : Jvm.MethodName) prog_22_method_34_code (4 : Nat) (Option.some (Jvm.ClassFile.FieldType.object "BasicMachine$Statement"))) ∈ lw_all := lw_g (lw_at lw_m5 112 rfl) rfl
theorem q1194 : (Jvm.Cond.methodLink "BasicMachine$Parser" (304 : Nat) ({ cls := "BasicMachine$Parser", name := "size", desc := "()I" } : Jvm.MethodName)) ∈ lw_all := lw_g (lw_at lw_m5 113 rfl) rfl
theorem q1195 : (Jvm.Cond.privateMethod ({ cls := "BasicMachine$Parser", name := "size", desc := "()I" } : Jvm.MethodName)) ∈ lw_tbl := lw_at lw_m5 114 rfl
theorem q1196 : (Jvm.Cond.instanceMethod ({ cls := "BasicMachine$Parser", name := "size", desc := "()I" } : Jvm.MethodName)) ∈ lw_all := lw_g (lw_at lw_m5 115 rfl) rfl
theorem q1197 : (Jvm.Cond.code ({ cls := "BasicMachine$Parser", name := "size", desc := "()I" } : Jvm.MethodName) prog_22_method_33_code (1 : Nat) (Option.some Jvm.ClassFile.FieldType.int)) ∈ lw_all := lw_g (lw_at lw_m5 116 rfl) rfl
theorem q1198 : (Jvm.Cond.classLink "BasicMachine$Parser" (307 : Nat) "BasicMachine$Dim") ∈ lw_all := lw_g (lw_at lw_m5 117 rfl) rfl
theorem q1200 : (Jvm.Cond.methodLinkNest "BasicMachine$Parser" (309 : Nat) ({ cls := "BasicMachine$Dim", name := "<init>", desc := "(III)V" } : Jvm.MethodName) "BasicMachine") ∈ lw_tbl := lw_at lw_m5 119 rfl
theorem q1214 : (Jvm.Cond.methodLink "BasicMachine$Parser" (268 : Nat) ({ cls := "BasicMachine$Parser", name := "define", desc := "()LBasicMachine$Statement;" } : Jvm.MethodName)) ∈ lw_all := lw_g (lw_at lw_m5 133 rfl) rfl
theorem q1215 : (Jvm.Cond.privateMethod ({ cls := "BasicMachine$Parser", name := "define", desc := "()LBasicMachine$Statement;" } : Jvm.MethodName)) ∈ lw_tbl := lw_at lw_m5 134 rfl
theorem q1216 : (Jvm.Cond.instanceMethod ({ cls := "BasicMachine$Parser", name := "define", desc := "()LBasicMachine$Statement;" } : Jvm.MethodName)) ∈ lw_all := lw_g (lw_at lw_m5 135 rfl) rfl
theorem q1217 : (Jvm.Cond.code ({ cls := "BasicMachine$Parser", name := "define", desc := "()LBasicMachine$Statement;" } : Jvm.MethodName) prog_22_method_35_code (3 : Nat) (Option.some (Jvm.ClassFile.FieldType.object "BasicMachine$Statement"))) ∈ lw_all := lw_g (lw_at lw_m5 136 rfl) rfl
theorem q1218 : (Jvm.Cond.classLink "BasicMachine$Parser" (312 : Nat) "BasicMachine$Define") ∈ lw_all := lw_g (lw_at lw_m5 137 rfl) rfl
theorem q1220 : (Jvm.Cond.methodLinkNest "BasicMachine$Parser" (314 : Nat) ({ cls := "BasicMachine$Define", name := "<init>", desc := "(IILBasicMachine$Expression;)V" } : Jvm.MethodName) "BasicMachine") ∈ lw_tbl := lw_at lw_m5 139 rfl
theorem q1234 : (Jvm.Cond.methodLink "BasicMachine$Parser" (271 : Nat) ({ cls := "BasicMachine$Parser", name := "mat", desc := "()LBasicMachine$Statement;" } : Jvm.MethodName)) ∈ lw_all := lw_g (lw_at lw_m5 153 rfl) rfl
theorem q1235 : (Jvm.Cond.privateMethod ({ cls := "BasicMachine$Parser", name := "mat", desc := "()LBasicMachine$Statement;" } : Jvm.MethodName)) ∈ lw_tbl := lw_at lw_m5 154 rfl
theorem q1236 : (Jvm.Cond.instanceMethod ({ cls := "BasicMachine$Parser", name := "mat", desc := "()LBasicMachine$Statement;" } : Jvm.MethodName)) ∈ lw_all := lw_g (lw_at lw_m5 155 rfl) rfl
theorem q1237 : (Jvm.Cond.code ({ cls := "BasicMachine$Parser", name := "mat", desc := "()LBasicMachine$Statement;" } : Jvm.MethodName) prog_22_method_36_code (5 : Nat) (Option.some (Jvm.ClassFile.FieldType.object "BasicMachine$Statement"))) ∈ lw_all := lw_g (lw_at lw_m5 156 rfl) rfl
theorem q1238 : (Jvm.Cond.stringRef "BasicMachine$Parser" (317 : Nat) "ZER") ∈ lw_tbl := lw_at lw_m5 157 rfl
theorem q1239 : (Jvm.Cond.stringRef "BasicMachine$Parser" (319 : Nat) "CON") ∈ lw_tbl := lw_at lw_m5 158 rfl
theorem q1240 : (Jvm.Cond.stringRef "BasicMachine$Parser" (321 : Nat) "IDN") ∈ lw_tbl := lw_at lw_m5 159 rfl
theorem q1241 : (Jvm.Cond.classLink "BasicMachine$Parser" (323 : Nat) "BasicMachine$Mat") ∈ lw_all := lw_g (lw_at lw_m5 160 rfl) rfl
theorem q1243 : (Jvm.Cond.methodLinkNest "BasicMachine$Parser" (325 : Nat) ({ cls := "BasicMachine$Mat", name := "<init>", desc := "(ICIILBasicMachine$Expression;)V" } : Jvm.MethodName) "BasicMachine") ∈ lw_tbl := lw_at lw_m5 162 rfl
theorem q1263 : (Jvm.Cond.stringRef "BasicMachine$Parser" (328 : Nat) "TRN(") ∈ lw_tbl := lw_at lw_m5 182 rfl
theorem q1264 : (Jvm.Cond.classLink "BasicMachine$Parser" (274 : Nat) "BasicMachine$Nothing") ∈ lw_all := lw_g (lw_at lw_m5 183 rfl) rfl
theorem q1266 : (Jvm.Cond.methodLinkNest "BasicMachine$Parser" (276 : Nat) ({ cls := "BasicMachine$Nothing", name := "<init>", desc := "(Z)V" } : Jvm.MethodName) "BasicMachine") ∈ lw_tbl := lw_at lw_m5 185 rfl
theorem q2309 : (Jvm.Cond.castable "BasicMachine$Parser" "java/lang/Object") ∈ lw_tbl := lw_at lw_m10 28 rfl
theorem in_X3 : ∀ w ∈ wsX30, w ∈ lw_all := lw_in wsX30 [447, 449, 451, 453, 455, 457] (by decide +kernel) (by decide +kernel)
/-! BasicMachine$Line -/
set_option maxRecDepth 100000
def RX4 : String := "BasicMachine$Line"
def TX4 : u_T := fun k => match k with
  | 0 => ("BasicMachine$Line", "number", "I", true)
  | 1 => ("BasicMachine$Line", "statement", "LBasicMachine$Statement;", true)
  | _ => ("BasicMachine$Line", "next", "LBasicMachine$Line;", false)
def tyX4 : Nat → FieldType := fun k => match k with
  | 0 => .int
  | 1 => .object "BasicMachine$Statement"
  | _ => .object "BasicMachine$Line"
abbrev wsX40 : List Cond := u_ws RX4 TX4 3
theorem nmX4 : ∀ a, a < 3 → ∀ b, b < 3 → a ≠ b → (TX4 a).2.1 ≠ (TX4 b).2.1 := by decide +kernel
theorem tyX4_ok : ∀ k, k < 3 → parseFieldDescriptor (TX4 k).2.2.1 = some (tyX4 k) := by decide +kernel
abbrev cX4_init : ByteArray := prog_13_method_1_code
def yX4_init : MethodName := ⟨RX4, "<init>", "(ILBasicMachine$Statement;)V"⟩
def dkwX4_init_0 : List UInt8 := [42, 183, 0, 1, 42, 27, 181, 0, 7, 42, 44, 181, 0, 13, 177]
abbrev dktX4_init_0 : List UInt8 := dkwX4_init_0 ++ []
theorem dksX4_init_0 : cX4_init.data.toList.drop 0 = dktX4_init_0 := by decide +kernel
theorem dX4_init_0 : decode cX4_init 0 = .ok (.aload_n 0, 1) := dk_42 (dk_at dksX4_init_0 0 rfl rfl)
theorem dX4_init_1 : decode cX4_init 1 = .ok (.invokespecial 1, 3) := dk_183 0 1 (dk_at dksX4_init_0 1 rfl rfl)
theorem dX4_init_4 : decode cX4_init 4 = .ok (.aload_n 0, 1) := dk_42 (dk_at dksX4_init_0 4 rfl rfl)
theorem dX4_init_5 : decode cX4_init 5 = .ok (.iload_n 1, 1) := dk_27 (dk_at dksX4_init_0 5 rfl rfl)
theorem dX4_init_6 : decode cX4_init 6 = .ok (.putfield 7, 3) := dk_181 0 7 (dk_at dksX4_init_0 6 rfl rfl)
theorem dX4_init_9 : decode cX4_init 9 = .ok (.aload_n 0, 1) := dk_42 (dk_at dksX4_init_0 9 rfl rfl)
theorem dX4_init_10 : decode cX4_init 10 = .ok (.aload_n 2, 1) := dk_44 (dk_at dksX4_init_0 10 rfl rfl)
theorem dX4_init_11 : decode cX4_init 11 = .ok (.putfield 13, 3) := dk_181 0 13 (dk_at dksX4_init_0 11 rfl rfl)
theorem dX4_init_14 : decode cX4_init 14 = .ok (.return_, 1) := dk_177 (dk_at dksX4_init_0 14 rfl rfl)
theorem q130 : (Jvm.Cond.initialized "BasicMachine$Line") ∈ lw_all := lw_g (lw_at lw_m1 9 rfl) rfl
theorem q483 : (Jvm.Cond.instantiable "BasicMachine$Line" (3 : Nat)) ∈ lw_all := lw_g (lw_at lw_m2 122 rfl) rfl
theorem q485 : (Jvm.Cond.instanceMethod ({ cls := "BasicMachine$Line", name := "<init>", desc := "(ILBasicMachine$Statement;)V" } : Jvm.MethodName)) ∈ lw_all := lw_g (lw_at lw_m2 124 rfl) rfl
theorem q486 : (Jvm.Cond.code ({ cls := "BasicMachine$Line", name := "<init>", desc := "(ILBasicMachine$Statement;)V" } : Jvm.MethodName) prog_13_method_1_code (3 : Nat) (Option.none : Option Jvm.ClassFile.FieldType)) ∈ lw_all := lw_g (lw_at lw_m2 125 rfl) rfl
theorem q487 : (Jvm.Cond.methodLink "BasicMachine$Line" (1 : Nat) ({ cls := "java/lang/Object", name := "<init>", desc := "()V" } : Jvm.MethodName)) ∈ lw_all := lw_g (lw_at lw_m2 126 rfl) rfl
theorem q488 : (Jvm.Cond.fieldLink "BasicMachine$Line" (7 : Nat) "BasicMachine$Line" "number" "I") ∈ lw_all := lw_g (lw_at lw_m2 127 rfl) rfl
theorem q490 : (Jvm.Cond.fieldLink "BasicMachine$Line" (13 : Nat) "BasicMachine$Line" "statement" "LBasicMachine$Statement;") ∈ lw_all := lw_g (lw_at lw_m2 129 rfl) rfl
theorem q493 : (Jvm.Cond.laysFinal "BasicMachine$Line" "BasicMachine$Line" "number" "I") ∈ lw_all := lw_g (lw_at lw_m2 132 rfl) rfl
theorem q494 : (Jvm.Cond.soleField "BasicMachine$Line" "number") ∈ lw_all := lw_g (lw_at lw_m2 133 rfl) rfl
theorem q495 : (Jvm.Cond.laysFinal "BasicMachine$Line" "BasicMachine$Line" "statement" "LBasicMachine$Statement;") ∈ lw_all := lw_g (lw_at lw_m2 134 rfl) rfl
theorem q496 : (Jvm.Cond.soleField "BasicMachine$Line" "statement") ∈ lw_all := lw_g (lw_at lw_m2 135 rfl) rfl
theorem q497 : (Jvm.Cond.lays "BasicMachine$Line" "BasicMachine$Line" "next" "LBasicMachine$Line;") ∈ lw_all := lw_g (lw_at lw_m2 136 rfl) rfl
theorem q498 : (Jvm.Cond.soleField "BasicMachine$Line" "next") ∈ lw_all := lw_g (lw_at lw_m2 137 rfl) rfl
theorem q499 : (Jvm.Cond.superclass "BasicMachine$Line" "java/lang/Object") ∈ lw_all := lw_g (lw_at lw_m2 138 rfl) rfl
theorem q2310 : (Jvm.Cond.castable "BasicMachine$Line" "java/lang/Object") ∈ lw_tbl := lw_at lw_m10 29 rfl
theorem in_X4 : ∀ w ∈ wsX40, w ∈ lw_all := lw_in wsX40 [493, 495, 497] (by decide +kernel) (by decide +kernel)
/-! BasicMachine$Place -/
set_option maxRecDepth 100000
def RX5 : String := "BasicMachine$Place"
def TX5 : u_T := fun k => match k with
  | 0 => ("BasicMachine$Place", "variable", "LBasicMachine$Variable;", true)
  | _ => ("BasicMachine$Place", "element", "LBasicMachine$Element;", true)
def tyX5 : Nat → FieldType := fun k => match k with
  | 0 => .object "BasicMachine$Variable"
  | _ => .object "BasicMachine$Element"
abbrev wsX50 : List Cond := u_ws RX5 TX5 2
theorem nmX5 : ∀ a, a < 2 → ∀ b, b < 2 → a ≠ b → (TX5 a).2.1 ≠ (TX5 b).2.1 := by decide +kernel
theorem tyX5_ok : ∀ k, k < 2 → parseFieldDescriptor (TX5 k).2.2.1 = some (tyX5 k) := by decide +kernel
abbrev cX5_init : ByteArray := prog_23_method_1_code
def yX5_init : MethodName := ⟨RX5, "<init>", "(LBasicMachine$Variable;LBasicMachine$Element;)V"⟩
def dkwX5_init_0 : List UInt8 := [42, 183, 0, 1, 42, 43, 181, 0, 7, 42, 44, 181, 0, 13, 177]
abbrev dktX5_init_0 : List UInt8 := dkwX5_init_0 ++ []
theorem dksX5_init_0 : cX5_init.data.toList.drop 0 = dktX5_init_0 := by decide +kernel
theorem dX5_init_0 : decode cX5_init 0 = .ok (.aload_n 0, 1) := dk_42 (dk_at dksX5_init_0 0 rfl rfl)
theorem dX5_init_1 : decode cX5_init 1 = .ok (.invokespecial 1, 3) := dk_183 0 1 (dk_at dksX5_init_0 1 rfl rfl)
theorem dX5_init_4 : decode cX5_init 4 = .ok (.aload_n 0, 1) := dk_42 (dk_at dksX5_init_0 4 rfl rfl)
theorem dX5_init_5 : decode cX5_init 5 = .ok (.aload_n 1, 1) := dk_43 (dk_at dksX5_init_0 5 rfl rfl)
theorem dX5_init_6 : decode cX5_init 6 = .ok (.putfield 7, 3) := dk_181 0 7 (dk_at dksX5_init_0 6 rfl rfl)
theorem dX5_init_9 : decode cX5_init 9 = .ok (.aload_n 0, 1) := dk_42 (dk_at dksX5_init_0 9 rfl rfl)
theorem dX5_init_10 : decode cX5_init 10 = .ok (.aload_n 2, 1) := dk_44 (dk_at dksX5_init_0 10 rfl rfl)
theorem dX5_init_11 : decode cX5_init 11 = .ok (.putfield 13, 3) := dk_181 0 13 (dk_at dksX5_init_0 11 rfl rfl)
theorem dX5_init_14 : decode cX5_init 14 = .ok (.return_, 1) := dk_177 (dk_at dksX5_init_0 14 rfl rfl)
abbrev cX5_find : ByteArray := prog_23_method_2_code
def yX5_find : MethodName := ⟨RX5, "find", "(LBasicMachine;)J"⟩
def dkwX5_find_2 : List UInt8 := [180, 0, 13, 182, 0, 38, 182, 0, 42, 32, 22, 4, 182, 0, 45, 20, 0, 51, 32, 105, 22, 4, 97, 173]
abbrev dktX5_find_2 : List UInt8 := dkwX5_find_2 ++ []
def dkwX5_find_1 : List UInt8 := [184, 0, 29, 65, 42, 180, 0, 13, 182, 0, 35, 43, 185, 0, 23, 2, 0, 184, 0, 29, 55, 4, 43, 42]
abbrev dktX5_find_1 : List UInt8 := dkwX5_find_1 ++ dktX5_find_2
def dkwX5_find_0 : List UInt8 := [42, 180, 0, 13, 199, 0, 5, 9, 173, 42, 180, 0, 13, 182, 0, 17, 43, 185, 0, 23, 2, 0]
abbrev dktX5_find_0 : List UInt8 := dkwX5_find_0 ++ dktX5_find_1
theorem dksX5_find_0 : cX5_find.data.toList.drop 0 = dktX5_find_0 := by decide +kernel
theorem dksX5_find_1 : cX5_find.data.toList.drop 22 = dktX5_find_1 := dk_seg dksX5_find_0 22 rfl rfl
theorem dksX5_find_2 : cX5_find.data.toList.drop 46 = dktX5_find_2 := dk_seg dksX5_find_1 24 rfl rfl
theorem dX5_find_0 : decode cX5_find 0 = .ok (.aload_n 0, 1) := dk_42 (dk_at dksX5_find_0 0 rfl rfl)
theorem dX5_find_1 : decode cX5_find 1 = .ok (.getfield 13, 3) := dk_180 0 13 (dk_at dksX5_find_0 1 rfl rfl)
theorem dX5_find_4 : decode cX5_find 4 = .ok (.ifnonnull 5, 3) := dk_199 0 5 (dk_at dksX5_find_0 4 rfl rfl)
theorem dX5_find_7 : decode cX5_find 7 = .ok (.lconst 0, 1) := dk_9 (dk_at dksX5_find_0 7 rfl rfl)
theorem dX5_find_8 : decode cX5_find 8 = .ok (.lreturn, 1) := dk_173 (dk_at dksX5_find_0 8 rfl rfl)
theorem dX5_find_9 : decode cX5_find 9 = .ok (.aload_n 0, 1) := dk_42 (dk_at dksX5_find_0 9 rfl rfl)
theorem dX5_find_10 : decode cX5_find 10 = .ok (.getfield 13, 3) := dk_180 0 13 (dk_at dksX5_find_0 10 rfl rfl)
theorem dX5_find_13 : decode cX5_find 13 = .ok (.invokevirtual 17, 3) := dk_182 0 17 (dk_at dksX5_find_0 13 rfl rfl)
theorem dX5_find_16 : decode cX5_find 16 = .ok (.aload_n 1, 1) := dk_43 (dk_at dksX5_find_0 16 rfl rfl)
theorem dX5_find_17 : decode cX5_find 17 = .ok (.invokeinterface 23 2, 5) := by decide +kernel
theorem dX5_find_22 : decode cX5_find 22 = .ok (.invokestatic 29, 3) := dk_184 0 29 (dk_at dksX5_find_1 0 rfl rfl)
theorem dX5_find_25 : decode cX5_find 25 = .ok (.lstore_n 2, 1) := dk_65 (dk_at dksX5_find_1 3 rfl rfl)
theorem dX5_find_26 : decode cX5_find 26 = .ok (.aload_n 0, 1) := dk_42 (dk_at dksX5_find_1 4 rfl rfl)
theorem dX5_find_27 : decode cX5_find 27 = .ok (.getfield 13, 3) := dk_180 0 13 (dk_at dksX5_find_1 5 rfl rfl)
theorem dX5_find_30 : decode cX5_find 30 = .ok (.invokevirtual 35, 3) := dk_182 0 35 (dk_at dksX5_find_1 8 rfl rfl)
theorem dX5_find_33 : decode cX5_find 33 = .ok (.aload_n 1, 1) := dk_43 (dk_at dksX5_find_1 11 rfl rfl)
theorem dX5_find_34 : decode cX5_find 34 = .ok (.invokeinterface 23 2, 5) := by decide +kernel
theorem dX5_find_39 : decode cX5_find 39 = .ok (.invokestatic 29, 3) := dk_184 0 29 (dk_at dksX5_find_1 17 rfl rfl)
theorem dX5_find_42 : decode cX5_find 42 = .ok (.lstore 4, 2) := dk_55 4 (dk_at dksX5_find_1 20 rfl rfl)
theorem dX5_find_44 : decode cX5_find 44 = .ok (.aload_n 1, 1) := dk_43 (dk_at dksX5_find_1 22 rfl rfl)
theorem dX5_find_45 : decode cX5_find 45 = .ok (.aload_n 0, 1) := dk_42 (dk_at dksX5_find_1 23 rfl rfl)
theorem dX5_find_46 : decode cX5_find 46 = .ok (.getfield 13, 3) := dk_180 0 13 (dk_at dksX5_find_2 0 rfl rfl)
theorem dX5_find_49 : decode cX5_find 49 = .ok (.invokevirtual 38, 3) := dk_182 0 38 (dk_at dksX5_find_2 3 rfl rfl)
theorem dX5_find_52 : decode cX5_find 52 = .ok (.invokevirtual 42, 3) := dk_182 0 42 (dk_at dksX5_find_2 6 rfl rfl)
theorem dX5_find_55 : decode cX5_find 55 = .ok (.lload_n 2, 1) := dk_32 (dk_at dksX5_find_2 9 rfl rfl)
theorem dX5_find_56 : decode cX5_find 56 = .ok (.lload 4, 2) := dk_22 4 (dk_at dksX5_find_2 10 rfl rfl)
theorem dX5_find_58 : decode cX5_find 58 = .ok (.invokevirtual 45, 3) := dk_182 0 45 (dk_at dksX5_find_2 12 rfl rfl)
theorem dX5_find_61 : decode cX5_find 61 = .ok (.ldc2_w 51, 3) := dk_20 0 51 (dk_at dksX5_find_2 15 rfl rfl)
theorem dX5_find_64 : decode cX5_find 64 = .ok (.lload_n 2, 1) := dk_32 (dk_at dksX5_find_2 18 rfl rfl)
theorem dX5_find_65 : decode cX5_find 65 = .ok (.lmul, 1) := dk_105 (dk_at dksX5_find_2 19 rfl rfl)
theorem dX5_find_66 : decode cX5_find 66 = .ok (.lload 4, 2) := dk_22 4 (dk_at dksX5_find_2 20 rfl rfl)
theorem dX5_find_68 : decode cX5_find 68 = .ok (.ladd, 1) := dk_97 (dk_at dksX5_find_2 22 rfl rfl)
theorem dX5_find_69 : decode cX5_find 69 = .ok (.lreturn, 1) := dk_173 (dk_at dksX5_find_2 23 rfl rfl)
abbrev cX5_put : ByteArray := prog_23_method_3_code
def yX5_put : MethodName := ⟨RX5, "put", "(LBasicMachine;JD)V"⟩
def dkwX5_put_2 : List UInt8 := [32, 20, 0, 51, 113, 136, 4, 100, 24, 4, 82, 177]
abbrev dktX5_put_2 : List UInt8 := dkwX5_put_2 ++ []
def dkwX5_put_1 : List UInt8 := [43, 180, 0, 62, 42, 180, 0, 13, 182, 0, 38, 50, 180, 0, 66, 32, 20, 0, 51, 109, 136, 4, 100, 50]
abbrev dktX5_put_1 : List UInt8 := dkwX5_put_1 ++ dktX5_put_2
def dkwX5_put_0 : List UInt8 := [42, 180, 0, 13, 199, 0, 20, 43, 180, 0, 53, 42, 180, 0, 7, 182, 0, 57, 24, 4, 82, 167, 0, 38]
abbrev dktX5_put_0 : List UInt8 := dkwX5_put_0 ++ dktX5_put_1
theorem dksX5_put_0 : cX5_put.data.toList.drop 0 = dktX5_put_0 := by decide +kernel
theorem dksX5_put_1 : cX5_put.data.toList.drop 24 = dktX5_put_1 := dk_seg dksX5_put_0 24 rfl rfl
theorem dksX5_put_2 : cX5_put.data.toList.drop 48 = dktX5_put_2 := dk_seg dksX5_put_1 24 rfl rfl
theorem dX5_put_0 : decode cX5_put 0 = .ok (.aload_n 0, 1) := dk_42 (dk_at dksX5_put_0 0 rfl rfl)
theorem dX5_put_1 : decode cX5_put 1 = .ok (.getfield 13, 3) := dk_180 0 13 (dk_at dksX5_put_0 1 rfl rfl)
theorem dX5_put_4 : decode cX5_put 4 = .ok (.ifnonnull 20, 3) := dk_199 0 20 (dk_at dksX5_put_0 4 rfl rfl)
theorem dX5_put_7 : decode cX5_put 7 = .ok (.aload_n 1, 1) := dk_43 (dk_at dksX5_put_0 7 rfl rfl)
theorem dX5_put_8 : decode cX5_put 8 = .ok (.getfield 53, 3) := dk_180 0 53 (dk_at dksX5_put_0 8 rfl rfl)
theorem dX5_put_11 : decode cX5_put 11 = .ok (.aload_n 0, 1) := dk_42 (dk_at dksX5_put_0 11 rfl rfl)
theorem dX5_put_12 : decode cX5_put 12 = .ok (.getfield 7, 3) := dk_180 0 7 (dk_at dksX5_put_0 12 rfl rfl)
theorem dX5_put_15 : decode cX5_put 15 = .ok (.invokevirtual 57, 3) := dk_182 0 57 (dk_at dksX5_put_0 15 rfl rfl)
theorem dX5_put_18 : decode cX5_put 18 = .ok (.dload 4, 2) := dk_24 4 (dk_at dksX5_put_0 18 rfl rfl)
theorem dX5_put_20 : decode cX5_put 20 = .ok (.dastore, 1) := dk_82 (dk_at dksX5_put_0 20 rfl rfl)
theorem dX5_put_21 : decode cX5_put 21 = .ok (.goto 38, 3) := dk_167 0 38 (dk_at dksX5_put_0 21 rfl rfl)
theorem dX5_put_24 : decode cX5_put 24 = .ok (.aload_n 1, 1) := dk_43 (dk_at dksX5_put_1 0 rfl rfl)
theorem dX5_put_25 : decode cX5_put 25 = .ok (.getfield 62, 3) := dk_180 0 62 (dk_at dksX5_put_1 1 rfl rfl)
theorem dX5_put_28 : decode cX5_put 28 = .ok (.aload_n 0, 1) := dk_42 (dk_at dksX5_put_1 4 rfl rfl)
theorem dX5_put_29 : decode cX5_put 29 = .ok (.getfield 13, 3) := dk_180 0 13 (dk_at dksX5_put_1 5 rfl rfl)
theorem dX5_put_32 : decode cX5_put 32 = .ok (.invokevirtual 38, 3) := dk_182 0 38 (dk_at dksX5_put_1 8 rfl rfl)
theorem dX5_put_35 : decode cX5_put 35 = .ok (.aaload, 1) := dk_50 (dk_at dksX5_put_1 11 rfl rfl)
theorem dX5_put_36 : decode cX5_put 36 = .ok (.getfield 66, 3) := dk_180 0 66 (dk_at dksX5_put_1 12 rfl rfl)
theorem dX5_put_39 : decode cX5_put 39 = .ok (.lload_n 2, 1) := dk_32 (dk_at dksX5_put_1 15 rfl rfl)
theorem dX5_put_40 : decode cX5_put 40 = .ok (.ldc2_w 51, 3) := dk_20 0 51 (dk_at dksX5_put_1 16 rfl rfl)
theorem dX5_put_43 : decode cX5_put 43 = .ok (.ldiv, 1) := dk_109 (dk_at dksX5_put_1 19 rfl rfl)
theorem dX5_put_44 : decode cX5_put 44 = .ok (.l2i, 1) := dk_136 (dk_at dksX5_put_1 20 rfl rfl)
theorem dX5_put_45 : decode cX5_put 45 = .ok (.iconst 1, 1) := dk_4 (dk_at dksX5_put_1 21 rfl rfl)
theorem dX5_put_46 : decode cX5_put 46 = .ok (.isub, 1) := dk_100 (dk_at dksX5_put_1 22 rfl rfl)
theorem dX5_put_47 : decode cX5_put 47 = .ok (.aaload, 1) := dk_50 (dk_at dksX5_put_1 23 rfl rfl)
theorem dX5_put_48 : decode cX5_put 48 = .ok (.lload_n 2, 1) := dk_32 (dk_at dksX5_put_2 0 rfl rfl)
theorem dX5_put_49 : decode cX5_put 49 = .ok (.ldc2_w 51, 3) := dk_20 0 51 (dk_at dksX5_put_2 1 rfl rfl)
theorem dX5_put_52 : decode cX5_put 52 = .ok (.lrem, 1) := dk_113 (dk_at dksX5_put_2 4 rfl rfl)
theorem dX5_put_53 : decode cX5_put 53 = .ok (.l2i, 1) := dk_136 (dk_at dksX5_put_2 5 rfl rfl)
theorem dX5_put_54 : decode cX5_put 54 = .ok (.iconst 1, 1) := dk_4 (dk_at dksX5_put_2 6 rfl rfl)
theorem dX5_put_55 : decode cX5_put 55 = .ok (.isub, 1) := dk_100 (dk_at dksX5_put_2 7 rfl rfl)
theorem dX5_put_56 : decode cX5_put 56 = .ok (.dload 4, 2) := dk_24 4 (dk_at dksX5_put_2 8 rfl rfl)
theorem dX5_put_58 : decode cX5_put 58 = .ok (.dastore, 1) := dk_82 (dk_at dksX5_put_2 10 rfl rfl)
theorem dX5_put_59 : decode cX5_put 59 = .ok (.return_, 1) := dk_177 (dk_at dksX5_put_2 11 rfl rfl)
theorem q144 : (Jvm.Cond.initialized "BasicMachine$Place") ∈ lw_all := lw_g (lw_at lw_m1 23 rfl) rfl
theorem q199 : (Jvm.Cond.fieldLinkNest "BasicMachine$Place" (53 : Nat) "BasicMachine" "variables" "[D" "BasicMachine") ∈ lw_tbl := lw_at lw_m1 78 rfl
theorem q203 : (Jvm.Cond.fieldLinkNest "BasicMachine$Place" (62 : Nat) "BasicMachine" "matrices" "[LBasicMachine$Matrix;" "BasicMachine") ∈ lw_tbl := lw_at lw_m1 82 rfl
theorem q862 : (Jvm.Cond.instantiable "BasicMachine$Place" (2 : Nat)) ∈ lw_all := lw_g (lw_at lw_m4 21 rfl) rfl
theorem q1023 : (Jvm.Cond.instanceMethod ({ cls := "BasicMachine$Place", name := "<init>", desc := "(LBasicMachine$Variable;LBasicMachine$Element;)V" } : Jvm.MethodName)) ∈ lw_all := lw_g (lw_at lw_m4 182 rfl) rfl
theorem q1024 : (Jvm.Cond.code ({ cls := "BasicMachine$Place", name := "<init>", desc := "(LBasicMachine$Variable;LBasicMachine$Element;)V" } : Jvm.MethodName) prog_23_method_1_code (3 : Nat) (Option.none : Option Jvm.ClassFile.FieldType)) ∈ lw_all := lw_g (lw_at lw_m4 183 rfl) rfl
theorem q1025 : (Jvm.Cond.methodLink "BasicMachine$Place" (1 : Nat) ({ cls := "java/lang/Record", name := "<init>", desc := "()V" } : Jvm.MethodName)) ∈ lw_all := lw_g (lw_at lw_m4 184 rfl) rfl
theorem q1026 : (Jvm.Cond.fieldLink "BasicMachine$Place" (7 : Nat) "BasicMachine$Place" "variable" "LBasicMachine$Variable;") ∈ lw_all := lw_g (lw_at lw_m4 185 rfl) rfl
theorem q1027 : (Jvm.Cond.fieldLink "BasicMachine$Place" (13 : Nat) "BasicMachine$Place" "element" "LBasicMachine$Element;") ∈ lw_all := lw_g (lw_at lw_m4 186 rfl) rfl
theorem q1028 : (Jvm.Cond.laysFinal "BasicMachine$Place" "BasicMachine$Place" "variable" "LBasicMachine$Variable;") ∈ lw_all := lw_g (lw_at lw_m4 187 rfl) rfl
theorem q1029 : (Jvm.Cond.soleField "BasicMachine$Place" "variable") ∈ lw_all := lw_g (lw_at lw_m4 188 rfl) rfl
theorem q1030 : (Jvm.Cond.laysFinal "BasicMachine$Place" "BasicMachine$Place" "element" "LBasicMachine$Element;") ∈ lw_all := lw_g (lw_at lw_m4 189 rfl) rfl
theorem q1031 : (Jvm.Cond.soleField "BasicMachine$Place" "element") ∈ lw_all := lw_g (lw_at lw_m4 190 rfl) rfl
theorem q1032 : (Jvm.Cond.superclass "BasicMachine$Place" "java/lang/Record") ∈ lw_all := lw_g (lw_at lw_m4 191 rfl) rfl
theorem q1384 : (Jvm.Cond.fieldLink "BasicMachine$Place" (66 : Nat) "BasicMachine$Matrix" "cells" "[[D") ∈ lw_all := lw_g (lw_at lw_m6 63 rfl) rfl
theorem q1607 : (Jvm.Cond.instanceMethod ({ cls := "BasicMachine$Place", name := "find", desc := "(LBasicMachine;)J" } : Jvm.MethodName)) ∈ lw_all := lw_g (lw_at lw_m7 46 rfl) rfl
theorem q1608 : (Jvm.Cond.selects "BasicMachine$Place" ({ cls := "BasicMachine$Place", name := "find", desc := "(LBasicMachine;)J" } : Jvm.MethodName) ({ cls := "BasicMachine$Place", name := "find", desc := "(LBasicMachine;)J" } : Jvm.MethodName)) ∈ lw_all := lw_g (lw_at lw_m7 47 rfl) rfl
theorem q1609 : (Jvm.Cond.code ({ cls := "BasicMachine$Place", name := "find", desc := "(LBasicMachine;)J" } : Jvm.MethodName) prog_23_method_2_code (6 : Nat) (Option.some Jvm.ClassFile.FieldType.long)) ∈ lw_all := lw_g (lw_at lw_m7 48 rfl) rfl
theorem q1610 : (Jvm.Cond.methodLink "BasicMachine$Place" (17 : Nat) ({ cls := "BasicMachine$Element", name := "i", desc := "()LBasicMachine$Expression;" } : Jvm.MethodName)) ∈ lw_all := lw_g (lw_at lw_m7 49 rfl) rfl
theorem q1614 : (Jvm.Cond.interfaceEntry "BasicMachine$Place" (23 : Nat)) ∈ lw_tbl := lw_at lw_m7 53 rfl
theorem q1615 : (Jvm.Cond.methodLink "BasicMachine$Place" (23 : Nat) ({ cls := "BasicMachine$Expression", name := "value", desc := "(LBasicMachine;)D" } : Jvm.MethodName)) ∈ lw_all := lw_g (lw_at lw_m7 54 rfl) rfl
theorem q1616 : (Jvm.Cond.methodLinkNest "BasicMachine$Place" (29 : Nat) ({ cls := "BasicMachine", name := "whole", desc := "(D)J" } : Jvm.MethodName) "BasicMachine") ∈ lw_tbl := lw_at lw_m7 55 rfl
theorem q1617 : (Jvm.Cond.methodLink "BasicMachine$Place" (35 : Nat) ({ cls := "BasicMachine$Element", name := "j", desc := "()LBasicMachine$Expression;" } : Jvm.MethodName)) ∈ lw_all := lw_g (lw_at lw_m7 56 rfl) rfl
theorem q1621 : (Jvm.Cond.methodLink "BasicMachine$Place" (38 : Nat) ({ cls := "BasicMachine$Element", name := "matrix", desc := "()I" } : Jvm.MethodName)) ∈ lw_all := lw_g (lw_at lw_m7 60 rfl) rfl
theorem q1625 : (Jvm.Cond.methodLinkNest "BasicMachine$Place" (42 : Nat) ({ cls := "BasicMachine", name := "matrix", desc := "(I)LBasicMachine$Matrix;" } : Jvm.MethodName) "BasicMachine") ∈ lw_tbl := lw_at lw_m7 64 rfl
theorem q1626 : (Jvm.Cond.methodLinkNest "BasicMachine$Place" (45 : Nat) ({ cls := "BasicMachine$Matrix", name := "check", desc := "(JJ)V" } : Jvm.MethodName) "BasicMachine") ∈ lw_tbl := lw_at lw_m7 65 rfl
theorem q1627 : (Jvm.Cond.constantLong "BasicMachine$Place" (51 : Nat) (8 : Int64)) ∈ lw_all := lw_g (lw_at lw_m7 66 rfl) rfl
theorem q1631 : (Jvm.Cond.instanceMethod ({ cls := "BasicMachine$Place", name := "put", desc := "(LBasicMachine;JD)V" } : Jvm.MethodName)) ∈ lw_all := lw_g (lw_at lw_m7 70 rfl) rfl
theorem q1632 : (Jvm.Cond.selects "BasicMachine$Place" ({ cls := "BasicMachine$Place", name := "put", desc := "(LBasicMachine;JD)V" } : Jvm.MethodName) ({ cls := "BasicMachine$Place", name := "put", desc := "(LBasicMachine;JD)V" } : Jvm.MethodName)) ∈ lw_all := lw_g (lw_at lw_m7 71 rfl) rfl
theorem q1633 : (Jvm.Cond.code ({ cls := "BasicMachine$Place", name := "put", desc := "(LBasicMachine;JD)V" } : Jvm.MethodName) prog_23_method_3_code (6 : Nat) (Option.none : Option Jvm.ClassFile.FieldType)) ∈ lw_all := lw_g (lw_at lw_m7 72 rfl) rfl
theorem q1634 : (Jvm.Cond.methodLink "BasicMachine$Place" (57 : Nat) ({ cls := "BasicMachine$Variable", name := "s", desc := "()I" } : Jvm.MethodName)) ∈ lw_all := lw_g (lw_at lw_m7 73 rfl) rfl
theorem q2314 : (Jvm.Cond.castable "BasicMachine$Place" "java/lang/Object") ∈ lw_tbl := lw_at lw_m10 33 rfl
theorem in_X5 : ∀ w ∈ wsX50, w ∈ lw_all := lw_in wsX50 [1028, 1030] (by decide +kernel) (by decide +kernel)
/-! BasicMachine$Numeral -/
set_option maxRecDepth 100000
def RX6 : String := "BasicMachine$Numeral"
def TX6 : u_T := fun k => match k with
  | _ => ("BasicMachine$Numeral", "v", "D", true)
def tyX6 : Nat → FieldType := fun k => match k with
  | _ => .double
abbrev wsX60 : List Cond := u_ws RX6 TX6 1
theorem nmX6 : ∀ a, a < 1 → ∀ b, b < 1 → a ≠ b → (TX6 a).2.1 ≠ (TX6 b).2.1 := by decide +kernel
theorem tyX6_ok : ∀ k, k < 1 → parseFieldDescriptor (TX6 k).2.2.1 = some (tyX6 k) := by decide +kernel
abbrev cX6_init : ByteArray := prog_19_method_1_code
def yX6_init : MethodName := ⟨RX6, "<init>", "(D)V"⟩
def dkwX6_init_0 : List UInt8 := [42, 183, 0, 1, 42, 39, 181, 0, 7, 177]
abbrev dktX6_init_0 : List UInt8 := dkwX6_init_0 ++ []
theorem dksX6_init_0 : cX6_init.data.toList.drop 0 = dktX6_init_0 := by decide +kernel
theorem dX6_init_0 : decode cX6_init 0 = .ok (.aload_n 0, 1) := dk_42 (dk_at dksX6_init_0 0 rfl rfl)
theorem dX6_init_1 : decode cX6_init 1 = .ok (.invokespecial 1, 3) := dk_183 0 1 (dk_at dksX6_init_0 1 rfl rfl)
theorem dX6_init_4 : decode cX6_init 4 = .ok (.aload_n 0, 1) := dk_42 (dk_at dksX6_init_0 4 rfl rfl)
theorem dX6_init_5 : decode cX6_init 5 = .ok (.dload_n 1, 1) := dk_39 (dk_at dksX6_init_0 5 rfl rfl)
theorem dX6_init_6 : decode cX6_init 6 = .ok (.putfield 7, 3) := dk_181 0 7 (dk_at dksX6_init_0 6 rfl rfl)
theorem dX6_init_9 : decode cX6_init 9 = .ok (.return_, 1) := dk_177 (dk_at dksX6_init_0 9 rfl rfl)
abbrev cX6_value : ByteArray := prog_19_method_2_code
def yX6_value : MethodName := ⟨RX6, "value", "(LBasicMachine;)D"⟩
theorem dX6_value_0 : decode cX6_value 0 = .ok (.aload_n 0, 1) := by decide +kernel
theorem dX6_value_1 : decode cX6_value 1 = .ok (.getfield 7, 3) := by decide +kernel
theorem dX6_value_4 : decode cX6_value 4 = .ok (.dreturn, 1) := by decide +kernel
theorem q145 : (Jvm.Cond.initialized "BasicMachine$Numeral") ∈ lw_all := lw_g (lw_at lw_m1 24 rfl) rfl
theorem q900 : (Jvm.Cond.instantiable "BasicMachine$Numeral" (1 : Nat)) ∈ lw_all := lw_g (lw_at lw_m4 59 rfl) rfl
theorem q909 : (Jvm.Cond.instanceMethod ({ cls := "BasicMachine$Numeral", name := "<init>", desc := "(D)V" } : Jvm.MethodName)) ∈ lw_all := lw_g (lw_at lw_m4 68 rfl) rfl
theorem q910 : (Jvm.Cond.code ({ cls := "BasicMachine$Numeral", name := "<init>", desc := "(D)V" } : Jvm.MethodName) prog_19_method_1_code (3 : Nat) (Option.none : Option Jvm.ClassFile.FieldType)) ∈ lw_all := lw_g (lw_at lw_m4 69 rfl) rfl
theorem q911 : (Jvm.Cond.methodLink "BasicMachine$Numeral" (1 : Nat) ({ cls := "java/lang/Record", name := "<init>", desc := "()V" } : Jvm.MethodName)) ∈ lw_all := lw_g (lw_at lw_m4 70 rfl) rfl
theorem q915 : (Jvm.Cond.fieldLink "BasicMachine$Numeral" (7 : Nat) "BasicMachine$Numeral" "v" "D") ∈ lw_all := lw_g (lw_at lw_m4 74 rfl) rfl
theorem q916 : (Jvm.Cond.laysFinal "BasicMachine$Numeral" "BasicMachine$Numeral" "v" "D") ∈ lw_all := lw_g (lw_at lw_m4 75 rfl) rfl
theorem q917 : (Jvm.Cond.soleField "BasicMachine$Numeral" "v") ∈ lw_all := lw_g (lw_at lw_m4 76 rfl) rfl
theorem q918 : (Jvm.Cond.superclass "BasicMachine$Numeral" "java/lang/Record") ∈ lw_all := lw_g (lw_at lw_m4 77 rfl) rfl
theorem q1429 : (Jvm.Cond.castable "BasicMachine$Numeral" "BasicMachine$Expression") ∈ lw_tbl := lw_at lw_m6 108 rfl
theorem q1430 : (Jvm.Cond.selects "BasicMachine$Numeral" ({ cls := "BasicMachine$Expression", name := "value", desc := "(LBasicMachine;)D" } : Jvm.MethodName) ({ cls := "BasicMachine$Numeral", name := "value", desc := "(LBasicMachine;)D" } : Jvm.MethodName)) ∈ lw_all := lw_g (lw_at lw_m6 109 rfl) rfl
theorem q1431 : (Jvm.Cond.unhidden "BasicMachine$Numeral" "value" "(LBasicMachine;)D") ∈ lw_tbl := lw_at lw_m6 110 rfl
theorem q1432 : (Jvm.Cond.instanceMethod ({ cls := "BasicMachine$Numeral", name := "value", desc := "(LBasicMachine;)D" } : Jvm.MethodName)) ∈ lw_all := lw_g (lw_at lw_m6 111 rfl) rfl
theorem q1433 : (Jvm.Cond.publicMethod ({ cls := "BasicMachine$Numeral", name := "value", desc := "(LBasicMachine;)D" } : Jvm.MethodName)) ∈ lw_tbl := lw_at lw_m6 112 rfl
theorem q1434 : (Jvm.Cond.code ({ cls := "BasicMachine$Numeral", name := "value", desc := "(LBasicMachine;)D" } : Jvm.MethodName) prog_19_method_2_code (2 : Nat) (Option.some Jvm.ClassFile.FieldType.double)) ∈ lw_all := lw_g (lw_at lw_m6 113 rfl) rfl
theorem q2315 : (Jvm.Cond.castable "BasicMachine$Numeral" "java/lang/Object") ∈ lw_tbl := lw_at lw_m10 34 rfl
theorem in_X6 : ∀ w ∈ wsX60, w ∈ lw_all := lw_in wsX60 [916] (by decide +kernel) (by decide +kernel)
/-! BasicMachine$Single -/
set_option maxRecDepth 100000
def RX7 : String := "BasicMachine$Single"
def TX7 : u_T := fun k => match k with
  | 0 => ("BasicMachine$Single", "what", "C", true)
  | _ => ("BasicMachine$Single", "a", "LBasicMachine$Expression;", true)
def tyX7 : Nat → FieldType := fun k => match k with
  | 0 => .char
  | _ => .object "BasicMachine$Expression"
abbrev wsX70 : List Cond := u_ws RX7 TX7 2
theorem nmX7 : ∀ a, a < 2 → ∀ b, b < 2 → a ≠ b → (TX7 a).2.1 ≠ (TX7 b).2.1 := by decide +kernel
theorem tyX7_ok : ∀ k, k < 2 → parseFieldDescriptor (TX7 k).2.2.1 = some (tyX7 k) := by decide +kernel
abbrev cX7_init : ByteArray := prog_28_method_1_code
def yX7_init : MethodName := ⟨RX7, "<init>", "(CLBasicMachine$Expression;)V"⟩
def dkwX7_init_0 : List UInt8 := [42, 183, 0, 1, 42, 27, 181, 0, 7, 42, 44, 181, 0, 13, 177]
abbrev dktX7_init_0 : List UInt8 := dkwX7_init_0 ++ []
theorem dksX7_init_0 : cX7_init.data.toList.drop 0 = dktX7_init_0 := by decide +kernel
theorem dX7_init_0 : decode cX7_init 0 = .ok (.aload_n 0, 1) := dk_42 (dk_at dksX7_init_0 0 rfl rfl)
theorem dX7_init_1 : decode cX7_init 1 = .ok (.invokespecial 1, 3) := dk_183 0 1 (dk_at dksX7_init_0 1 rfl rfl)
theorem dX7_init_4 : decode cX7_init 4 = .ok (.aload_n 0, 1) := dk_42 (dk_at dksX7_init_0 4 rfl rfl)
theorem dX7_init_5 : decode cX7_init 5 = .ok (.iload_n 1, 1) := dk_27 (dk_at dksX7_init_0 5 rfl rfl)
theorem dX7_init_6 : decode cX7_init 6 = .ok (.putfield 7, 3) := dk_181 0 7 (dk_at dksX7_init_0 6 rfl rfl)
theorem dX7_init_9 : decode cX7_init 9 = .ok (.aload_n 0, 1) := dk_42 (dk_at dksX7_init_0 9 rfl rfl)
theorem dX7_init_10 : decode cX7_init 10 = .ok (.aload_n 2, 1) := dk_44 (dk_at dksX7_init_0 10 rfl rfl)
theorem dX7_init_11 : decode cX7_init 11 = .ok (.putfield 13, 3) := dk_181 0 13 (dk_at dksX7_init_0 11 rfl rfl)
theorem dX7_init_14 : decode cX7_init 14 = .ok (.return_, 1) := dk_177 (dk_at dksX7_init_0 14 rfl rfl)
abbrev cX7_value : ByteArray := prog_28_method_2_code
def yX7_value : MethodName := ⟨RX7, "value", "(LBasicMachine;)D"⟩
def dkwX7_value_3 : List UInt8 := [158, 0, 7, 15, 167, 0, 16, 40, 14, 152, 156, 0, 9, 20, 0, 27, 167, 0, 4, 14, 175]
abbrev dktX7_value_3 : List UInt8 := dkwX7_value_3 ++ []
def dkwX7_value_2 : List UInt8 := [40, 119, 175, 40, 14, 152, 156, 0, 8, 40, 119, 167, 0, 4, 40, 175, 40, 184, 0, 23, 175, 40, 14, 151]
abbrev dktX7_value_2 : List UInt8 := dkwX7_value_2 ++ dktX7_value_3
def dkwX7_value_1 : List UInt8 := [171, 0, 0, 0, 54, 0, 0, 0, 3, 0, 0, 0, 45, 0, 0, 0, 33, 0, 0, 0, 65, 0, 0, 0, 36, 0, 0, 0, 73, 0, 0, 0, 49]
abbrev dktX7_value_1 : List UInt8 := dkwX7_value_1 ++ dktX7_value_2
def dkwX7_value_0 : List UInt8 := [42, 180, 0, 13, 43, 185, 0, 17, 2, 0, 73, 42, 180, 0, 7]
abbrev dktX7_value_0 : List UInt8 := dkwX7_value_0 ++ dktX7_value_1
theorem dksX7_value_0 : cX7_value.data.toList.drop 0 = dktX7_value_0 := by decide +kernel
theorem dksX7_value_1 : cX7_value.data.toList.drop 15 = dktX7_value_1 := dk_seg dksX7_value_0 15 rfl rfl
theorem dksX7_value_2 : cX7_value.data.toList.drop 48 = dktX7_value_2 := dk_seg dksX7_value_1 33 rfl rfl
theorem dksX7_value_3 : cX7_value.data.toList.drop 72 = dktX7_value_3 := dk_seg dksX7_value_2 24 rfl rfl
theorem dX7_value_0 : decode cX7_value 0 = .ok (.aload_n 0, 1) := dk_42 (dk_at dksX7_value_0 0 rfl rfl)
theorem dX7_value_1 : decode cX7_value 1 = .ok (.getfield 13, 3) := dk_180 0 13 (dk_at dksX7_value_0 1 rfl rfl)
theorem dX7_value_4 : decode cX7_value 4 = .ok (.aload_n 1, 1) := dk_43 (dk_at dksX7_value_0 4 rfl rfl)
theorem dX7_value_5 : decode cX7_value 5 = .ok (.invokeinterface 17 2, 5) := by decide +kernel
theorem dX7_value_10 : decode cX7_value 10 = .ok (.dstore_n 2, 1) := dk_73 (dk_at dksX7_value_0 10 rfl rfl)
theorem dX7_value_11 : decode cX7_value 11 = .ok (.aload_n 0, 1) := dk_42 (dk_at dksX7_value_0 11 rfl rfl)
theorem dX7_value_12 : decode cX7_value 12 = .ok (.getfield 7, 3) := dk_180 0 7 (dk_at dksX7_value_0 12 rfl rfl)
theorem dX7_value_15 : decode cX7_value 15 = .ok (.lookupswitch 54 #[(45, 33), (65, 36), (73, 49)], 33) := by decide +kernel
theorem dX7_value_48 : decode cX7_value 48 = .ok (.dload_n 2, 1) := dk_40 (dk_at dksX7_value_2 0 rfl rfl)
theorem dX7_value_49 : decode cX7_value 49 = .ok (.dneg, 1) := dk_119 (dk_at dksX7_value_2 1 rfl rfl)
theorem dX7_value_50 : decode cX7_value 50 = .ok (.dreturn, 1) := dk_175 (dk_at dksX7_value_2 2 rfl rfl)
theorem dX7_value_51 : decode cX7_value 51 = .ok (.dload_n 2, 1) := dk_40 (dk_at dksX7_value_2 3 rfl rfl)
theorem dX7_value_52 : decode cX7_value 52 = .ok (.dconst 0, 1) := dk_14 (dk_at dksX7_value_2 4 rfl rfl)
theorem dX7_value_53 : decode cX7_value 53 = .ok (.dcmp .g, 1) := dk_152 (dk_at dksX7_value_2 5 rfl rfl)
theorem dX7_value_54 : decode cX7_value 54 = .ok (.ifCond .ge 8, 3) := dk_156 0 8 (dk_at dksX7_value_2 6 rfl rfl)
theorem dX7_value_57 : decode cX7_value 57 = .ok (.dload_n 2, 1) := dk_40 (dk_at dksX7_value_2 9 rfl rfl)
theorem dX7_value_58 : decode cX7_value 58 = .ok (.dneg, 1) := dk_119 (dk_at dksX7_value_2 10 rfl rfl)
theorem dX7_value_59 : decode cX7_value 59 = .ok (.goto 4, 3) := dk_167 0 4 (dk_at dksX7_value_2 11 rfl rfl)
theorem dX7_value_62 : decode cX7_value 62 = .ok (.dload_n 2, 1) := dk_40 (dk_at dksX7_value_2 14 rfl rfl)
theorem dX7_value_63 : decode cX7_value 63 = .ok (.dreturn, 1) := dk_175 (dk_at dksX7_value_2 15 rfl rfl)
theorem dX7_value_64 : decode cX7_value 64 = .ok (.dload_n 2, 1) := dk_40 (dk_at dksX7_value_2 16 rfl rfl)
theorem dX7_value_65 : decode cX7_value 65 = .ok (.invokestatic 23, 3) := dk_184 0 23 (dk_at dksX7_value_2 17 rfl rfl)
theorem dX7_value_68 : decode cX7_value 68 = .ok (.dreturn, 1) := dk_175 (dk_at dksX7_value_2 20 rfl rfl)
theorem dX7_value_69 : decode cX7_value 69 = .ok (.dload_n 2, 1) := dk_40 (dk_at dksX7_value_2 21 rfl rfl)
theorem dX7_value_70 : decode cX7_value 70 = .ok (.dconst 0, 1) := dk_14 (dk_at dksX7_value_2 22 rfl rfl)
theorem dX7_value_71 : decode cX7_value 71 = .ok (.dcmp .l, 1) := dk_151 (dk_at dksX7_value_2 23 rfl rfl)
theorem dX7_value_72 : decode cX7_value 72 = .ok (.ifCond .le 7, 3) := dk_158 0 7 (dk_at dksX7_value_3 0 rfl rfl)
theorem dX7_value_75 : decode cX7_value 75 = .ok (.dconst 1, 1) := dk_15 (dk_at dksX7_value_3 3 rfl rfl)
theorem dX7_value_76 : decode cX7_value 76 = .ok (.goto 16, 3) := dk_167 0 16 (dk_at dksX7_value_3 4 rfl rfl)
theorem dX7_value_79 : decode cX7_value 79 = .ok (.dload_n 2, 1) := dk_40 (dk_at dksX7_value_3 7 rfl rfl)
theorem dX7_value_80 : decode cX7_value 80 = .ok (.dconst 0, 1) := dk_14 (dk_at dksX7_value_3 8 rfl rfl)
theorem dX7_value_81 : decode cX7_value 81 = .ok (.dcmp .g, 1) := dk_152 (dk_at dksX7_value_3 9 rfl rfl)
theorem dX7_value_82 : decode cX7_value 82 = .ok (.ifCond .ge 9, 3) := dk_156 0 9 (dk_at dksX7_value_3 10 rfl rfl)
theorem dX7_value_85 : decode cX7_value 85 = .ok (.ldc2_w 27, 3) := dk_20 0 27 (dk_at dksX7_value_3 13 rfl rfl)
theorem dX7_value_88 : decode cX7_value 88 = .ok (.goto 4, 3) := dk_167 0 4 (dk_at dksX7_value_3 16 rfl rfl)
theorem dX7_value_91 : decode cX7_value 91 = .ok (.dconst 0, 1) := dk_14 (dk_at dksX7_value_3 19 rfl rfl)
theorem dX7_value_92 : decode cX7_value 92 = .ok (.dreturn, 1) := dk_175 (dk_at dksX7_value_3 20 rfl rfl)
abbrev cX7_floor : ByteArray := prog_28_method_3_code
def yX7_floor : MethodName := ⟨RX7, "floor", "(D)D"⟩
def dkwX7_floor_0 : List UInt8 := [38, 184, 0, 29, 138, 73, 40, 38, 151, 158, 0, 9, 40, 15, 103, 167, 0, 4, 40, 175]
abbrev dktX7_floor_0 : List UInt8 := dkwX7_floor_0 ++ []
theorem dksX7_floor_0 : cX7_floor.data.toList.drop 0 = dktX7_floor_0 := by decide +kernel
theorem dX7_floor_0 : decode cX7_floor 0 = .ok (.dload_n 0, 1) := dk_38 (dk_at dksX7_floor_0 0 rfl rfl)
theorem dX7_floor_1 : decode cX7_floor 1 = .ok (.invokestatic 29, 3) := dk_184 0 29 (dk_at dksX7_floor_0 1 rfl rfl)
theorem dX7_floor_4 : decode cX7_floor 4 = .ok (.l2d, 1) := dk_138 (dk_at dksX7_floor_0 4 rfl rfl)
theorem dX7_floor_5 : decode cX7_floor 5 = .ok (.dstore_n 2, 1) := dk_73 (dk_at dksX7_floor_0 5 rfl rfl)
theorem dX7_floor_6 : decode cX7_floor 6 = .ok (.dload_n 2, 1) := dk_40 (dk_at dksX7_floor_0 6 rfl rfl)
theorem dX7_floor_7 : decode cX7_floor 7 = .ok (.dload_n 0, 1) := dk_38 (dk_at dksX7_floor_0 7 rfl rfl)
theorem dX7_floor_8 : decode cX7_floor 8 = .ok (.dcmp .l, 1) := dk_151 (dk_at dksX7_floor_0 8 rfl rfl)
theorem dX7_floor_9 : decode cX7_floor 9 = .ok (.ifCond .le 9, 3) := dk_158 0 9 (dk_at dksX7_floor_0 9 rfl rfl)
theorem dX7_floor_12 : decode cX7_floor 12 = .ok (.dload_n 2, 1) := dk_40 (dk_at dksX7_floor_0 12 rfl rfl)
theorem dX7_floor_13 : decode cX7_floor 13 = .ok (.dconst 1, 1) := dk_15 (dk_at dksX7_floor_0 13 rfl rfl)
theorem dX7_floor_14 : decode cX7_floor 14 = .ok (.dsub, 1) := dk_103 (dk_at dksX7_floor_0 14 rfl rfl)
theorem dX7_floor_15 : decode cX7_floor 15 = .ok (.goto 4, 3) := dk_167 0 4 (dk_at dksX7_floor_0 15 rfl rfl)
theorem dX7_floor_18 : decode cX7_floor 18 = .ok (.dload_n 2, 1) := dk_40 (dk_at dksX7_floor_0 18 rfl rfl)
theorem dX7_floor_19 : decode cX7_floor 19 = .ok (.dreturn, 1) := dk_175 (dk_at dksX7_floor_0 19 rfl rfl)
theorem q146 : (Jvm.Cond.initialized "BasicMachine$Single") ∈ lw_all := lw_g (lw_at lw_m1 25 rfl) rfl
theorem q943 : (Jvm.Cond.instantiable "BasicMachine$Single" (2 : Nat)) ∈ lw_all := lw_g (lw_at lw_m4 102 rfl) rfl
theorem q945 : (Jvm.Cond.instanceMethod ({ cls := "BasicMachine$Single", name := "<init>", desc := "(CLBasicMachine$Expression;)V" } : Jvm.MethodName)) ∈ lw_all := lw_g (lw_at lw_m4 104 rfl) rfl
theorem q946 : (Jvm.Cond.code ({ cls := "BasicMachine$Single", name := "<init>", desc := "(CLBasicMachine$Expression;)V" } : Jvm.MethodName) prog_28_method_1_code (3 : Nat) (Option.none : Option Jvm.ClassFile.FieldType)) ∈ lw_all := lw_g (lw_at lw_m4 105 rfl) rfl
theorem q947 : (Jvm.Cond.methodLink "BasicMachine$Single" (1 : Nat) ({ cls := "java/lang/Record", name := "<init>", desc := "()V" } : Jvm.MethodName)) ∈ lw_all := lw_g (lw_at lw_m4 106 rfl) rfl
theorem q948 : (Jvm.Cond.fieldLink "BasicMachine$Single" (7 : Nat) "BasicMachine$Single" "what" "C") ∈ lw_all := lw_g (lw_at lw_m4 107 rfl) rfl
theorem q949 : (Jvm.Cond.fieldLink "BasicMachine$Single" (13 : Nat) "BasicMachine$Single" "a" "LBasicMachine$Expression;") ∈ lw_all := lw_g (lw_at lw_m4 108 rfl) rfl
theorem q950 : (Jvm.Cond.laysFinal "BasicMachine$Single" "BasicMachine$Single" "what" "C") ∈ lw_all := lw_g (lw_at lw_m4 109 rfl) rfl
theorem q951 : (Jvm.Cond.soleField "BasicMachine$Single" "what") ∈ lw_all := lw_g (lw_at lw_m4 110 rfl) rfl
theorem q952 : (Jvm.Cond.laysFinal "BasicMachine$Single" "BasicMachine$Single" "a" "LBasicMachine$Expression;") ∈ lw_all := lw_g (lw_at lw_m4 111 rfl) rfl
theorem q953 : (Jvm.Cond.soleField "BasicMachine$Single" "a") ∈ lw_all := lw_g (lw_at lw_m4 112 rfl) rfl
theorem q954 : (Jvm.Cond.superclass "BasicMachine$Single" "java/lang/Record") ∈ lw_all := lw_g (lw_at lw_m4 113 rfl) rfl
theorem q1443 : (Jvm.Cond.castable "BasicMachine$Single" "BasicMachine$Expression") ∈ lw_tbl := lw_at lw_m6 122 rfl
theorem q1444 : (Jvm.Cond.selects "BasicMachine$Single" ({ cls := "BasicMachine$Expression", name := "value", desc := "(LBasicMachine;)D" } : Jvm.MethodName) ({ cls := "BasicMachine$Single", name := "value", desc := "(LBasicMachine;)D" } : Jvm.MethodName)) ∈ lw_all := lw_g (lw_at lw_m6 123 rfl) rfl
theorem q1445 : (Jvm.Cond.unhidden "BasicMachine$Single" "value" "(LBasicMachine;)D") ∈ lw_tbl := lw_at lw_m6 124 rfl
theorem q1446 : (Jvm.Cond.instanceMethod ({ cls := "BasicMachine$Single", name := "value", desc := "(LBasicMachine;)D" } : Jvm.MethodName)) ∈ lw_all := lw_g (lw_at lw_m6 125 rfl) rfl
theorem q1447 : (Jvm.Cond.publicMethod ({ cls := "BasicMachine$Single", name := "value", desc := "(LBasicMachine;)D" } : Jvm.MethodName)) ∈ lw_tbl := lw_at lw_m6 126 rfl
theorem q1448 : (Jvm.Cond.code ({ cls := "BasicMachine$Single", name := "value", desc := "(LBasicMachine;)D" } : Jvm.MethodName) prog_28_method_2_code (4 : Nat) (Option.some Jvm.ClassFile.FieldType.double)) ∈ lw_all := lw_g (lw_at lw_m6 127 rfl) rfl
theorem q1449 : (Jvm.Cond.interfaceEntry "BasicMachine$Single" (17 : Nat)) ∈ lw_tbl := lw_at lw_m6 128 rfl
theorem q1450 : (Jvm.Cond.methodLink "BasicMachine$Single" (17 : Nat) ({ cls := "BasicMachine$Expression", name := "value", desc := "(LBasicMachine;)D" } : Jvm.MethodName)) ∈ lw_all := lw_g (lw_at lw_m6 129 rfl) rfl
theorem q1457 : (Jvm.Cond.methodLink "BasicMachine$Single" (23 : Nat) ({ cls := "BasicMachine$Single", name := "floor", desc := "(D)D" } : Jvm.MethodName)) ∈ lw_all := lw_g (lw_at lw_m6 136 rfl) rfl
theorem q1458 : (Jvm.Cond.static ({ cls := "BasicMachine$Single", name := "floor", desc := "(D)D" } : Jvm.MethodName)) ∈ lw_all := lw_g (lw_at lw_m6 137 rfl) rfl
theorem q1459 : (Jvm.Cond.code ({ cls := "BasicMachine$Single", name := "floor", desc := "(D)D" } : Jvm.MethodName) prog_28_method_3_code (4 : Nat) (Option.some Jvm.ClassFile.FieldType.double)) ∈ lw_all := lw_g (lw_at lw_m6 138 rfl) rfl
theorem q1460 : (Jvm.Cond.methodLinkNest "BasicMachine$Single" (29 : Nat) ({ cls := "BasicMachine", name := "whole", desc := "(D)J" } : Jvm.MethodName) "BasicMachine") ∈ lw_tbl := lw_at lw_m6 139 rfl
theorem q1463 : (Jvm.Cond.constantDouble "BasicMachine$Single" (27 : Nat) (13830554455654793216 : UInt64)) ∈ lw_all := lw_g (lw_at lw_m6 142 rfl) rfl
theorem q2316 : (Jvm.Cond.castable "BasicMachine$Single" "java/lang/Object") ∈ lw_tbl := lw_at lw_m10 35 rfl
theorem in_X7 : ∀ w ∈ wsX70, w ∈ lw_all := lw_in wsX70 [950, 952] (by decide +kernel) (by decide +kernel)
/-! BasicMachine$Call -/
set_option maxRecDepth 100000
def RX8 : String := "BasicMachine$Call"
def TX8 : u_T := fun k => match k with
  | 0 => ("BasicMachine$Call", "f", "I", true)
  | _ => ("BasicMachine$Call", "a", "LBasicMachine$Expression;", true)
def tyX8 : Nat → FieldType := fun k => match k with
  | 0 => .int
  | _ => .object "BasicMachine$Expression"
abbrev wsX80 : List Cond := u_ws RX8 TX8 2
theorem nmX8 : ∀ a, a < 2 → ∀ b, b < 2 → a ≠ b → (TX8 a).2.1 ≠ (TX8 b).2.1 := by decide +kernel
theorem tyX8_ok : ∀ k, k < 2 → parseFieldDescriptor (TX8 k).2.2.1 = some (tyX8 k) := by decide +kernel
abbrev cX8_init : ByteArray := prog_2_method_1_code
def yX8_init : MethodName := ⟨RX8, "<init>", "(ILBasicMachine$Expression;)V"⟩
def dkwX8_init_0 : List UInt8 := [42, 183, 0, 1, 42, 27, 181, 0, 7, 42, 44, 181, 0, 13, 177]
abbrev dktX8_init_0 : List UInt8 := dkwX8_init_0 ++ []
theorem dksX8_init_0 : cX8_init.data.toList.drop 0 = dktX8_init_0 := by decide +kernel
theorem dX8_init_0 : decode cX8_init 0 = .ok (.aload_n 0, 1) := dk_42 (dk_at dksX8_init_0 0 rfl rfl)
theorem dX8_init_1 : decode cX8_init 1 = .ok (.invokespecial 1, 3) := dk_183 0 1 (dk_at dksX8_init_0 1 rfl rfl)
theorem dX8_init_4 : decode cX8_init 4 = .ok (.aload_n 0, 1) := dk_42 (dk_at dksX8_init_0 4 rfl rfl)
theorem dX8_init_5 : decode cX8_init 5 = .ok (.iload_n 1, 1) := dk_27 (dk_at dksX8_init_0 5 rfl rfl)
theorem dX8_init_6 : decode cX8_init 6 = .ok (.putfield 7, 3) := dk_181 0 7 (dk_at dksX8_init_0 6 rfl rfl)
theorem dX8_init_9 : decode cX8_init 9 = .ok (.aload_n 0, 1) := dk_42 (dk_at dksX8_init_0 9 rfl rfl)
theorem dX8_init_10 : decode cX8_init 10 = .ok (.aload_n 2, 1) := dk_44 (dk_at dksX8_init_0 10 rfl rfl)
theorem dX8_init_11 : decode cX8_init 11 = .ok (.putfield 13, 3) := dk_181 0 13 (dk_at dksX8_init_0 11 rfl rfl)
theorem dX8_init_14 : decode cX8_init 14 = .ok (.return_, 1) := dk_177 (dk_at dksX8_init_0 14 rfl rfl)
abbrev cX8_value : ByteArray := prog_2_method_2_code
def yX8_value : MethodName := ⟨RX8, "value", "(LBasicMachine;)D"⟩
def dkwX8_value_5 : List UInt8 := [182, 0, 59, 24, 5, 175]
abbrev dktX8_value_5 : List UInt8 := dkwX8_value_5 ++ []
def dkwX8_value_4 : List UInt8 := [89, 180, 0, 32, 4, 96, 181, 0, 32, 44, 182, 0, 55, 43, 185, 0, 26, 2, 0, 57, 5, 43]
abbrev dktX8_value_4 : List UInt8 := dkwX8_value_4 ++ dktX8_value_5
def dkwX8_value_3 : List UInt8 := [180, 0, 32, 43, 180, 0, 52, 44, 182, 0, 42, 49, 82, 43, 180, 0, 52, 44, 182, 0, 42, 41, 82, 43]
abbrev dktX8_value_3 : List UInt8 := dkwX8_value_3 ++ dktX8_value_4
def dkwX8_value_2 : List UInt8 := [183, 0, 37, 191, 43, 180, 0, 38, 43, 180, 0, 32, 44, 182, 0, 42, 79, 43, 180, 0, 48, 43]
abbrev dktX8_value_2 : List UInt8 := dkwX8_value_2 ++ dktX8_value_3
def dkwX8_value_1 : List UInt8 := [180, 0, 13, 43, 185, 0, 26, 2, 0, 74, 43, 180, 0, 32, 6, 160, 0, 11, 187, 0, 35, 89]
abbrev dktX8_value_1 : List UInt8 := dkwX8_value_1 ++ dktX8_value_2
def dkwX8_value_0 : List UInt8 := [43, 180, 0, 17, 42, 180, 0, 7, 50, 77, 44, 199, 0, 11, 187, 0, 23, 89, 183, 0, 25, 191, 42]
abbrev dktX8_value_0 : List UInt8 := dkwX8_value_0 ++ dktX8_value_1
theorem dksX8_value_0 : cX8_value.data.toList.drop 0 = dktX8_value_0 := by decide +kernel
theorem dksX8_value_1 : cX8_value.data.toList.drop 23 = dktX8_value_1 := dk_seg dksX8_value_0 23 rfl rfl
theorem dksX8_value_2 : cX8_value.data.toList.drop 45 = dktX8_value_2 := dk_seg dksX8_value_1 22 rfl rfl
theorem dksX8_value_3 : cX8_value.data.toList.drop 67 = dktX8_value_3 := dk_seg dksX8_value_2 22 rfl rfl
theorem dksX8_value_4 : cX8_value.data.toList.drop 91 = dktX8_value_4 := dk_seg dksX8_value_3 24 rfl rfl
theorem dksX8_value_5 : cX8_value.data.toList.drop 113 = dktX8_value_5 := dk_seg dksX8_value_4 22 rfl rfl
theorem dX8_value_0 : decode cX8_value 0 = .ok (.aload_n 1, 1) := dk_43 (dk_at dksX8_value_0 0 rfl rfl)
theorem dX8_value_1 : decode cX8_value 1 = .ok (.getfield 17, 3) := dk_180 0 17 (dk_at dksX8_value_0 1 rfl rfl)
theorem dX8_value_4 : decode cX8_value 4 = .ok (.aload_n 0, 1) := dk_42 (dk_at dksX8_value_0 4 rfl rfl)
theorem dX8_value_5 : decode cX8_value 5 = .ok (.getfield 7, 3) := dk_180 0 7 (dk_at dksX8_value_0 5 rfl rfl)
theorem dX8_value_8 : decode cX8_value 8 = .ok (.aaload, 1) := dk_50 (dk_at dksX8_value_0 8 rfl rfl)
theorem dX8_value_9 : decode cX8_value 9 = .ok (.astore_n 2, 1) := dk_77 (dk_at dksX8_value_0 9 rfl rfl)
theorem dX8_value_10 : decode cX8_value 10 = .ok (.aload_n 2, 1) := dk_44 (dk_at dksX8_value_0 10 rfl rfl)
theorem dX8_value_11 : decode cX8_value 11 = .ok (.ifnonnull 11, 3) := dk_199 0 11 (dk_at dksX8_value_0 11 rfl rfl)
theorem dX8_value_14 : decode cX8_value 14 = .ok (.new 23, 3) := dk_187 0 23 (dk_at dksX8_value_0 14 rfl rfl)
theorem dX8_value_17 : decode cX8_value 17 = .ok (.dup, 1) := dk_89 (dk_at dksX8_value_0 17 rfl rfl)
theorem dX8_value_18 : decode cX8_value 18 = .ok (.invokespecial 25, 3) := dk_183 0 25 (dk_at dksX8_value_0 18 rfl rfl)
theorem dX8_value_21 : decode cX8_value 21 = .ok (.athrow, 1) := dk_191 (dk_at dksX8_value_0 21 rfl rfl)
theorem dX8_value_22 : decode cX8_value 22 = .ok (.aload_n 0, 1) := dk_42 (dk_at dksX8_value_0 22 rfl rfl)
theorem dX8_value_23 : decode cX8_value 23 = .ok (.getfield 13, 3) := dk_180 0 13 (dk_at dksX8_value_1 0 rfl rfl)
theorem dX8_value_26 : decode cX8_value 26 = .ok (.aload_n 1, 1) := dk_43 (dk_at dksX8_value_1 3 rfl rfl)
theorem dX8_value_27 : decode cX8_value 27 = .ok (.invokeinterface 26 2, 5) := by decide +kernel
theorem dX8_value_32 : decode cX8_value 32 = .ok (.dstore_n 3, 1) := dk_74 (dk_at dksX8_value_1 9 rfl rfl)
theorem dX8_value_33 : decode cX8_value 33 = .ok (.aload_n 1, 1) := dk_43 (dk_at dksX8_value_1 10 rfl rfl)
theorem dX8_value_34 : decode cX8_value 34 = .ok (.getfield 32, 3) := dk_180 0 32 (dk_at dksX8_value_1 11 rfl rfl)
theorem dX8_value_37 : decode cX8_value 37 = .ok (.iconst 3, 1) := dk_6 (dk_at dksX8_value_1 14 rfl rfl)
theorem dX8_value_38 : decode cX8_value 38 = .ok (.if_icmp .ne 11, 3) := dk_160 0 11 (dk_at dksX8_value_1 15 rfl rfl)
theorem dX8_value_41 : decode cX8_value 41 = .ok (.new 35, 3) := dk_187 0 35 (dk_at dksX8_value_1 18 rfl rfl)
theorem dX8_value_44 : decode cX8_value 44 = .ok (.dup, 1) := dk_89 (dk_at dksX8_value_1 21 rfl rfl)
theorem dX8_value_45 : decode cX8_value 45 = .ok (.invokespecial 37, 3) := dk_183 0 37 (dk_at dksX8_value_2 0 rfl rfl)
theorem dX8_value_48 : decode cX8_value 48 = .ok (.athrow, 1) := dk_191 (dk_at dksX8_value_2 3 rfl rfl)
theorem dX8_value_49 : decode cX8_value 49 = .ok (.aload_n 1, 1) := dk_43 (dk_at dksX8_value_2 4 rfl rfl)
theorem dX8_value_50 : decode cX8_value 50 = .ok (.getfield 38, 3) := dk_180 0 38 (dk_at dksX8_value_2 5 rfl rfl)
theorem dX8_value_53 : decode cX8_value 53 = .ok (.aload_n 1, 1) := dk_43 (dk_at dksX8_value_2 8 rfl rfl)
theorem dX8_value_54 : decode cX8_value 54 = .ok (.getfield 32, 3) := dk_180 0 32 (dk_at dksX8_value_2 9 rfl rfl)
theorem dX8_value_57 : decode cX8_value 57 = .ok (.aload_n 2, 1) := dk_44 (dk_at dksX8_value_2 12 rfl rfl)
theorem dX8_value_58 : decode cX8_value 58 = .ok (.invokevirtual 42, 3) := dk_182 0 42 (dk_at dksX8_value_2 13 rfl rfl)
theorem dX8_value_61 : decode cX8_value 61 = .ok (.iastore, 1) := dk_79 (dk_at dksX8_value_2 16 rfl rfl)
theorem dX8_value_62 : decode cX8_value 62 = .ok (.aload_n 1, 1) := dk_43 (dk_at dksX8_value_2 17 rfl rfl)
theorem dX8_value_63 : decode cX8_value 63 = .ok (.getfield 48, 3) := dk_180 0 48 (dk_at dksX8_value_2 18 rfl rfl)
theorem dX8_value_66 : decode cX8_value 66 = .ok (.aload_n 1, 1) := dk_43 (dk_at dksX8_value_2 21 rfl rfl)
theorem dX8_value_67 : decode cX8_value 67 = .ok (.getfield 32, 3) := dk_180 0 32 (dk_at dksX8_value_3 0 rfl rfl)
theorem dX8_value_70 : decode cX8_value 70 = .ok (.aload_n 1, 1) := dk_43 (dk_at dksX8_value_3 3 rfl rfl)
theorem dX8_value_71 : decode cX8_value 71 = .ok (.getfield 52, 3) := dk_180 0 52 (dk_at dksX8_value_3 4 rfl rfl)
theorem dX8_value_74 : decode cX8_value 74 = .ok (.aload_n 2, 1) := dk_44 (dk_at dksX8_value_3 7 rfl rfl)
theorem dX8_value_75 : decode cX8_value 75 = .ok (.invokevirtual 42, 3) := dk_182 0 42 (dk_at dksX8_value_3 8 rfl rfl)
theorem dX8_value_78 : decode cX8_value 78 = .ok (.daload, 1) := dk_49 (dk_at dksX8_value_3 11 rfl rfl)
theorem dX8_value_79 : decode cX8_value 79 = .ok (.dastore, 1) := dk_82 (dk_at dksX8_value_3 12 rfl rfl)
theorem dX8_value_80 : decode cX8_value 80 = .ok (.aload_n 1, 1) := dk_43 (dk_at dksX8_value_3 13 rfl rfl)
theorem dX8_value_81 : decode cX8_value 81 = .ok (.getfield 52, 3) := dk_180 0 52 (dk_at dksX8_value_3 14 rfl rfl)
theorem dX8_value_84 : decode cX8_value 84 = .ok (.aload_n 2, 1) := dk_44 (dk_at dksX8_value_3 17 rfl rfl)
theorem dX8_value_85 : decode cX8_value 85 = .ok (.invokevirtual 42, 3) := dk_182 0 42 (dk_at dksX8_value_3 18 rfl rfl)
theorem dX8_value_88 : decode cX8_value 88 = .ok (.dload_n 3, 1) := dk_41 (dk_at dksX8_value_3 21 rfl rfl)
theorem dX8_value_89 : decode cX8_value 89 = .ok (.dastore, 1) := dk_82 (dk_at dksX8_value_3 22 rfl rfl)
theorem dX8_value_90 : decode cX8_value 90 = .ok (.aload_n 1, 1) := dk_43 (dk_at dksX8_value_3 23 rfl rfl)
theorem dX8_value_91 : decode cX8_value 91 = .ok (.dup, 1) := dk_89 (dk_at dksX8_value_4 0 rfl rfl)
theorem dX8_value_92 : decode cX8_value 92 = .ok (.getfield 32, 3) := dk_180 0 32 (dk_at dksX8_value_4 1 rfl rfl)
theorem dX8_value_95 : decode cX8_value 95 = .ok (.iconst 1, 1) := dk_4 (dk_at dksX8_value_4 4 rfl rfl)
theorem dX8_value_96 : decode cX8_value 96 = .ok (.iadd, 1) := dk_96 (dk_at dksX8_value_4 5 rfl rfl)
theorem dX8_value_97 : decode cX8_value 97 = .ok (.putfield 32, 3) := dk_181 0 32 (dk_at dksX8_value_4 6 rfl rfl)
theorem dX8_value_100 : decode cX8_value 100 = .ok (.aload_n 2, 1) := dk_44 (dk_at dksX8_value_4 9 rfl rfl)
theorem dX8_value_101 : decode cX8_value 101 = .ok (.invokevirtual 55, 3) := dk_182 0 55 (dk_at dksX8_value_4 10 rfl rfl)
theorem dX8_value_104 : decode cX8_value 104 = .ok (.aload_n 1, 1) := dk_43 (dk_at dksX8_value_4 13 rfl rfl)
theorem dX8_value_105 : decode cX8_value 105 = .ok (.invokeinterface 26 2, 5) := by decide +kernel
theorem dX8_value_110 : decode cX8_value 110 = .ok (.dstore 5, 2) := dk_57 5 (dk_at dksX8_value_4 19 rfl rfl)
theorem dX8_value_112 : decode cX8_value 112 = .ok (.aload_n 1, 1) := dk_43 (dk_at dksX8_value_4 21 rfl rfl)
theorem dX8_value_113 : decode cX8_value 113 = .ok (.invokevirtual 59, 3) := dk_182 0 59 (dk_at dksX8_value_5 0 rfl rfl)
theorem dX8_value_116 : decode cX8_value 116 = .ok (.dload 5, 2) := dk_24 5 (dk_at dksX8_value_5 3 rfl rfl)
theorem dX8_value_118 : decode cX8_value 118 = .ok (.dreturn, 1) := dk_175 (dk_at dksX8_value_5 5 rfl rfl)
theorem q147 : (Jvm.Cond.initialized "BasicMachine$Call") ∈ lw_all := lw_g (lw_at lw_m1 26 rfl) rfl
theorem q198 : (Jvm.Cond.fieldLinkNest "BasicMachine$Call" (52 : Nat) "BasicMachine" "variables" "[D" "BasicMachine") ∈ lw_tbl := lw_at lw_m1 77 rfl
theorem q207 : (Jvm.Cond.fieldLinkNest "BasicMachine$Call" (17 : Nat) "BasicMachine" "functions" "[LBasicMachine$Define;" "BasicMachine") ∈ lw_tbl := lw_at lw_m1 86 rfl
theorem q209 : (Jvm.Cond.fieldLinkNest "BasicMachine$Call" (32 : Nat) "BasicMachine" "calls" "I" "BasicMachine") ∈ lw_tbl := lw_at lw_m1 88 rfl
theorem q211 : (Jvm.Cond.fieldLinkNest "BasicMachine$Call" (38 : Nat) "BasicMachine" "callRow" "[I" "BasicMachine") ∈ lw_tbl := lw_at lw_m1 90 rfl
theorem q213 : (Jvm.Cond.fieldLinkNest "BasicMachine$Call" (48 : Nat) "BasicMachine" "callOld" "[D" "BasicMachine") ∈ lw_tbl := lw_at lw_m1 92 rfl
theorem q961 : (Jvm.Cond.instantiable "BasicMachine$Call" (2 : Nat)) ∈ lw_all := lw_g (lw_at lw_m4 120 rfl) rfl
theorem q963 : (Jvm.Cond.instanceMethod ({ cls := "BasicMachine$Call", name := "<init>", desc := "(ILBasicMachine$Expression;)V" } : Jvm.MethodName)) ∈ lw_all := lw_g (lw_at lw_m4 122 rfl) rfl
theorem q964 : (Jvm.Cond.code ({ cls := "BasicMachine$Call", name := "<init>", desc := "(ILBasicMachine$Expression;)V" } : Jvm.MethodName) prog_2_method_1_code (3 : Nat) (Option.none : Option Jvm.ClassFile.FieldType)) ∈ lw_all := lw_g (lw_at lw_m4 123 rfl) rfl
theorem q965 : (Jvm.Cond.methodLink "BasicMachine$Call" (1 : Nat) ({ cls := "java/lang/Record", name := "<init>", desc := "()V" } : Jvm.MethodName)) ∈ lw_all := lw_g (lw_at lw_m4 124 rfl) rfl
theorem q966 : (Jvm.Cond.fieldLink "BasicMachine$Call" (7 : Nat) "BasicMachine$Call" "f" "I") ∈ lw_all := lw_g (lw_at lw_m4 125 rfl) rfl
theorem q967 : (Jvm.Cond.fieldLink "BasicMachine$Call" (13 : Nat) "BasicMachine$Call" "a" "LBasicMachine$Expression;") ∈ lw_all := lw_g (lw_at lw_m4 126 rfl) rfl
theorem q968 : (Jvm.Cond.laysFinal "BasicMachine$Call" "BasicMachine$Call" "f" "I") ∈ lw_all := lw_g (lw_at lw_m4 127 rfl) rfl
theorem q969 : (Jvm.Cond.soleField "BasicMachine$Call" "f") ∈ lw_all := lw_g (lw_at lw_m4 128 rfl) rfl
theorem q970 : (Jvm.Cond.laysFinal "BasicMachine$Call" "BasicMachine$Call" "a" "LBasicMachine$Expression;") ∈ lw_all := lw_g (lw_at lw_m4 129 rfl) rfl
theorem q971 : (Jvm.Cond.soleField "BasicMachine$Call" "a") ∈ lw_all := lw_g (lw_at lw_m4 130 rfl) rfl
theorem q972 : (Jvm.Cond.superclass "BasicMachine$Call" "java/lang/Record") ∈ lw_all := lw_g (lw_at lw_m4 131 rfl) rfl
theorem q1411 : (Jvm.Cond.castable "BasicMachine$Call" "BasicMachine$Expression") ∈ lw_tbl := lw_at lw_m6 90 rfl
theorem q1412 : (Jvm.Cond.selects "BasicMachine$Call" ({ cls := "BasicMachine$Expression", name := "value", desc := "(LBasicMachine;)D" } : Jvm.MethodName) ({ cls := "BasicMachine$Call", name := "value", desc := "(LBasicMachine;)D" } : Jvm.MethodName)) ∈ lw_all := lw_g (lw_at lw_m6 91 rfl) rfl
theorem q1413 : (Jvm.Cond.unhidden "BasicMachine$Call" "value" "(LBasicMachine;)D") ∈ lw_tbl := lw_at lw_m6 92 rfl
theorem q1414 : (Jvm.Cond.instanceMethod ({ cls := "BasicMachine$Call", name := "value", desc := "(LBasicMachine;)D" } : Jvm.MethodName)) ∈ lw_all := lw_g (lw_at lw_m6 93 rfl) rfl
theorem q1415 : (Jvm.Cond.publicMethod ({ cls := "BasicMachine$Call", name := "value", desc := "(LBasicMachine;)D" } : Jvm.MethodName)) ∈ lw_tbl := lw_at lw_m6 94 rfl
theorem q1416 : (Jvm.Cond.code ({ cls := "BasicMachine$Call", name := "value", desc := "(LBasicMachine;)D" } : Jvm.MethodName) prog_2_method_2_code (7 : Nat) (Option.some Jvm.ClassFile.FieldType.double)) ∈ lw_all := lw_g (lw_at lw_m6 95 rfl) rfl
theorem q1417 : (Jvm.Cond.classLink "BasicMachine$Call" (23 : Nat) "java/util/NoSuchElementException") ∈ lw_all := lw_g (lw_at lw_m6 96 rfl) rfl
theorem q1418 : (Jvm.Cond.methodLink "BasicMachine$Call" (25 : Nat) ({ cls := "java/util/NoSuchElementException", name := "<init>", desc := "()V" } : Jvm.MethodName)) ∈ lw_all := lw_g (lw_at lw_m6 97 rfl) rfl
theorem q1419 : (Jvm.Cond.interfaceEntry "BasicMachine$Call" (26 : Nat)) ∈ lw_tbl := lw_at lw_m6 98 rfl
theorem q1420 : (Jvm.Cond.methodLink "BasicMachine$Call" (26 : Nat) ({ cls := "BasicMachine$Expression", name := "value", desc := "(LBasicMachine;)D" } : Jvm.MethodName)) ∈ lw_all := lw_g (lw_at lw_m6 99 rfl) rfl
theorem q1513 : (Jvm.Cond.classLink "BasicMachine$Call" (35 : Nat) "java/lang/IllegalStateException") ∈ lw_all := lw_g (lw_at lw_m6 192 rfl) rfl
theorem q1514 : (Jvm.Cond.methodLink "BasicMachine$Call" (37 : Nat) ({ cls := "java/lang/IllegalStateException", name := "<init>", desc := "()V" } : Jvm.MethodName)) ∈ lw_all := lw_g (lw_at lw_m6 193 rfl) rfl
theorem q1515 : (Jvm.Cond.methodLink "BasicMachine$Call" (42 : Nat) ({ cls := "BasicMachine$Define", name := "s", desc := "()I" } : Jvm.MethodName)) ∈ lw_all := lw_g (lw_at lw_m6 194 rfl) rfl
theorem q1519 : (Jvm.Cond.methodLink "BasicMachine$Call" (55 : Nat) ({ cls := "BasicMachine$Define", name := "body", desc := "()LBasicMachine$Expression;" } : Jvm.MethodName)) ∈ lw_all := lw_g (lw_at lw_m6 198 rfl) rfl
theorem q1523 : (Jvm.Cond.methodLinkNest "BasicMachine$Call" (59 : Nat) ({ cls := "BasicMachine", name := "leave", desc := "()V" } : Jvm.MethodName) "BasicMachine") ∈ lw_tbl := lw_at lw_m6 202 rfl
theorem q2317 : (Jvm.Cond.castable "BasicMachine$Call" "java/lang/Object") ∈ lw_tbl := lw_at lw_m10 36 rfl
theorem in_X8 : ∀ w ∈ wsX80, w ∈ lw_all := lw_in wsX80 [968, 970] (by decide +kernel) (by decide +kernel)
/-! BasicMachine$Variable -/
set_option maxRecDepth 100000
def RX9 : String := "BasicMachine$Variable"
def TX9 : u_T := fun k => match k with
  | _ => ("BasicMachine$Variable", "s", "I", true)
def tyX9 : Nat → FieldType := fun k => match k with
  | _ => .int
abbrev wsX90 : List Cond := u_ws RX9 TX9 1
theorem nmX9 : ∀ a, a < 1 → ∀ b, b < 1 → a ≠ b → (TX9 a).2.1 ≠ (TX9 b).2.1 := by decide +kernel
theorem tyX9_ok : ∀ k, k < 1 → parseFieldDescriptor (TX9 k).2.2.1 = some (tyX9 k) := by decide +kernel
abbrev cX9_init : ByteArray := prog_30_method_1_code
def yX9_init : MethodName := ⟨RX9, "<init>", "(I)V"⟩
def dkwX9_init_0 : List UInt8 := [42, 183, 0, 1, 42, 27, 181, 0, 7, 177]
abbrev dktX9_init_0 : List UInt8 := dkwX9_init_0 ++ []
theorem dksX9_init_0 : cX9_init.data.toList.drop 0 = dktX9_init_0 := by decide +kernel
theorem dX9_init_0 : decode cX9_init 0 = .ok (.aload_n 0, 1) := dk_42 (dk_at dksX9_init_0 0 rfl rfl)
theorem dX9_init_1 : decode cX9_init 1 = .ok (.invokespecial 1, 3) := dk_183 0 1 (dk_at dksX9_init_0 1 rfl rfl)
theorem dX9_init_4 : decode cX9_init 4 = .ok (.aload_n 0, 1) := dk_42 (dk_at dksX9_init_0 4 rfl rfl)
theorem dX9_init_5 : decode cX9_init 5 = .ok (.iload_n 1, 1) := dk_27 (dk_at dksX9_init_0 5 rfl rfl)
theorem dX9_init_6 : decode cX9_init 6 = .ok (.putfield 7, 3) := dk_181 0 7 (dk_at dksX9_init_0 6 rfl rfl)
theorem dX9_init_9 : decode cX9_init 9 = .ok (.return_, 1) := dk_177 (dk_at dksX9_init_0 9 rfl rfl)
abbrev cX9_value : ByteArray := prog_30_method_2_code
def yX9_value : MethodName := ⟨RX9, "value", "(LBasicMachine;)D"⟩
def dkwX9_value_0 : List UInt8 := [43, 180, 0, 13, 42, 180, 0, 7, 49, 175]
abbrev dktX9_value_0 : List UInt8 := dkwX9_value_0 ++ []
theorem dksX9_value_0 : cX9_value.data.toList.drop 0 = dktX9_value_0 := by decide +kernel
theorem dX9_value_0 : decode cX9_value 0 = .ok (.aload_n 1, 1) := dk_43 (dk_at dksX9_value_0 0 rfl rfl)
theorem dX9_value_1 : decode cX9_value 1 = .ok (.getfield 13, 3) := dk_180 0 13 (dk_at dksX9_value_0 1 rfl rfl)
theorem dX9_value_4 : decode cX9_value 4 = .ok (.aload_n 0, 1) := dk_42 (dk_at dksX9_value_0 4 rfl rfl)
theorem dX9_value_5 : decode cX9_value 5 = .ok (.getfield 7, 3) := dk_180 0 7 (dk_at dksX9_value_0 5 rfl rfl)
theorem dX9_value_8 : decode cX9_value 8 = .ok (.daload, 1) := dk_49 (dk_at dksX9_value_0 8 rfl rfl)
theorem dX9_value_9 : decode cX9_value 9 = .ok (.dreturn, 1) := dk_175 (dk_at dksX9_value_0 9 rfl rfl)
abbrev cX9_s : ByteArray := prog_30_method_6_code
def yX9_s : MethodName := ⟨RX9, "s", "()I"⟩
theorem dX9_s_0 : decode cX9_s 0 = .ok (.aload_n 0, 1) := by decide +kernel
theorem dX9_s_1 : decode cX9_s 1 = .ok (.getfield 7, 3) := by decide +kernel
theorem dX9_s_4 : decode cX9_s 4 = .ok (.ireturn, 1) := by decide +kernel
theorem q148 : (Jvm.Cond.initialized "BasicMachine$Variable") ∈ lw_all := lw_g (lw_at lw_m1 27 rfl) rfl
theorem q195 : (Jvm.Cond.fieldLinkNest "BasicMachine$Variable" (13 : Nat) "BasicMachine" "variables" "[D" "BasicMachine") ∈ lw_tbl := lw_at lw_m1 74 rfl
theorem q974 : (Jvm.Cond.instantiable "BasicMachine$Variable" (1 : Nat)) ∈ lw_all := lw_g (lw_at lw_m4 133 rfl) rfl
theorem q983 : (Jvm.Cond.instanceMethod ({ cls := "BasicMachine$Variable", name := "<init>", desc := "(I)V" } : Jvm.MethodName)) ∈ lw_all := lw_g (lw_at lw_m4 142 rfl) rfl
theorem q984 : (Jvm.Cond.code ({ cls := "BasicMachine$Variable", name := "<init>", desc := "(I)V" } : Jvm.MethodName) prog_30_method_1_code (2 : Nat) (Option.none : Option Jvm.ClassFile.FieldType)) ∈ lw_all := lw_g (lw_at lw_m4 143 rfl) rfl
theorem q985 : (Jvm.Cond.methodLink "BasicMachine$Variable" (1 : Nat) ({ cls := "java/lang/Record", name := "<init>", desc := "()V" } : Jvm.MethodName)) ∈ lw_all := lw_g (lw_at lw_m4 144 rfl) rfl
theorem q986 : (Jvm.Cond.fieldLink "BasicMachine$Variable" (7 : Nat) "BasicMachine$Variable" "s" "I") ∈ lw_all := lw_g (lw_at lw_m4 145 rfl) rfl
theorem q987 : (Jvm.Cond.laysFinal "BasicMachine$Variable" "BasicMachine$Variable" "s" "I") ∈ lw_all := lw_g (lw_at lw_m4 146 rfl) rfl
theorem q988 : (Jvm.Cond.soleField "BasicMachine$Variable" "s") ∈ lw_all := lw_g (lw_at lw_m4 147 rfl) rfl
theorem q989 : (Jvm.Cond.superclass "BasicMachine$Variable" "java/lang/Record") ∈ lw_all := lw_g (lw_at lw_m4 148 rfl) rfl
theorem q1451 : (Jvm.Cond.castable "BasicMachine$Variable" "BasicMachine$Expression") ∈ lw_tbl := lw_at lw_m6 130 rfl
theorem q1452 : (Jvm.Cond.selects "BasicMachine$Variable" ({ cls := "BasicMachine$Expression", name := "value", desc := "(LBasicMachine;)D" } : Jvm.MethodName) ({ cls := "BasicMachine$Variable", name := "value", desc := "(LBasicMachine;)D" } : Jvm.MethodName)) ∈ lw_all := lw_g (lw_at lw_m6 131 rfl) rfl
theorem q1453 : (Jvm.Cond.unhidden "BasicMachine$Variable" "value" "(LBasicMachine;)D") ∈ lw_tbl := lw_at lw_m6 132 rfl
theorem q1454 : (Jvm.Cond.instanceMethod ({ cls := "BasicMachine$Variable", name := "value", desc := "(LBasicMachine;)D" } : Jvm.MethodName)) ∈ lw_all := lw_g (lw_at lw_m6 133 rfl) rfl
theorem q1455 : (Jvm.Cond.publicMethod ({ cls := "BasicMachine$Variable", name := "value", desc := "(LBasicMachine;)D" } : Jvm.MethodName)) ∈ lw_tbl := lw_at lw_m6 134 rfl
theorem q1456 : (Jvm.Cond.code ({ cls := "BasicMachine$Variable", name := "value", desc := "(LBasicMachine;)D" } : Jvm.MethodName) prog_30_method_2_code (2 : Nat) (Option.some Jvm.ClassFile.FieldType.double)) ∈ lw_all := lw_g (lw_at lw_m6 135 rfl) rfl
theorem q1635 : (Jvm.Cond.instanceMethod ({ cls := "BasicMachine$Variable", name := "s", desc := "()I" } : Jvm.MethodName)) ∈ lw_all := lw_g (lw_at lw_m7 74 rfl) rfl
theorem q1636 : (Jvm.Cond.selects "BasicMachine$Variable" ({ cls := "BasicMachine$Variable", name := "s", desc := "()I" } : Jvm.MethodName) ({ cls := "BasicMachine$Variable", name := "s", desc := "()I" } : Jvm.MethodName)) ∈ lw_all := lw_g (lw_at lw_m7 75 rfl) rfl
theorem q1637 : (Jvm.Cond.code ({ cls := "BasicMachine$Variable", name := "s", desc := "()I" } : Jvm.MethodName) prog_30_method_6_code (1 : Nat) (Option.some Jvm.ClassFile.FieldType.int)) ∈ lw_all := lw_g (lw_at lw_m7 76 rfl) rfl
theorem q2318 : (Jvm.Cond.castable "BasicMachine$Variable" "java/lang/Object") ∈ lw_tbl := lw_at lw_m10 37 rfl
theorem in_X9 : ∀ w ∈ wsX90, w ∈ lw_all := lw_in wsX90 [987] (by decide +kernel) (by decide +kernel)
/-! BasicMachine$Pair -/
set_option maxRecDepth 100000
def RX10 : String := "BasicMachine$Pair"
def TX10 : u_T := fun k => match k with
  | 0 => ("BasicMachine$Pair", "sign", "C", true)
  | 1 => ("BasicMachine$Pair", "a", "LBasicMachine$Expression;", true)
  | _ => ("BasicMachine$Pair", "b", "LBasicMachine$Expression;", true)
def tyX10 : Nat → FieldType := fun k => match k with
  | 0 => .char
  | 1 => .object "BasicMachine$Expression"
  | _ => .object "BasicMachine$Expression"
abbrev wsX100 : List Cond := u_ws RX10 TX10 3
theorem nmX10 : ∀ a, a < 3 → ∀ b, b < 3 → a ≠ b → (TX10 a).2.1 ≠ (TX10 b).2.1 := by decide +kernel
theorem tyX10_ok : ∀ k, k < 3 → parseFieldDescriptor (TX10 k).2.2.1 = some (tyX10 k) := by decide +kernel
abbrev cX10_init : ByteArray := prog_21_method_1_code
def yX10_init : MethodName := ⟨RX10, "<init>", "(CLBasicMachine$Expression;LBasicMachine$Expression;)V"⟩
def dkwX10_init_0 : List UInt8 := [42, 183, 0, 1, 42, 27, 181, 0, 7, 42, 44, 181, 0, 13, 42, 45, 181, 0, 17, 177]
abbrev dktX10_init_0 : List UInt8 := dkwX10_init_0 ++ []
theorem dksX10_init_0 : cX10_init.data.toList.drop 0 = dktX10_init_0 := by decide +kernel
theorem dX10_init_0 : decode cX10_init 0 = .ok (.aload_n 0, 1) := dk_42 (dk_at dksX10_init_0 0 rfl rfl)
theorem dX10_init_1 : decode cX10_init 1 = .ok (.invokespecial 1, 3) := dk_183 0 1 (dk_at dksX10_init_0 1 rfl rfl)
theorem dX10_init_4 : decode cX10_init 4 = .ok (.aload_n 0, 1) := dk_42 (dk_at dksX10_init_0 4 rfl rfl)
theorem dX10_init_5 : decode cX10_init 5 = .ok (.iload_n 1, 1) := dk_27 (dk_at dksX10_init_0 5 rfl rfl)
theorem dX10_init_6 : decode cX10_init 6 = .ok (.putfield 7, 3) := dk_181 0 7 (dk_at dksX10_init_0 6 rfl rfl)
theorem dX10_init_9 : decode cX10_init 9 = .ok (.aload_n 0, 1) := dk_42 (dk_at dksX10_init_0 9 rfl rfl)
theorem dX10_init_10 : decode cX10_init 10 = .ok (.aload_n 2, 1) := dk_44 (dk_at dksX10_init_0 10 rfl rfl)
theorem dX10_init_11 : decode cX10_init 11 = .ok (.putfield 13, 3) := dk_181 0 13 (dk_at dksX10_init_0 11 rfl rfl)
theorem dX10_init_14 : decode cX10_init 14 = .ok (.aload_n 0, 1) := dk_42 (dk_at dksX10_init_0 14 rfl rfl)
theorem dX10_init_15 : decode cX10_init 15 = .ok (.aload_n 3, 1) := dk_45 (dk_at dksX10_init_0 15 rfl rfl)
theorem dX10_init_16 : decode cX10_init 16 = .ok (.putfield 17, 3) := dk_181 0 17 (dk_at dksX10_init_0 16 rfl rfl)
theorem dX10_init_19 : decode cX10_init 19 = .ok (.return_, 1) := dk_177 (dk_at dksX10_init_0 19 rfl rfl)
abbrev cX10_value : ByteArray := prog_21_method_2_code
def yX10_value : MethodName := ⟨RX10, "value", "(LBasicMachine;)D"⟩
def dkwX10_value_4 : List UInt8 := [40, 24, 4, 184, 0, 32, 175, 40, 24, 4, 184, 0, 36, 175]
abbrev dktX10_value_4 : List UInt8 := dkwX10_value_4 ++ []
def dkwX10_value_3 : List UInt8 := [40, 24, 4, 99, 184, 0, 26, 175, 40, 24, 4, 103, 184, 0, 26, 175, 40, 24, 4, 107, 184, 0, 26, 175]
abbrev dktX10_value_3 : List UInt8 := dkwX10_value_3 ++ dktX10_value_4
def dkwX10_value_2 : List UInt8 := [170, 0, 0, 0, 68, 0, 0, 0, 42, 0, 0, 0, 47, 0, 0, 0, 53, 0, 0, 0, 37, 0, 0, 0, 68, 0, 0, 0, 45, 0, 0, 0, 68, 0, 0, 0, 61]
abbrev dktX10_value_2 : List UInt8 := dkwX10_value_2 ++ dktX10_value_3
def dkwX10_value_1 : List UInt8 := [180, 0, 7]
abbrev dktX10_value_1 : List UInt8 := dkwX10_value_1 ++ dktX10_value_2
def dkwX10_value_0 : List UInt8 := [42, 180, 0, 13, 43, 185, 0, 20, 2, 0, 73, 42, 180, 0, 17, 43, 185, 0, 20, 2, 0, 57, 4, 42]
abbrev dktX10_value_0 : List UInt8 := dkwX10_value_0 ++ dktX10_value_1
theorem dksX10_value_0 : cX10_value.data.toList.drop 0 = dktX10_value_0 := by decide +kernel
theorem dksX10_value_1 : cX10_value.data.toList.drop 24 = dktX10_value_1 := dk_seg dksX10_value_0 24 rfl rfl
theorem dksX10_value_2 : cX10_value.data.toList.drop 27 = dktX10_value_2 := dk_seg dksX10_value_1 3 rfl rfl
theorem dksX10_value_3 : cX10_value.data.toList.drop 64 = dktX10_value_3 := dk_seg dksX10_value_2 37 rfl rfl
theorem dksX10_value_4 : cX10_value.data.toList.drop 88 = dktX10_value_4 := dk_seg dksX10_value_3 24 rfl rfl
theorem dX10_value_0 : decode cX10_value 0 = .ok (.aload_n 0, 1) := dk_42 (dk_at dksX10_value_0 0 rfl rfl)
theorem dX10_value_1 : decode cX10_value 1 = .ok (.getfield 13, 3) := dk_180 0 13 (dk_at dksX10_value_0 1 rfl rfl)
theorem dX10_value_4 : decode cX10_value 4 = .ok (.aload_n 1, 1) := dk_43 (dk_at dksX10_value_0 4 rfl rfl)
theorem dX10_value_5 : decode cX10_value 5 = .ok (.invokeinterface 20 2, 5) := by decide +kernel
theorem dX10_value_10 : decode cX10_value 10 = .ok (.dstore_n 2, 1) := dk_73 (dk_at dksX10_value_0 10 rfl rfl)
theorem dX10_value_11 : decode cX10_value 11 = .ok (.aload_n 0, 1) := dk_42 (dk_at dksX10_value_0 11 rfl rfl)
theorem dX10_value_12 : decode cX10_value 12 = .ok (.getfield 17, 3) := dk_180 0 17 (dk_at dksX10_value_0 12 rfl rfl)
theorem dX10_value_15 : decode cX10_value 15 = .ok (.aload_n 1, 1) := dk_43 (dk_at dksX10_value_0 15 rfl rfl)
theorem dX10_value_16 : decode cX10_value 16 = .ok (.invokeinterface 20 2, 5) := by decide +kernel
theorem dX10_value_21 : decode cX10_value 21 = .ok (.dstore 4, 2) := dk_57 4 (dk_at dksX10_value_0 21 rfl rfl)
theorem dX10_value_23 : decode cX10_value 23 = .ok (.aload_n 0, 1) := dk_42 (dk_at dksX10_value_0 23 rfl rfl)
theorem dX10_value_24 : decode cX10_value 24 = .ok (.getfield 7, 3) := dk_180 0 7 (dk_at dksX10_value_1 0 rfl rfl)
theorem dX10_value_27 : decode cX10_value 27 = .ok (.tableswitch 68 42 47 #[53, 37, 68, 45, 68, 61], 37) := by decide +kernel
theorem dX10_value_64 : decode cX10_value 64 = .ok (.dload_n 2, 1) := dk_40 (dk_at dksX10_value_3 0 rfl rfl)
theorem dX10_value_65 : decode cX10_value 65 = .ok (.dload 4, 2) := dk_24 4 (dk_at dksX10_value_3 1 rfl rfl)
theorem dX10_value_67 : decode cX10_value 67 = .ok (.dadd, 1) := dk_99 (dk_at dksX10_value_3 3 rfl rfl)
theorem dX10_value_68 : decode cX10_value 68 = .ok (.invokestatic 26, 3) := dk_184 0 26 (dk_at dksX10_value_3 4 rfl rfl)
theorem dX10_value_71 : decode cX10_value 71 = .ok (.dreturn, 1) := dk_175 (dk_at dksX10_value_3 7 rfl rfl)
theorem dX10_value_72 : decode cX10_value 72 = .ok (.dload_n 2, 1) := dk_40 (dk_at dksX10_value_3 8 rfl rfl)
theorem dX10_value_73 : decode cX10_value 73 = .ok (.dload 4, 2) := dk_24 4 (dk_at dksX10_value_3 9 rfl rfl)
theorem dX10_value_75 : decode cX10_value 75 = .ok (.dsub, 1) := dk_103 (dk_at dksX10_value_3 11 rfl rfl)
theorem dX10_value_76 : decode cX10_value 76 = .ok (.invokestatic 26, 3) := dk_184 0 26 (dk_at dksX10_value_3 12 rfl rfl)
theorem dX10_value_79 : decode cX10_value 79 = .ok (.dreturn, 1) := dk_175 (dk_at dksX10_value_3 15 rfl rfl)
theorem dX10_value_80 : decode cX10_value 80 = .ok (.dload_n 2, 1) := dk_40 (dk_at dksX10_value_3 16 rfl rfl)
theorem dX10_value_81 : decode cX10_value 81 = .ok (.dload 4, 2) := dk_24 4 (dk_at dksX10_value_3 17 rfl rfl)
theorem dX10_value_83 : decode cX10_value 83 = .ok (.dmul, 1) := dk_107 (dk_at dksX10_value_3 19 rfl rfl)
theorem dX10_value_84 : decode cX10_value 84 = .ok (.invokestatic 26, 3) := dk_184 0 26 (dk_at dksX10_value_3 20 rfl rfl)
theorem dX10_value_87 : decode cX10_value 87 = .ok (.dreturn, 1) := dk_175 (dk_at dksX10_value_3 23 rfl rfl)
theorem dX10_value_88 : decode cX10_value 88 = .ok (.dload_n 2, 1) := dk_40 (dk_at dksX10_value_4 0 rfl rfl)
theorem dX10_value_89 : decode cX10_value 89 = .ok (.dload 4, 2) := dk_24 4 (dk_at dksX10_value_4 1 rfl rfl)
theorem dX10_value_91 : decode cX10_value 91 = .ok (.invokestatic 32, 3) := dk_184 0 32 (dk_at dksX10_value_4 3 rfl rfl)
theorem dX10_value_94 : decode cX10_value 94 = .ok (.dreturn, 1) := dk_175 (dk_at dksX10_value_4 6 rfl rfl)
theorem dX10_value_95 : decode cX10_value 95 = .ok (.dload_n 2, 1) := dk_40 (dk_at dksX10_value_4 7 rfl rfl)
theorem dX10_value_96 : decode cX10_value 96 = .ok (.dload 4, 2) := dk_24 4 (dk_at dksX10_value_4 8 rfl rfl)
theorem dX10_value_98 : decode cX10_value 98 = .ok (.invokestatic 36, 3) := dk_184 0 36 (dk_at dksX10_value_4 10 rfl rfl)
theorem dX10_value_101 : decode cX10_value 101 = .ok (.dreturn, 1) := dk_175 (dk_at dksX10_value_4 13 rfl rfl)
abbrev cX10_divided : ByteArray := prog_21_method_3_code
def yX10_divided : MethodName := ⟨RX10, "divided", "(DD)D"⟩
def dkwX10_divided_0 : List UInt8 := [40, 14, 151, 154, 0, 11, 187, 0, 39, 89, 183, 0, 41, 191, 38, 40, 111, 184, 0, 26, 175]
abbrev dktX10_divided_0 : List UInt8 := dkwX10_divided_0 ++ []
theorem dksX10_divided_0 : cX10_divided.data.toList.drop 0 = dktX10_divided_0 := by decide +kernel
theorem dX10_divided_0 : decode cX10_divided 0 = .ok (.dload_n 2, 1) := dk_40 (dk_at dksX10_divided_0 0 rfl rfl)
theorem dX10_divided_1 : decode cX10_divided 1 = .ok (.dconst 0, 1) := dk_14 (dk_at dksX10_divided_0 1 rfl rfl)
theorem dX10_divided_2 : decode cX10_divided 2 = .ok (.dcmp .l, 1) := dk_151 (dk_at dksX10_divided_0 2 rfl rfl)
theorem dX10_divided_3 : decode cX10_divided 3 = .ok (.ifCond .ne 11, 3) := dk_154 0 11 (dk_at dksX10_divided_0 3 rfl rfl)
theorem dX10_divided_6 : decode cX10_divided 6 = .ok (.new 39, 3) := dk_187 0 39 (dk_at dksX10_divided_0 6 rfl rfl)
theorem dX10_divided_9 : decode cX10_divided 9 = .ok (.dup, 1) := dk_89 (dk_at dksX10_divided_0 9 rfl rfl)
theorem dX10_divided_10 : decode cX10_divided 10 = .ok (.invokespecial 41, 3) := dk_183 0 41 (dk_at dksX10_divided_0 10 rfl rfl)
theorem dX10_divided_13 : decode cX10_divided 13 = .ok (.athrow, 1) := dk_191 (dk_at dksX10_divided_0 13 rfl rfl)
theorem dX10_divided_14 : decode cX10_divided 14 = .ok (.dload_n 0, 1) := dk_38 (dk_at dksX10_divided_0 14 rfl rfl)
theorem dX10_divided_15 : decode cX10_divided 15 = .ok (.dload_n 2, 1) := dk_40 (dk_at dksX10_divided_0 15 rfl rfl)
theorem dX10_divided_16 : decode cX10_divided 16 = .ok (.ddiv, 1) := dk_111 (dk_at dksX10_divided_0 16 rfl rfl)
theorem dX10_divided_17 : decode cX10_divided 17 = .ok (.invokestatic 26, 3) := dk_184 0 26 (dk_at dksX10_divided_0 17 rfl rfl)
theorem dX10_divided_20 : decode cX10_divided 20 = .ok (.dreturn, 1) := dk_175 (dk_at dksX10_divided_0 20 rfl rfl)
abbrev cX10_power : ByteArray := prog_21_method_4_code
def yX10_power : MethodName := ⟨RX10, "power", "(DD)D"⟩
def dkwX10_power_4 : List UInt8 := [167, 0, 5, 24, 4, 175]
abbrev dktX10_power_4 : List UInt8 := dkwX10_power_4 ++ []
def dkwX10_power_3 : List UInt8 := [184, 0, 26, 57, 4, 132, 8, 1, 167, 255, 235, 40, 14, 152, 156, 0, 12, 15, 24, 4, 184, 0, 32]
abbrev dktX10_power_3 : List UInt8 := dkwX10_power_3 ++ dktX10_power_4
def dkwX10_power_2 : List UInt8 := [167, 0, 4, 40, 57, 6, 3, 54, 8, 21, 8, 135, 24, 6, 152, 156, 0, 18, 24, 4, 38, 107]
abbrev dktX10_power_2 : List UInt8 := dkwX10_power_2 ++ dktX10_power_3
def dkwX10_power_1 : List UInt8 := [153, 0, 11, 187, 0, 39, 89, 183, 0, 41, 191, 15, 57, 4, 40, 14, 152, 156, 0, 8, 40, 119]
abbrev dktX10_power_1 : List UInt8 := dkwX10_power_1 ++ dktX10_power_2
def dkwX10_power_0 : List UInt8 := [40, 20, 0, 42, 152, 155, 0, 21, 40, 20, 0, 44, 151, 157, 0, 13, 40, 40, 184, 0, 46, 138, 151]
abbrev dktX10_power_0 : List UInt8 := dkwX10_power_0 ++ dktX10_power_1
theorem dksX10_power_0 : cX10_power.data.toList.drop 0 = dktX10_power_0 := by decide +kernel
theorem dksX10_power_1 : cX10_power.data.toList.drop 23 = dktX10_power_1 := dk_seg dksX10_power_0 23 rfl rfl
theorem dksX10_power_2 : cX10_power.data.toList.drop 45 = dktX10_power_2 := dk_seg dksX10_power_1 22 rfl rfl
theorem dksX10_power_3 : cX10_power.data.toList.drop 67 = dktX10_power_3 := dk_seg dksX10_power_2 22 rfl rfl
theorem dksX10_power_4 : cX10_power.data.toList.drop 90 = dktX10_power_4 := dk_seg dksX10_power_3 23 rfl rfl
theorem dX10_power_0 : decode cX10_power 0 = .ok (.dload_n 2, 1) := dk_40 (dk_at dksX10_power_0 0 rfl rfl)
theorem dX10_power_1 : decode cX10_power 1 = .ok (.ldc2_w 42, 3) := dk_20 0 42 (dk_at dksX10_power_0 1 rfl rfl)
theorem dX10_power_4 : decode cX10_power 4 = .ok (.dcmp .g, 1) := dk_152 (dk_at dksX10_power_0 4 rfl rfl)
theorem dX10_power_5 : decode cX10_power 5 = .ok (.ifCond .lt 21, 3) := dk_155 0 21 (dk_at dksX10_power_0 5 rfl rfl)
theorem dX10_power_8 : decode cX10_power 8 = .ok (.dload_n 2, 1) := dk_40 (dk_at dksX10_power_0 8 rfl rfl)
theorem dX10_power_9 : decode cX10_power 9 = .ok (.ldc2_w 44, 3) := dk_20 0 44 (dk_at dksX10_power_0 9 rfl rfl)
theorem dX10_power_12 : decode cX10_power 12 = .ok (.dcmp .l, 1) := dk_151 (dk_at dksX10_power_0 12 rfl rfl)
theorem dX10_power_13 : decode cX10_power 13 = .ok (.ifCond .gt 13, 3) := dk_157 0 13 (dk_at dksX10_power_0 13 rfl rfl)
theorem dX10_power_16 : decode cX10_power 16 = .ok (.dload_n 2, 1) := dk_40 (dk_at dksX10_power_0 16 rfl rfl)
theorem dX10_power_17 : decode cX10_power 17 = .ok (.dload_n 2, 1) := dk_40 (dk_at dksX10_power_0 17 rfl rfl)
theorem dX10_power_18 : decode cX10_power 18 = .ok (.invokestatic 46, 3) := dk_184 0 46 (dk_at dksX10_power_0 18 rfl rfl)
theorem dX10_power_21 : decode cX10_power 21 = .ok (.l2d, 1) := dk_138 (dk_at dksX10_power_0 21 rfl rfl)
theorem dX10_power_22 : decode cX10_power 22 = .ok (.dcmp .l, 1) := dk_151 (dk_at dksX10_power_0 22 rfl rfl)
theorem dX10_power_23 : decode cX10_power 23 = .ok (.ifCond .eq 11, 3) := dk_153 0 11 (dk_at dksX10_power_1 0 rfl rfl)
theorem dX10_power_26 : decode cX10_power 26 = .ok (.new 39, 3) := dk_187 0 39 (dk_at dksX10_power_1 3 rfl rfl)
theorem dX10_power_29 : decode cX10_power 29 = .ok (.dup, 1) := dk_89 (dk_at dksX10_power_1 6 rfl rfl)
theorem dX10_power_30 : decode cX10_power 30 = .ok (.invokespecial 41, 3) := dk_183 0 41 (dk_at dksX10_power_1 7 rfl rfl)
theorem dX10_power_33 : decode cX10_power 33 = .ok (.athrow, 1) := dk_191 (dk_at dksX10_power_1 10 rfl rfl)
theorem dX10_power_34 : decode cX10_power 34 = .ok (.dconst 1, 1) := dk_15 (dk_at dksX10_power_1 11 rfl rfl)
theorem dX10_power_35 : decode cX10_power 35 = .ok (.dstore 4, 2) := dk_57 4 (dk_at dksX10_power_1 12 rfl rfl)
theorem dX10_power_37 : decode cX10_power 37 = .ok (.dload_n 2, 1) := dk_40 (dk_at dksX10_power_1 14 rfl rfl)
theorem dX10_power_38 : decode cX10_power 38 = .ok (.dconst 0, 1) := dk_14 (dk_at dksX10_power_1 15 rfl rfl)
theorem dX10_power_39 : decode cX10_power 39 = .ok (.dcmp .g, 1) := dk_152 (dk_at dksX10_power_1 16 rfl rfl)
theorem dX10_power_40 : decode cX10_power 40 = .ok (.ifCond .ge 8, 3) := dk_156 0 8 (dk_at dksX10_power_1 17 rfl rfl)
theorem dX10_power_43 : decode cX10_power 43 = .ok (.dload_n 2, 1) := dk_40 (dk_at dksX10_power_1 20 rfl rfl)
theorem dX10_power_44 : decode cX10_power 44 = .ok (.dneg, 1) := dk_119 (dk_at dksX10_power_1 21 rfl rfl)
theorem dX10_power_45 : decode cX10_power 45 = .ok (.goto 4, 3) := dk_167 0 4 (dk_at dksX10_power_2 0 rfl rfl)
theorem dX10_power_48 : decode cX10_power 48 = .ok (.dload_n 2, 1) := dk_40 (dk_at dksX10_power_2 3 rfl rfl)
theorem dX10_power_49 : decode cX10_power 49 = .ok (.dstore 6, 2) := dk_57 6 (dk_at dksX10_power_2 4 rfl rfl)
theorem dX10_power_51 : decode cX10_power 51 = .ok (.iconst 0, 1) := dk_3 (dk_at dksX10_power_2 6 rfl rfl)
theorem dX10_power_52 : decode cX10_power 52 = .ok (.istore 8, 2) := dk_54 8 (dk_at dksX10_power_2 7 rfl rfl)
theorem dX10_power_54 : decode cX10_power 54 = .ok (.iload 8, 2) := dk_21 8 (dk_at dksX10_power_2 9 rfl rfl)
theorem dX10_power_56 : decode cX10_power 56 = .ok (.i2d, 1) := dk_135 (dk_at dksX10_power_2 11 rfl rfl)
theorem dX10_power_57 : decode cX10_power 57 = .ok (.dload 6, 2) := dk_24 6 (dk_at dksX10_power_2 12 rfl rfl)
theorem dX10_power_59 : decode cX10_power 59 = .ok (.dcmp .g, 1) := dk_152 (dk_at dksX10_power_2 14 rfl rfl)
theorem dX10_power_60 : decode cX10_power 60 = .ok (.ifCond .ge 18, 3) := dk_156 0 18 (dk_at dksX10_power_2 15 rfl rfl)
theorem dX10_power_63 : decode cX10_power 63 = .ok (.dload 4, 2) := dk_24 4 (dk_at dksX10_power_2 18 rfl rfl)
theorem dX10_power_65 : decode cX10_power 65 = .ok (.dload_n 0, 1) := dk_38 (dk_at dksX10_power_2 20 rfl rfl)
theorem dX10_power_66 : decode cX10_power 66 = .ok (.dmul, 1) := dk_107 (dk_at dksX10_power_2 21 rfl rfl)
theorem dX10_power_67 : decode cX10_power 67 = .ok (.invokestatic 26, 3) := dk_184 0 26 (dk_at dksX10_power_3 0 rfl rfl)
theorem dX10_power_70 : decode cX10_power 70 = .ok (.dstore 4, 2) := dk_57 4 (dk_at dksX10_power_3 3 rfl rfl)
theorem dX10_power_72 : decode cX10_power 72 = .ok (.iinc 8 1, 3) := dk_132 8 1 (dk_at dksX10_power_3 5 rfl rfl)
theorem dX10_power_75 : decode cX10_power 75 = .ok (.goto (-21), 3) := dk_167 255 235 (dk_at dksX10_power_3 8 rfl rfl)
theorem dX10_power_78 : decode cX10_power 78 = .ok (.dload_n 2, 1) := dk_40 (dk_at dksX10_power_3 11 rfl rfl)
theorem dX10_power_79 : decode cX10_power 79 = .ok (.dconst 0, 1) := dk_14 (dk_at dksX10_power_3 12 rfl rfl)
theorem dX10_power_80 : decode cX10_power 80 = .ok (.dcmp .g, 1) := dk_152 (dk_at dksX10_power_3 13 rfl rfl)
theorem dX10_power_81 : decode cX10_power 81 = .ok (.ifCond .ge 12, 3) := dk_156 0 12 (dk_at dksX10_power_3 14 rfl rfl)
theorem dX10_power_84 : decode cX10_power 84 = .ok (.dconst 1, 1) := dk_15 (dk_at dksX10_power_3 17 rfl rfl)
theorem dX10_power_85 : decode cX10_power 85 = .ok (.dload 4, 2) := dk_24 4 (dk_at dksX10_power_3 18 rfl rfl)
theorem dX10_power_87 : decode cX10_power 87 = .ok (.invokestatic 32, 3) := dk_184 0 32 (dk_at dksX10_power_3 20 rfl rfl)
theorem dX10_power_90 : decode cX10_power 90 = .ok (.goto 5, 3) := dk_167 0 5 (dk_at dksX10_power_4 0 rfl rfl)
theorem dX10_power_93 : decode cX10_power 93 = .ok (.dload 4, 2) := dk_24 4 (dk_at dksX10_power_4 3 rfl rfl)
theorem dX10_power_95 : decode cX10_power 95 = .ok (.dreturn, 1) := dk_175 (dk_at dksX10_power_4 5 rfl rfl)
theorem q149 : (Jvm.Cond.initialized "BasicMachine$Pair") ∈ lw_all := lw_g (lw_at lw_m1 28 rfl) rfl
theorem q991 : (Jvm.Cond.instantiable "BasicMachine$Pair" (3 : Nat)) ∈ lw_all := lw_g (lw_at lw_m4 150 rfl) rfl
theorem q993 : (Jvm.Cond.instanceMethod ({ cls := "BasicMachine$Pair", name := "<init>", desc := "(CLBasicMachine$Expression;LBasicMachine$Expression;)V" } : Jvm.MethodName)) ∈ lw_all := lw_g (lw_at lw_m4 152 rfl) rfl
theorem q994 : (Jvm.Cond.code ({ cls := "BasicMachine$Pair", name := "<init>", desc := "(CLBasicMachine$Expression;LBasicMachine$Expression;)V" } : Jvm.MethodName) prog_21_method_1_code (4 : Nat) (Option.none : Option Jvm.ClassFile.FieldType)) ∈ lw_all := lw_g (lw_at lw_m4 153 rfl) rfl
theorem q995 : (Jvm.Cond.methodLink "BasicMachine$Pair" (1 : Nat) ({ cls := "java/lang/Record", name := "<init>", desc := "()V" } : Jvm.MethodName)) ∈ lw_all := lw_g (lw_at lw_m4 154 rfl) rfl
theorem q996 : (Jvm.Cond.fieldLink "BasicMachine$Pair" (7 : Nat) "BasicMachine$Pair" "sign" "C") ∈ lw_all := lw_g (lw_at lw_m4 155 rfl) rfl
theorem q997 : (Jvm.Cond.fieldLink "BasicMachine$Pair" (13 : Nat) "BasicMachine$Pair" "a" "LBasicMachine$Expression;") ∈ lw_all := lw_g (lw_at lw_m4 156 rfl) rfl
theorem q998 : (Jvm.Cond.fieldLink "BasicMachine$Pair" (17 : Nat) "BasicMachine$Pair" "b" "LBasicMachine$Expression;") ∈ lw_all := lw_g (lw_at lw_m4 157 rfl) rfl
theorem q999 : (Jvm.Cond.laysFinal "BasicMachine$Pair" "BasicMachine$Pair" "sign" "C") ∈ lw_all := lw_g (lw_at lw_m4 158 rfl) rfl
theorem q1000 : (Jvm.Cond.soleField "BasicMachine$Pair" "sign") ∈ lw_all := lw_g (lw_at lw_m4 159 rfl) rfl
theorem q1001 : (Jvm.Cond.laysFinal "BasicMachine$Pair" "BasicMachine$Pair" "a" "LBasicMachine$Expression;") ∈ lw_all := lw_g (lw_at lw_m4 160 rfl) rfl
theorem q1002 : (Jvm.Cond.soleField "BasicMachine$Pair" "a") ∈ lw_all := lw_g (lw_at lw_m4 161 rfl) rfl
theorem q1003 : (Jvm.Cond.laysFinal "BasicMachine$Pair" "BasicMachine$Pair" "b" "LBasicMachine$Expression;") ∈ lw_all := lw_g (lw_at lw_m4 162 rfl) rfl
theorem q1004 : (Jvm.Cond.soleField "BasicMachine$Pair" "b") ∈ lw_all := lw_g (lw_at lw_m4 163 rfl) rfl
theorem q1005 : (Jvm.Cond.superclass "BasicMachine$Pair" "java/lang/Record") ∈ lw_all := lw_g (lw_at lw_m4 164 rfl) rfl
theorem q1435 : (Jvm.Cond.castable "BasicMachine$Pair" "BasicMachine$Expression") ∈ lw_tbl := lw_at lw_m6 114 rfl
theorem q1436 : (Jvm.Cond.selects "BasicMachine$Pair" ({ cls := "BasicMachine$Expression", name := "value", desc := "(LBasicMachine;)D" } : Jvm.MethodName) ({ cls := "BasicMachine$Pair", name := "value", desc := "(LBasicMachine;)D" } : Jvm.MethodName)) ∈ lw_all := lw_g (lw_at lw_m6 115 rfl) rfl
theorem q1437 : (Jvm.Cond.unhidden "BasicMachine$Pair" "value" "(LBasicMachine;)D") ∈ lw_tbl := lw_at lw_m6 116 rfl
theorem q1438 : (Jvm.Cond.instanceMethod ({ cls := "BasicMachine$Pair", name := "value", desc := "(LBasicMachine;)D" } : Jvm.MethodName)) ∈ lw_all := lw_g (lw_at lw_m6 117 rfl) rfl
theorem q1439 : (Jvm.Cond.publicMethod ({ cls := "BasicMachine$Pair", name := "value", desc := "(LBasicMachine;)D" } : Jvm.MethodName)) ∈ lw_tbl := lw_at lw_m6 118 rfl
theorem q1440 : (Jvm.Cond.code ({ cls := "BasicMachine$Pair", name := "value", desc := "(LBasicMachine;)D" } : Jvm.MethodName) prog_21_method_2_code (6 : Nat) (Option.some Jvm.ClassFile.FieldType.double)) ∈ lw_all := lw_g (lw_at lw_m6 119 rfl) rfl
theorem q1441 : (Jvm.Cond.interfaceEntry "BasicMachine$Pair" (20 : Nat)) ∈ lw_tbl := lw_at lw_m6 120 rfl
theorem q1442 : (Jvm.Cond.methodLink "BasicMachine$Pair" (20 : Nat) ({ cls := "BasicMachine$Expression", name := "value", desc := "(LBasicMachine;)D" } : Jvm.MethodName)) ∈ lw_all := lw_g (lw_at lw_m6 121 rfl) rfl
theorem q1464 : (Jvm.Cond.methodLinkNest "BasicMachine$Pair" (26 : Nat) ({ cls := "BasicMachine", name := "checked", desc := "(D)D" } : Jvm.MethodName) "BasicMachine") ∈ lw_tbl := lw_at lw_m6 143 rfl
theorem q1473 : (Jvm.Cond.methodLink "BasicMachine$Pair" (32 : Nat) ({ cls := "BasicMachine$Pair", name := "divided", desc := "(DD)D" } : Jvm.MethodName)) ∈ lw_all := lw_g (lw_at lw_m6 152 rfl) rfl
theorem q1474 : (Jvm.Cond.static ({ cls := "BasicMachine$Pair", name := "divided", desc := "(DD)D" } : Jvm.MethodName)) ∈ lw_all := lw_g (lw_at lw_m6 153 rfl) rfl
theorem q1475 : (Jvm.Cond.code ({ cls := "BasicMachine$Pair", name := "divided", desc := "(DD)D" } : Jvm.MethodName) prog_21_method_3_code (4 : Nat) (Option.some Jvm.ClassFile.FieldType.double)) ∈ lw_all := lw_g (lw_at lw_m6 154 rfl) rfl
theorem q1476 : (Jvm.Cond.classLink "BasicMachine$Pair" (39 : Nat) "java/lang/ArithmeticException") ∈ lw_all := lw_g (lw_at lw_m6 155 rfl) rfl
theorem q1477 : (Jvm.Cond.methodLink "BasicMachine$Pair" (41 : Nat) ({ cls := "java/lang/ArithmeticException", name := "<init>", desc := "()V" } : Jvm.MethodName)) ∈ lw_all := lw_g (lw_at lw_m6 156 rfl) rfl
theorem q1478 : (Jvm.Cond.methodLink "BasicMachine$Pair" (36 : Nat) ({ cls := "BasicMachine$Pair", name := "power", desc := "(DD)D" } : Jvm.MethodName)) ∈ lw_all := lw_g (lw_at lw_m6 157 rfl) rfl
theorem q1479 : (Jvm.Cond.static ({ cls := "BasicMachine$Pair", name := "power", desc := "(DD)D" } : Jvm.MethodName)) ∈ lw_all := lw_g (lw_at lw_m6 158 rfl) rfl
theorem q1480 : (Jvm.Cond.code ({ cls := "BasicMachine$Pair", name := "power", desc := "(DD)D" } : Jvm.MethodName) prog_21_method_4_code (9 : Nat) (Option.some Jvm.ClassFile.FieldType.double)) ∈ lw_all := lw_g (lw_at lw_m6 159 rfl) rfl
theorem q1481 : (Jvm.Cond.constantDouble "BasicMachine$Pair" (42 : Nat) (13849694754071117824 : UInt64)) ∈ lw_all := lw_g (lw_at lw_m6 160 rfl) rfl
theorem q1482 : (Jvm.Cond.constantDouble "BasicMachine$Pair" (44 : Nat) (4626322717216342016 : UInt64)) ∈ lw_all := lw_g (lw_at lw_m6 161 rfl) rfl
theorem q1483 : (Jvm.Cond.methodLinkNest "BasicMachine$Pair" (46 : Nat) ({ cls := "BasicMachine", name := "whole", desc := "(D)J" } : Jvm.MethodName) "BasicMachine") ∈ lw_tbl := lw_at lw_m6 162 rfl
theorem q2319 : (Jvm.Cond.castable "BasicMachine$Pair" "java/lang/Object") ∈ lw_tbl := lw_at lw_m10 38 rfl
theorem in_X10 : ∀ w ∈ wsX100, w ∈ lw_all := lw_in wsX100 [999, 1001, 1003] (by decide +kernel) (by decide +kernel)
/-! BasicMachine$Element -/
set_option maxRecDepth 100000
def RX11 : String := "BasicMachine$Element"
def TX11 : u_T := fun k => match k with
  | 0 => ("BasicMachine$Element", "matrix", "I", true)
  | 1 => ("BasicMachine$Element", "i", "LBasicMachine$Expression;", true)
  | _ => ("BasicMachine$Element", "j", "LBasicMachine$Expression;", true)
def tyX11 : Nat → FieldType := fun k => match k with
  | 0 => .int
  | 1 => .object "BasicMachine$Expression"
  | _ => .object "BasicMachine$Expression"
abbrev wsX110 : List Cond := u_ws RX11 TX11 3
theorem nmX11 : ∀ a, a < 3 → ∀ b, b < 3 → a ≠ b → (TX11 a).2.1 ≠ (TX11 b).2.1 := by decide +kernel
theorem tyX11_ok : ∀ k, k < 3 → parseFieldDescriptor (TX11 k).2.2.1 = some (tyX11 k) := by decide +kernel
abbrev cX11_init : ByteArray := prog_6_method_1_code
def yX11_init : MethodName := ⟨RX11, "<init>", "(ILBasicMachine$Expression;LBasicMachine$Expression;)V"⟩
def dkwX11_init_0 : List UInt8 := [42, 183, 0, 1, 42, 27, 181, 0, 7, 42, 44, 181, 0, 13, 42, 45, 181, 0, 17, 177]
abbrev dktX11_init_0 : List UInt8 := dkwX11_init_0 ++ []
theorem dksX11_init_0 : cX11_init.data.toList.drop 0 = dktX11_init_0 := by decide +kernel
theorem dX11_init_0 : decode cX11_init 0 = .ok (.aload_n 0, 1) := dk_42 (dk_at dksX11_init_0 0 rfl rfl)
theorem dX11_init_1 : decode cX11_init 1 = .ok (.invokespecial 1, 3) := dk_183 0 1 (dk_at dksX11_init_0 1 rfl rfl)
theorem dX11_init_4 : decode cX11_init 4 = .ok (.aload_n 0, 1) := dk_42 (dk_at dksX11_init_0 4 rfl rfl)
theorem dX11_init_5 : decode cX11_init 5 = .ok (.iload_n 1, 1) := dk_27 (dk_at dksX11_init_0 5 rfl rfl)
theorem dX11_init_6 : decode cX11_init 6 = .ok (.putfield 7, 3) := dk_181 0 7 (dk_at dksX11_init_0 6 rfl rfl)
theorem dX11_init_9 : decode cX11_init 9 = .ok (.aload_n 0, 1) := dk_42 (dk_at dksX11_init_0 9 rfl rfl)
theorem dX11_init_10 : decode cX11_init 10 = .ok (.aload_n 2, 1) := dk_44 (dk_at dksX11_init_0 10 rfl rfl)
theorem dX11_init_11 : decode cX11_init 11 = .ok (.putfield 13, 3) := dk_181 0 13 (dk_at dksX11_init_0 11 rfl rfl)
theorem dX11_init_14 : decode cX11_init 14 = .ok (.aload_n 0, 1) := dk_42 (dk_at dksX11_init_0 14 rfl rfl)
theorem dX11_init_15 : decode cX11_init 15 = .ok (.aload_n 3, 1) := dk_45 (dk_at dksX11_init_0 15 rfl rfl)
theorem dX11_init_16 : decode cX11_init 16 = .ok (.putfield 17, 3) := dk_181 0 17 (dk_at dksX11_init_0 16 rfl rfl)
theorem dX11_init_19 : decode cX11_init 19 = .ok (.return_, 1) := dk_177 (dk_at dksX11_init_0 19 rfl rfl)
abbrev cX11_value : ByteArray := prog_6_method_2_code
def yX11_value : MethodName := ⟨RX11, "value", "(LBasicMachine;)D"⟩
def dkwX11_value_1 : List UInt8 := [184, 0, 26, 55, 4, 43, 42, 180, 0, 7, 182, 0, 32, 32, 22, 4, 182, 0, 35, 175]
abbrev dktX11_value_1 : List UInt8 := dkwX11_value_1 ++ []
def dkwX11_value_0 : List UInt8 := [42, 180, 0, 13, 43, 185, 0, 20, 2, 0, 184, 0, 26, 65, 42, 180, 0, 17, 43, 185, 0, 20, 2, 0]
abbrev dktX11_value_0 : List UInt8 := dkwX11_value_0 ++ dktX11_value_1
theorem dksX11_value_0 : cX11_value.data.toList.drop 0 = dktX11_value_0 := by decide +kernel
theorem dksX11_value_1 : cX11_value.data.toList.drop 24 = dktX11_value_1 := dk_seg dksX11_value_0 24 rfl rfl
theorem dX11_value_0 : decode cX11_value 0 = .ok (.aload_n 0, 1) := dk_42 (dk_at dksX11_value_0 0 rfl rfl)
theorem dX11_value_1 : decode cX11_value 1 = .ok (.getfield 13, 3) := dk_180 0 13 (dk_at dksX11_value_0 1 rfl rfl)
theorem dX11_value_4 : decode cX11_value 4 = .ok (.aload_n 1, 1) := dk_43 (dk_at dksX11_value_0 4 rfl rfl)
theorem dX11_value_5 : decode cX11_value 5 = .ok (.invokeinterface 20 2, 5) := by decide +kernel
theorem dX11_value_10 : decode cX11_value 10 = .ok (.invokestatic 26, 3) := dk_184 0 26 (dk_at dksX11_value_0 10 rfl rfl)
theorem dX11_value_13 : decode cX11_value 13 = .ok (.lstore_n 2, 1) := dk_65 (dk_at dksX11_value_0 13 rfl rfl)
theorem dX11_value_14 : decode cX11_value 14 = .ok (.aload_n 0, 1) := dk_42 (dk_at dksX11_value_0 14 rfl rfl)
theorem dX11_value_15 : decode cX11_value 15 = .ok (.getfield 17, 3) := dk_180 0 17 (dk_at dksX11_value_0 15 rfl rfl)
theorem dX11_value_18 : decode cX11_value 18 = .ok (.aload_n 1, 1) := dk_43 (dk_at dksX11_value_0 18 rfl rfl)
theorem dX11_value_19 : decode cX11_value 19 = .ok (.invokeinterface 20 2, 5) := by decide +kernel
theorem dX11_value_24 : decode cX11_value 24 = .ok (.invokestatic 26, 3) := dk_184 0 26 (dk_at dksX11_value_1 0 rfl rfl)
theorem dX11_value_27 : decode cX11_value 27 = .ok (.lstore 4, 2) := dk_55 4 (dk_at dksX11_value_1 3 rfl rfl)
theorem dX11_value_29 : decode cX11_value 29 = .ok (.aload_n 1, 1) := dk_43 (dk_at dksX11_value_1 5 rfl rfl)
theorem dX11_value_30 : decode cX11_value 30 = .ok (.aload_n 0, 1) := dk_42 (dk_at dksX11_value_1 6 rfl rfl)
theorem dX11_value_31 : decode cX11_value 31 = .ok (.getfield 7, 3) := dk_180 0 7 (dk_at dksX11_value_1 7 rfl rfl)
theorem dX11_value_34 : decode cX11_value 34 = .ok (.invokevirtual 32, 3) := dk_182 0 32 (dk_at dksX11_value_1 10 rfl rfl)
theorem dX11_value_37 : decode cX11_value 37 = .ok (.lload_n 2, 1) := dk_32 (dk_at dksX11_value_1 13 rfl rfl)
theorem dX11_value_38 : decode cX11_value 38 = .ok (.lload 4, 2) := dk_22 4 (dk_at dksX11_value_1 14 rfl rfl)
theorem dX11_value_40 : decode cX11_value 40 = .ok (.invokevirtual 35, 3) := dk_182 0 35 (dk_at dksX11_value_1 16 rfl rfl)
theorem dX11_value_43 : decode cX11_value 43 = .ok (.dreturn, 1) := dk_175 (dk_at dksX11_value_1 19 rfl rfl)
abbrev cX11_i : ByteArray := prog_6_method_7_code
def yX11_i : MethodName := ⟨RX11, "i", "()LBasicMachine$Expression;"⟩
theorem dX11_i_0 : decode cX11_i 0 = .ok (.aload_n 0, 1) := by decide +kernel
theorem dX11_i_1 : decode cX11_i 1 = .ok (.getfield 13, 3) := by decide +kernel
theorem dX11_i_4 : decode cX11_i 4 = .ok (.areturn, 1) := by decide +kernel
abbrev cX11_j : ByteArray := prog_6_method_8_code
def yX11_j : MethodName := ⟨RX11, "j", "()LBasicMachine$Expression;"⟩
theorem dX11_j_0 : decode cX11_j 0 = .ok (.aload_n 0, 1) := by decide +kernel
theorem dX11_j_1 : decode cX11_j 1 = .ok (.getfield 17, 3) := by decide +kernel
theorem dX11_j_4 : decode cX11_j 4 = .ok (.areturn, 1) := by decide +kernel
abbrev cX11_matrix : ByteArray := prog_6_method_6_code
def yX11_matrix : MethodName := ⟨RX11, "matrix", "()I"⟩
theorem dX11_matrix_0 : decode cX11_matrix 0 = .ok (.aload_n 0, 1) := by decide +kernel
theorem dX11_matrix_1 : decode cX11_matrix 1 = .ok (.getfield 7, 3) := by decide +kernel
theorem dX11_matrix_4 : decode cX11_matrix 4 = .ok (.ireturn, 1) := by decide +kernel
theorem q150 : (Jvm.Cond.initialized "BasicMachine$Element") ∈ lw_all := lw_g (lw_at lw_m1 29 rfl) rfl
theorem q1007 : (Jvm.Cond.instantiable "BasicMachine$Element" (3 : Nat)) ∈ lw_all := lw_g (lw_at lw_m4 166 rfl) rfl
theorem q1009 : (Jvm.Cond.instanceMethod ({ cls := "BasicMachine$Element", name := "<init>", desc := "(ILBasicMachine$Expression;LBasicMachine$Expression;)V" } : Jvm.MethodName)) ∈ lw_all := lw_g (lw_at lw_m4 168 rfl) rfl
theorem q1010 : (Jvm.Cond.code ({ cls := "BasicMachine$Element", name := "<init>", desc := "(ILBasicMachine$Expression;LBasicMachine$Expression;)V" } : Jvm.MethodName) prog_6_method_1_code (4 : Nat) (Option.none : Option Jvm.ClassFile.FieldType)) ∈ lw_all := lw_g (lw_at lw_m4 169 rfl) rfl
theorem q1011 : (Jvm.Cond.methodLink "BasicMachine$Element" (1 : Nat) ({ cls := "java/lang/Record", name := "<init>", desc := "()V" } : Jvm.MethodName)) ∈ lw_all := lw_g (lw_at lw_m4 170 rfl) rfl
theorem q1012 : (Jvm.Cond.fieldLink "BasicMachine$Element" (7 : Nat) "BasicMachine$Element" "matrix" "I") ∈ lw_all := lw_g (lw_at lw_m4 171 rfl) rfl
theorem q1013 : (Jvm.Cond.fieldLink "BasicMachine$Element" (13 : Nat) "BasicMachine$Element" "i" "LBasicMachine$Expression;") ∈ lw_all := lw_g (lw_at lw_m4 172 rfl) rfl
theorem q1014 : (Jvm.Cond.fieldLink "BasicMachine$Element" (17 : Nat) "BasicMachine$Element" "j" "LBasicMachine$Expression;") ∈ lw_all := lw_g (lw_at lw_m4 173 rfl) rfl
theorem q1015 : (Jvm.Cond.laysFinal "BasicMachine$Element" "BasicMachine$Element" "matrix" "I") ∈ lw_all := lw_g (lw_at lw_m4 174 rfl) rfl
theorem q1016 : (Jvm.Cond.soleField "BasicMachine$Element" "matrix") ∈ lw_all := lw_g (lw_at lw_m4 175 rfl) rfl
theorem q1017 : (Jvm.Cond.laysFinal "BasicMachine$Element" "BasicMachine$Element" "i" "LBasicMachine$Expression;") ∈ lw_all := lw_g (lw_at lw_m4 176 rfl) rfl
theorem q1018 : (Jvm.Cond.soleField "BasicMachine$Element" "i") ∈ lw_all := lw_g (lw_at lw_m4 177 rfl) rfl
theorem q1019 : (Jvm.Cond.laysFinal "BasicMachine$Element" "BasicMachine$Element" "j" "LBasicMachine$Expression;") ∈ lw_all := lw_g (lw_at lw_m4 178 rfl) rfl
theorem q1020 : (Jvm.Cond.soleField "BasicMachine$Element" "j") ∈ lw_all := lw_g (lw_at lw_m4 179 rfl) rfl
theorem q1021 : (Jvm.Cond.superclass "BasicMachine$Element" "java/lang/Record") ∈ lw_all := lw_g (lw_at lw_m4 180 rfl) rfl
theorem q1421 : (Jvm.Cond.castable "BasicMachine$Element" "BasicMachine$Expression") ∈ lw_tbl := lw_at lw_m6 100 rfl
theorem q1422 : (Jvm.Cond.selects "BasicMachine$Element" ({ cls := "BasicMachine$Expression", name := "value", desc := "(LBasicMachine;)D" } : Jvm.MethodName) ({ cls := "BasicMachine$Element", name := "value", desc := "(LBasicMachine;)D" } : Jvm.MethodName)) ∈ lw_all := lw_g (lw_at lw_m6 101 rfl) rfl
theorem q1423 : (Jvm.Cond.unhidden "BasicMachine$Element" "value" "(LBasicMachine;)D") ∈ lw_tbl := lw_at lw_m6 102 rfl
theorem q1424 : (Jvm.Cond.instanceMethod ({ cls := "BasicMachine$Element", name := "value", desc := "(LBasicMachine;)D" } : Jvm.MethodName)) ∈ lw_all := lw_g (lw_at lw_m6 103 rfl) rfl
theorem q1425 : (Jvm.Cond.publicMethod ({ cls := "BasicMachine$Element", name := "value", desc := "(LBasicMachine;)D" } : Jvm.MethodName)) ∈ lw_tbl := lw_at lw_m6 104 rfl
theorem q1426 : (Jvm.Cond.code ({ cls := "BasicMachine$Element", name := "value", desc := "(LBasicMachine;)D" } : Jvm.MethodName) prog_6_method_2_code (6 : Nat) (Option.some Jvm.ClassFile.FieldType.double)) ∈ lw_all := lw_g (lw_at lw_m6 105 rfl) rfl
theorem q1427 : (Jvm.Cond.interfaceEntry "BasicMachine$Element" (20 : Nat)) ∈ lw_tbl := lw_at lw_m6 106 rfl
theorem q1428 : (Jvm.Cond.methodLink "BasicMachine$Element" (20 : Nat) ({ cls := "BasicMachine$Expression", name := "value", desc := "(LBasicMachine;)D" } : Jvm.MethodName)) ∈ lw_all := lw_g (lw_at lw_m6 107 rfl) rfl
theorem q1484 : (Jvm.Cond.methodLinkNest "BasicMachine$Element" (26 : Nat) ({ cls := "BasicMachine", name := "whole", desc := "(D)J" } : Jvm.MethodName) "BasicMachine") ∈ lw_tbl := lw_at lw_m6 163 rfl
theorem q1485 : (Jvm.Cond.methodLinkNest "BasicMachine$Element" (32 : Nat) ({ cls := "BasicMachine", name := "matrix", desc := "(I)LBasicMachine$Matrix;" } : Jvm.MethodName) "BasicMachine") ∈ lw_tbl := lw_at lw_m6 164 rfl
theorem q1503 : (Jvm.Cond.methodLink "BasicMachine$Element" (35 : Nat) ({ cls := "BasicMachine$Matrix", name := "at", desc := "(JJ)D" } : Jvm.MethodName)) ∈ lw_all := lw_g (lw_at lw_m6 182 rfl) rfl
theorem q1611 : (Jvm.Cond.instanceMethod ({ cls := "BasicMachine$Element", name := "i", desc := "()LBasicMachine$Expression;" } : Jvm.MethodName)) ∈ lw_all := lw_g (lw_at lw_m7 50 rfl) rfl
theorem q1612 : (Jvm.Cond.selects "BasicMachine$Element" ({ cls := "BasicMachine$Element", name := "i", desc := "()LBasicMachine$Expression;" } : Jvm.MethodName) ({ cls := "BasicMachine$Element", name := "i", desc := "()LBasicMachine$Expression;" } : Jvm.MethodName)) ∈ lw_all := lw_g (lw_at lw_m7 51 rfl) rfl
theorem q1613 : (Jvm.Cond.code ({ cls := "BasicMachine$Element", name := "i", desc := "()LBasicMachine$Expression;" } : Jvm.MethodName) prog_6_method_7_code (1 : Nat) (Option.some (Jvm.ClassFile.FieldType.object "BasicMachine$Expression"))) ∈ lw_all := lw_g (lw_at lw_m7 52 rfl) rfl
theorem q1618 : (Jvm.Cond.instanceMethod ({ cls := "BasicMachine$Element", name := "j", desc := "()LBasicMachine$Expression;" } : Jvm.MethodName)) ∈ lw_all := lw_g (lw_at lw_m7 57 rfl) rfl
theorem q1619 : (Jvm.Cond.selects "BasicMachine$Element" ({ cls := "BasicMachine$Element", name := "j", desc := "()LBasicMachine$Expression;" } : Jvm.MethodName) ({ cls := "BasicMachine$Element", name := "j", desc := "()LBasicMachine$Expression;" } : Jvm.MethodName)) ∈ lw_all := lw_g (lw_at lw_m7 58 rfl) rfl
theorem q1620 : (Jvm.Cond.code ({ cls := "BasicMachine$Element", name := "j", desc := "()LBasicMachine$Expression;" } : Jvm.MethodName) prog_6_method_8_code (1 : Nat) (Option.some (Jvm.ClassFile.FieldType.object "BasicMachine$Expression"))) ∈ lw_all := lw_g (lw_at lw_m7 59 rfl) rfl
theorem q1622 : (Jvm.Cond.instanceMethod ({ cls := "BasicMachine$Element", name := "matrix", desc := "()I" } : Jvm.MethodName)) ∈ lw_all := lw_g (lw_at lw_m7 61 rfl) rfl
theorem q1623 : (Jvm.Cond.selects "BasicMachine$Element" ({ cls := "BasicMachine$Element", name := "matrix", desc := "()I" } : Jvm.MethodName) ({ cls := "BasicMachine$Element", name := "matrix", desc := "()I" } : Jvm.MethodName)) ∈ lw_all := lw_g (lw_at lw_m7 62 rfl) rfl
theorem q1624 : (Jvm.Cond.code ({ cls := "BasicMachine$Element", name := "matrix", desc := "()I" } : Jvm.MethodName) prog_6_method_6_code (1 : Nat) (Option.some Jvm.ClassFile.FieldType.int)) ∈ lw_all := lw_g (lw_at lw_m7 63 rfl) rfl
theorem q2320 : (Jvm.Cond.castable "BasicMachine$Element" "java/lang/Object") ∈ lw_tbl := lw_at lw_m10 39 rfl
theorem in_X11 : ∀ w ∈ wsX110, w ∈ lw_all := lw_in wsX110 [1015, 1017, 1019] (by decide +kernel) (by decide +kernel)
/-! BasicMachine$Let -/
set_option maxRecDepth 100000
def RX12 : String := "BasicMachine$Let"
def TX12 : u_T := fun k => match k with
  | 0 => ("BasicMachine$Let", "place", "LBasicMachine$Place;", true)
  | _ => ("BasicMachine$Let", "e", "LBasicMachine$Expression;", true)
def tyX12 : Nat → FieldType := fun k => match k with
  | 0 => .object "BasicMachine$Place"
  | _ => .object "BasicMachine$Expression"
abbrev wsX120 : List Cond := u_ws RX12 TX12 2
theorem nmX12 : ∀ a, a < 2 → ∀ b, b < 2 → a ≠ b → (TX12 a).2.1 ≠ (TX12 b).2.1 := by decide +kernel
theorem tyX12_ok : ∀ k, k < 2 → parseFieldDescriptor (TX12 k).2.2.1 = some (tyX12 k) := by decide +kernel
abbrev cX12_init : ByteArray := prog_12_method_1_code
def yX12_init : MethodName := ⟨RX12, "<init>", "(LBasicMachine$Place;LBasicMachine$Expression;)V"⟩
def dkwX12_init_0 : List UInt8 := [42, 183, 0, 1, 42, 43, 181, 0, 7, 42, 44, 181, 0, 13, 177]
abbrev dktX12_init_0 : List UInt8 := dkwX12_init_0 ++ []
theorem dksX12_init_0 : cX12_init.data.toList.drop 0 = dktX12_init_0 := by decide +kernel
theorem dX12_init_0 : decode cX12_init 0 = .ok (.aload_n 0, 1) := dk_42 (dk_at dksX12_init_0 0 rfl rfl)
theorem dX12_init_1 : decode cX12_init 1 = .ok (.invokespecial 1, 3) := dk_183 0 1 (dk_at dksX12_init_0 1 rfl rfl)
theorem dX12_init_4 : decode cX12_init 4 = .ok (.aload_n 0, 1) := dk_42 (dk_at dksX12_init_0 4 rfl rfl)
theorem dX12_init_5 : decode cX12_init 5 = .ok (.aload_n 1, 1) := dk_43 (dk_at dksX12_init_0 5 rfl rfl)
theorem dX12_init_6 : decode cX12_init 6 = .ok (.putfield 7, 3) := dk_181 0 7 (dk_at dksX12_init_0 6 rfl rfl)
theorem dX12_init_9 : decode cX12_init 9 = .ok (.aload_n 0, 1) := dk_42 (dk_at dksX12_init_0 9 rfl rfl)
theorem dX12_init_10 : decode cX12_init 10 = .ok (.aload_n 2, 1) := dk_44 (dk_at dksX12_init_0 10 rfl rfl)
theorem dX12_init_11 : decode cX12_init 11 = .ok (.putfield 13, 3) := dk_181 0 13 (dk_at dksX12_init_0 11 rfl rfl)
theorem dX12_init_14 : decode cX12_init 14 = .ok (.return_, 1) := dk_177 (dk_at dksX12_init_0 14 rfl rfl)
abbrev cX12_run : ByteArray := prog_12_method_2_code
def yX12_run : MethodName := ⟨RX12, "run", "(LBasicMachine;LBasicMachine$Line;)LBasicMachine$Line;"⟩
def dkwX12_run_1 : List UInt8 := [185, 0, 23, 2, 0, 182, 0, 29, 1, 176]
abbrev dktX12_run_1 : List UInt8 := dkwX12_run_1 ++ []
def dkwX12_run_0 : List UInt8 := [42, 180, 0, 7, 43, 182, 0, 17, 66, 42, 180, 0, 7, 43, 33, 42, 180, 0, 13, 43]
abbrev dktX12_run_0 : List UInt8 := dkwX12_run_0 ++ dktX12_run_1
theorem dksX12_run_0 : cX12_run.data.toList.drop 0 = dktX12_run_0 := by decide +kernel
theorem dksX12_run_1 : cX12_run.data.toList.drop 20 = dktX12_run_1 := dk_seg dksX12_run_0 20 rfl rfl
theorem dX12_run_0 : decode cX12_run 0 = .ok (.aload_n 0, 1) := dk_42 (dk_at dksX12_run_0 0 rfl rfl)
theorem dX12_run_1 : decode cX12_run 1 = .ok (.getfield 7, 3) := dk_180 0 7 (dk_at dksX12_run_0 1 rfl rfl)
theorem dX12_run_4 : decode cX12_run 4 = .ok (.aload_n 1, 1) := dk_43 (dk_at dksX12_run_0 4 rfl rfl)
theorem dX12_run_5 : decode cX12_run 5 = .ok (.invokevirtual 17, 3) := dk_182 0 17 (dk_at dksX12_run_0 5 rfl rfl)
theorem dX12_run_8 : decode cX12_run 8 = .ok (.lstore_n 3, 1) := dk_66 (dk_at dksX12_run_0 8 rfl rfl)
theorem dX12_run_9 : decode cX12_run 9 = .ok (.aload_n 0, 1) := dk_42 (dk_at dksX12_run_0 9 rfl rfl)
theorem dX12_run_10 : decode cX12_run 10 = .ok (.getfield 7, 3) := dk_180 0 7 (dk_at dksX12_run_0 10 rfl rfl)
theorem dX12_run_13 : decode cX12_run 13 = .ok (.aload_n 1, 1) := dk_43 (dk_at dksX12_run_0 13 rfl rfl)
theorem dX12_run_14 : decode cX12_run 14 = .ok (.lload_n 3, 1) := dk_33 (dk_at dksX12_run_0 14 rfl rfl)
theorem dX12_run_15 : decode cX12_run 15 = .ok (.aload_n 0, 1) := dk_42 (dk_at dksX12_run_0 15 rfl rfl)
theorem dX12_run_16 : decode cX12_run 16 = .ok (.getfield 13, 3) := dk_180 0 13 (dk_at dksX12_run_0 16 rfl rfl)
theorem dX12_run_19 : decode cX12_run 19 = .ok (.aload_n 1, 1) := dk_43 (dk_at dksX12_run_0 19 rfl rfl)
theorem dX12_run_20 : decode cX12_run 20 = .ok (.invokeinterface 23 2, 5) := by decide +kernel
theorem dX12_run_25 : decode cX12_run 25 = .ok (.invokevirtual 29, 3) := dk_182 0 29 (dk_at dksX12_run_1 5 rfl rfl)
theorem dX12_run_28 : decode cX12_run 28 = .ok (.aconst_null, 1) := dk_1 (dk_at dksX12_run_1 8 rfl rfl)
theorem dX12_run_29 : decode cX12_run 29 = .ok (.areturn, 1) := dk_176 (dk_at dksX12_run_1 9 rfl rfl)
theorem q151 : (Jvm.Cond.initialized "BasicMachine$Let") ∈ lw_all := lw_g (lw_at lw_m1 30 rfl) rfl
theorem q1034 : (Jvm.Cond.instantiable "BasicMachine$Let" (2 : Nat)) ∈ lw_all := lw_g (lw_at lw_m4 193 rfl) rfl
theorem q1036 : (Jvm.Cond.instanceMethod ({ cls := "BasicMachine$Let", name := "<init>", desc := "(LBasicMachine$Place;LBasicMachine$Expression;)V" } : Jvm.MethodName)) ∈ lw_all := lw_g (lw_at lw_m4 195 rfl) rfl
theorem q1037 : (Jvm.Cond.code ({ cls := "BasicMachine$Let", name := "<init>", desc := "(LBasicMachine$Place;LBasicMachine$Expression;)V" } : Jvm.MethodName) prog_12_method_1_code (3 : Nat) (Option.none : Option Jvm.ClassFile.FieldType)) ∈ lw_all := lw_g (lw_at lw_m4 196 rfl) rfl
theorem q1038 : (Jvm.Cond.methodLink "BasicMachine$Let" (1 : Nat) ({ cls := "java/lang/Record", name := "<init>", desc := "()V" } : Jvm.MethodName)) ∈ lw_all := lw_g (lw_at lw_m4 197 rfl) rfl
theorem q1039 : (Jvm.Cond.fieldLink "BasicMachine$Let" (7 : Nat) "BasicMachine$Let" "place" "LBasicMachine$Place;") ∈ lw_all := lw_g (lw_at lw_m4 198 rfl) rfl
theorem q1040 : (Jvm.Cond.fieldLink "BasicMachine$Let" (13 : Nat) "BasicMachine$Let" "e" "LBasicMachine$Expression;") ∈ lw_all := lw_g (lw_at lw_m4 199 rfl) rfl
theorem q1041 : (Jvm.Cond.laysFinal "BasicMachine$Let" "BasicMachine$Let" "place" "LBasicMachine$Place;") ∈ lw_all := lw_g (lw_at lw_m4 200 rfl) rfl
theorem q1042 : (Jvm.Cond.soleField "BasicMachine$Let" "place") ∈ lw_all := lw_g (lw_at lw_m4 201 rfl) rfl
theorem q1043 : (Jvm.Cond.laysFinal "BasicMachine$Let" "BasicMachine$Let" "e" "LBasicMachine$Expression;") ∈ lw_all := lw_g (lw_at lw_m4 202 rfl) rfl
theorem q1044 : (Jvm.Cond.soleField "BasicMachine$Let" "e") ∈ lw_all := lw_g (lw_at lw_m4 203 rfl) rfl
theorem q1045 : (Jvm.Cond.superclass "BasicMachine$Let" "java/lang/Record") ∈ lw_all := lw_g (lw_at lw_m4 204 rfl) rfl
theorem q1600 : (Jvm.Cond.castable "BasicMachine$Let" "BasicMachine$Statement") ∈ lw_tbl := lw_at lw_m7 39 rfl
theorem q1601 : (Jvm.Cond.selects "BasicMachine$Let" ({ cls := "BasicMachine$Statement", name := "run", desc := "(LBasicMachine;LBasicMachine$Line;)LBasicMachine$Line;" } : Jvm.MethodName) ({ cls := "BasicMachine$Let", name := "run", desc := "(LBasicMachine;LBasicMachine$Line;)LBasicMachine$Line;" } : Jvm.MethodName)) ∈ lw_all := lw_g (lw_at lw_m7 40 rfl) rfl
theorem q1602 : (Jvm.Cond.unhidden "BasicMachine$Let" "run" "(LBasicMachine;LBasicMachine$Line;)LBasicMachine$Line;") ∈ lw_tbl := lw_at lw_m7 41 rfl
theorem q1603 : (Jvm.Cond.instanceMethod ({ cls := "BasicMachine$Let", name := "run", desc := "(LBasicMachine;LBasicMachine$Line;)LBasicMachine$Line;" } : Jvm.MethodName)) ∈ lw_all := lw_g (lw_at lw_m7 42 rfl) rfl
theorem q1604 : (Jvm.Cond.publicMethod ({ cls := "BasicMachine$Let", name := "run", desc := "(LBasicMachine;LBasicMachine$Line;)LBasicMachine$Line;" } : Jvm.MethodName)) ∈ lw_tbl := lw_at lw_m7 43 rfl
theorem q1605 : (Jvm.Cond.code ({ cls := "BasicMachine$Let", name := "run", desc := "(LBasicMachine;LBasicMachine$Line;)LBasicMachine$Line;" } : Jvm.MethodName) prog_12_method_2_code (5 : Nat) (Option.some (Jvm.ClassFile.FieldType.object "BasicMachine$Line"))) ∈ lw_all := lw_g (lw_at lw_m7 44 rfl) rfl
theorem q1606 : (Jvm.Cond.methodLink "BasicMachine$Let" (17 : Nat) ({ cls := "BasicMachine$Place", name := "find", desc := "(LBasicMachine;)J" } : Jvm.MethodName)) ∈ lw_all := lw_g (lw_at lw_m7 45 rfl) rfl
theorem q1628 : (Jvm.Cond.interfaceEntry "BasicMachine$Let" (23 : Nat)) ∈ lw_tbl := lw_at lw_m7 67 rfl
theorem q1629 : (Jvm.Cond.methodLink "BasicMachine$Let" (23 : Nat) ({ cls := "BasicMachine$Expression", name := "value", desc := "(LBasicMachine;)D" } : Jvm.MethodName)) ∈ lw_all := lw_g (lw_at lw_m7 68 rfl) rfl
theorem q1630 : (Jvm.Cond.methodLink "BasicMachine$Let" (29 : Nat) ({ cls := "BasicMachine$Place", name := "put", desc := "(LBasicMachine;JD)V" } : Jvm.MethodName)) ∈ lw_all := lw_g (lw_at lw_m7 69 rfl) rfl
theorem q2321 : (Jvm.Cond.castable "BasicMachine$Let" "java/lang/Object") ∈ lw_tbl := lw_at lw_m10 40 rfl
theorem in_X12 : ∀ w ∈ wsX120, w ∈ lw_all := lw_in wsX120 [1041, 1043] (by decide +kernel) (by decide +kernel)
/-! BasicMachine$Print -/
set_option maxRecDepth 100000
def RX13 : String := "BasicMachine$Print"
def TX13 : u_T := fun k => match k with
  | _ => ("BasicMachine$Print", "e", "LBasicMachine$Expression;", true)
def tyX13 : Nat → FieldType := fun k => match k with
  | _ => .object "BasicMachine$Expression"
abbrev wsX130 : List Cond := u_ws RX13 TX13 1
theorem nmX13 : ∀ a, a < 1 → ∀ b, b < 1 → a ≠ b → (TX13 a).2.1 ≠ (TX13 b).2.1 := by decide +kernel
theorem tyX13_ok : ∀ k, k < 1 → parseFieldDescriptor (TX13 k).2.2.1 = some (tyX13 k) := by decide +kernel
abbrev cX13_init : ByteArray := prog_24_method_1_code
def yX13_init : MethodName := ⟨RX13, "<init>", "(LBasicMachine$Expression;)V"⟩
def dkwX13_init_0 : List UInt8 := [42, 183, 0, 1, 42, 43, 181, 0, 7, 177]
abbrev dktX13_init_0 : List UInt8 := dkwX13_init_0 ++ []
theorem dksX13_init_0 : cX13_init.data.toList.drop 0 = dktX13_init_0 := by decide +kernel
theorem dX13_init_0 : decode cX13_init 0 = .ok (.aload_n 0, 1) := dk_42 (dk_at dksX13_init_0 0 rfl rfl)
theorem dX13_init_1 : decode cX13_init 1 = .ok (.invokespecial 1, 3) := dk_183 0 1 (dk_at dksX13_init_0 1 rfl rfl)
theorem dX13_init_4 : decode cX13_init 4 = .ok (.aload_n 0, 1) := dk_42 (dk_at dksX13_init_0 4 rfl rfl)
theorem dX13_init_5 : decode cX13_init 5 = .ok (.aload_n 1, 1) := dk_43 (dk_at dksX13_init_0 5 rfl rfl)
theorem dX13_init_6 : decode cX13_init 6 = .ok (.putfield 7, 3) := dk_181 0 7 (dk_at dksX13_init_0 6 rfl rfl)
theorem dX13_init_9 : decode cX13_init 9 = .ok (.return_, 1) := dk_177 (dk_at dksX13_init_0 9 rfl rfl)
abbrev cX13_run : ByteArray := prog_24_method_2_code
def yX13_run : MethodName := ⟨RX13, "run", "(LBasicMachine;LBasicMachine$Line;)LBasicMachine$Line;"⟩
def dkwX13_run_1 : List UInt8 := [43, 180, 0, 19, 41, 82, 43, 89, 180, 0, 19, 4, 96, 181, 0, 19, 1, 176]
abbrev dktX13_run_1 : List UInt8 := dkwX13_run_1 ++ []
def dkwX13_run_0 : List UInt8 := [42, 180, 0, 7, 43, 185, 0, 13, 2, 0, 74, 43, 180, 0, 19, 16, 40, 162, 0, 13, 43, 180, 0, 25]
abbrev dktX13_run_0 : List UInt8 := dkwX13_run_0 ++ dktX13_run_1
theorem dksX13_run_0 : cX13_run.data.toList.drop 0 = dktX13_run_0 := by decide +kernel
theorem dksX13_run_1 : cX13_run.data.toList.drop 24 = dktX13_run_1 := dk_seg dksX13_run_0 24 rfl rfl
theorem dX13_run_0 : decode cX13_run 0 = .ok (.aload_n 0, 1) := dk_42 (dk_at dksX13_run_0 0 rfl rfl)
theorem dX13_run_1 : decode cX13_run 1 = .ok (.getfield 7, 3) := dk_180 0 7 (dk_at dksX13_run_0 1 rfl rfl)
theorem dX13_run_4 : decode cX13_run 4 = .ok (.aload_n 1, 1) := dk_43 (dk_at dksX13_run_0 4 rfl rfl)
theorem dX13_run_5 : decode cX13_run 5 = .ok (.invokeinterface 13 2, 5) := by decide +kernel
theorem dX13_run_10 : decode cX13_run 10 = .ok (.dstore_n 3, 1) := dk_74 (dk_at dksX13_run_0 10 rfl rfl)
theorem dX13_run_11 : decode cX13_run 11 = .ok (.aload_n 1, 1) := dk_43 (dk_at dksX13_run_0 11 rfl rfl)
theorem dX13_run_12 : decode cX13_run 12 = .ok (.getfield 19, 3) := dk_180 0 19 (dk_at dksX13_run_0 12 rfl rfl)
theorem dX13_run_15 : decode cX13_run 15 = .ok (.bipush 40, 2) := dk_16 40 (dk_at dksX13_run_0 15 rfl rfl)
theorem dX13_run_17 : decode cX13_run 17 = .ok (.if_icmp .ge 13, 3) := dk_162 0 13 (dk_at dksX13_run_0 17 rfl rfl)
theorem dX13_run_20 : decode cX13_run 20 = .ok (.aload_n 1, 1) := dk_43 (dk_at dksX13_run_0 20 rfl rfl)
theorem dX13_run_21 : decode cX13_run 21 = .ok (.getfield 25, 3) := dk_180 0 25 (dk_at dksX13_run_0 21 rfl rfl)
theorem dX13_run_24 : decode cX13_run 24 = .ok (.aload_n 1, 1) := dk_43 (dk_at dksX13_run_1 0 rfl rfl)
theorem dX13_run_25 : decode cX13_run 25 = .ok (.getfield 19, 3) := dk_180 0 19 (dk_at dksX13_run_1 1 rfl rfl)
theorem dX13_run_28 : decode cX13_run 28 = .ok (.dload_n 3, 1) := dk_41 (dk_at dksX13_run_1 4 rfl rfl)
theorem dX13_run_29 : decode cX13_run 29 = .ok (.dastore, 1) := dk_82 (dk_at dksX13_run_1 5 rfl rfl)
theorem dX13_run_30 : decode cX13_run 30 = .ok (.aload_n 1, 1) := dk_43 (dk_at dksX13_run_1 6 rfl rfl)
theorem dX13_run_31 : decode cX13_run 31 = .ok (.dup, 1) := dk_89 (dk_at dksX13_run_1 7 rfl rfl)
theorem dX13_run_32 : decode cX13_run 32 = .ok (.getfield 19, 3) := dk_180 0 19 (dk_at dksX13_run_1 8 rfl rfl)
theorem dX13_run_35 : decode cX13_run 35 = .ok (.iconst 1, 1) := dk_4 (dk_at dksX13_run_1 11 rfl rfl)
theorem dX13_run_36 : decode cX13_run 36 = .ok (.iadd, 1) := dk_96 (dk_at dksX13_run_1 12 rfl rfl)
theorem dX13_run_37 : decode cX13_run 37 = .ok (.putfield 19, 3) := dk_181 0 19 (dk_at dksX13_run_1 13 rfl rfl)
theorem dX13_run_40 : decode cX13_run 40 = .ok (.aconst_null, 1) := dk_1 (dk_at dksX13_run_1 16 rfl rfl)
theorem dX13_run_41 : decode cX13_run 41 = .ok (.areturn, 1) := dk_176 (dk_at dksX13_run_1 17 rfl rfl)
theorem q152 : (Jvm.Cond.initialized "BasicMachine$Print") ∈ lw_all := lw_g (lw_at lw_m1 31 rfl) rfl
theorem q227 : (Jvm.Cond.fieldLinkNest "BasicMachine$Print" (25 : Nat) "BasicMachine" "printed" "[D" "BasicMachine") ∈ lw_tbl := lw_at lw_m1 106 rfl
theorem q229 : (Jvm.Cond.fieldLinkNest "BasicMachine$Print" (19 : Nat) "BasicMachine" "prints" "I" "BasicMachine") ∈ lw_tbl := lw_at lw_m1 108 rfl
theorem q1047 : (Jvm.Cond.instantiable "BasicMachine$Print" (1 : Nat)) ∈ lw_all := lw_g (lw_at lw_m4 206 rfl) rfl
theorem q1049 : (Jvm.Cond.instanceMethod ({ cls := "BasicMachine$Print", name := "<init>", desc := "(LBasicMachine$Expression;)V" } : Jvm.MethodName)) ∈ lw_all := lw_g (lw_at lw_m4 208 rfl) rfl
theorem q1050 : (Jvm.Cond.code ({ cls := "BasicMachine$Print", name := "<init>", desc := "(LBasicMachine$Expression;)V" } : Jvm.MethodName) prog_24_method_1_code (2 : Nat) (Option.none : Option Jvm.ClassFile.FieldType)) ∈ lw_all := lw_g (lw_at lw_m4 209 rfl) rfl
theorem q1051 : (Jvm.Cond.methodLink "BasicMachine$Print" (1 : Nat) ({ cls := "java/lang/Record", name := "<init>", desc := "()V" } : Jvm.MethodName)) ∈ lw_all := lw_g (lw_at lw_m4 210 rfl) rfl
theorem q1052 : (Jvm.Cond.fieldLink "BasicMachine$Print" (7 : Nat) "BasicMachine$Print" "e" "LBasicMachine$Expression;") ∈ lw_all := lw_g (lw_at lw_m4 211 rfl) rfl
theorem q1053 : (Jvm.Cond.laysFinal "BasicMachine$Print" "BasicMachine$Print" "e" "LBasicMachine$Expression;") ∈ lw_all := lw_g (lw_at lw_m4 212 rfl) rfl
theorem q1054 : (Jvm.Cond.soleField "BasicMachine$Print" "e") ∈ lw_all := lw_g (lw_at lw_m4 213 rfl) rfl
theorem q1055 : (Jvm.Cond.superclass "BasicMachine$Print" "java/lang/Record") ∈ lw_all := lw_g (lw_at lw_m4 214 rfl) rfl
theorem q1724 : (Jvm.Cond.castable "BasicMachine$Print" "BasicMachine$Statement") ∈ lw_tbl := lw_at lw_m7 163 rfl
theorem q1725 : (Jvm.Cond.selects "BasicMachine$Print" ({ cls := "BasicMachine$Statement", name := "run", desc := "(LBasicMachine;LBasicMachine$Line;)LBasicMachine$Line;" } : Jvm.MethodName) ({ cls := "BasicMachine$Print", name := "run", desc := "(LBasicMachine;LBasicMachine$Line;)LBasicMachine$Line;" } : Jvm.MethodName)) ∈ lw_all := lw_g (lw_at lw_m7 164 rfl) rfl
theorem q1726 : (Jvm.Cond.unhidden "BasicMachine$Print" "run" "(LBasicMachine;LBasicMachine$Line;)LBasicMachine$Line;") ∈ lw_tbl := lw_at lw_m7 165 rfl
theorem q1727 : (Jvm.Cond.instanceMethod ({ cls := "BasicMachine$Print", name := "run", desc := "(LBasicMachine;LBasicMachine$Line;)LBasicMachine$Line;" } : Jvm.MethodName)) ∈ lw_all := lw_g (lw_at lw_m7 166 rfl) rfl
theorem q1728 : (Jvm.Cond.publicMethod ({ cls := "BasicMachine$Print", name := "run", desc := "(LBasicMachine;LBasicMachine$Line;)LBasicMachine$Line;" } : Jvm.MethodName)) ∈ lw_tbl := lw_at lw_m7 167 rfl
theorem q1729 : (Jvm.Cond.code ({ cls := "BasicMachine$Print", name := "run", desc := "(LBasicMachine;LBasicMachine$Line;)LBasicMachine$Line;" } : Jvm.MethodName) prog_24_method_2_code (5 : Nat) (Option.some (Jvm.ClassFile.FieldType.object "BasicMachine$Line"))) ∈ lw_all := lw_g (lw_at lw_m7 168 rfl) rfl
theorem q1730 : (Jvm.Cond.interfaceEntry "BasicMachine$Print" (13 : Nat)) ∈ lw_tbl := lw_at lw_m7 169 rfl
theorem q1731 : (Jvm.Cond.methodLink "BasicMachine$Print" (13 : Nat) ({ cls := "BasicMachine$Expression", name := "value", desc := "(LBasicMachine;)D" } : Jvm.MethodName)) ∈ lw_all := lw_g (lw_at lw_m7 170 rfl) rfl
theorem q2322 : (Jvm.Cond.castable "BasicMachine$Print" "java/lang/Object") ∈ lw_tbl := lw_at lw_m10 41 rfl
theorem in_X13 : ∀ w ∈ wsX130, w ∈ lw_all := lw_in wsX130 [1053] (by decide +kernel) (by decide +kernel)
/-! BasicMachine$If -/
set_option maxRecDepth 100000
def RX14 : String := "BasicMachine$If"
def TX14 : u_T := fun k => match k with
  | 0 => ("BasicMachine$If", "a", "LBasicMachine$Expression;", true)
  | 1 => ("BasicMachine$If", "relation", "I", true)
  | 2 => ("BasicMachine$If", "b", "LBasicMachine$Expression;", true)
  | _ => ("BasicMachine$If", "n", "I", true)
def tyX14 : Nat → FieldType := fun k => match k with
  | 0 => .object "BasicMachine$Expression"
  | 1 => .int
  | 2 => .object "BasicMachine$Expression"
  | _ => .int
abbrev wsX140 : List Cond := u_ws RX14 TX14 4
theorem nmX14 : ∀ a, a < 4 → ∀ b, b < 4 → a ≠ b → (TX14 a).2.1 ≠ (TX14 b).2.1 := by decide +kernel
theorem tyX14_ok : ∀ k, k < 4 → parseFieldDescriptor (TX14 k).2.2.1 = some (tyX14 k) := by decide +kernel
abbrev cX14_init : ByteArray := prog_11_method_1_code
def yX14_init : MethodName := ⟨RX14, "<init>", "(LBasicMachine$Expression;ILBasicMachine$Expression;I)V"⟩
def dkwX14_init_1 : List UInt8 := [181, 0, 20, 177]
abbrev dktX14_init_1 : List UInt8 := dkwX14_init_1 ++ []
def dkwX14_init_0 : List UInt8 := [42, 183, 0, 1, 42, 43, 181, 0, 7, 42, 28, 181, 0, 13, 42, 45, 181, 0, 17, 42, 21, 4]
abbrev dktX14_init_0 : List UInt8 := dkwX14_init_0 ++ dktX14_init_1
theorem dksX14_init_0 : cX14_init.data.toList.drop 0 = dktX14_init_0 := by decide +kernel
theorem dksX14_init_1 : cX14_init.data.toList.drop 22 = dktX14_init_1 := dk_seg dksX14_init_0 22 rfl rfl
theorem dX14_init_0 : decode cX14_init 0 = .ok (.aload_n 0, 1) := dk_42 (dk_at dksX14_init_0 0 rfl rfl)
theorem dX14_init_1 : decode cX14_init 1 = .ok (.invokespecial 1, 3) := dk_183 0 1 (dk_at dksX14_init_0 1 rfl rfl)
theorem dX14_init_4 : decode cX14_init 4 = .ok (.aload_n 0, 1) := dk_42 (dk_at dksX14_init_0 4 rfl rfl)
theorem dX14_init_5 : decode cX14_init 5 = .ok (.aload_n 1, 1) := dk_43 (dk_at dksX14_init_0 5 rfl rfl)
theorem dX14_init_6 : decode cX14_init 6 = .ok (.putfield 7, 3) := dk_181 0 7 (dk_at dksX14_init_0 6 rfl rfl)
theorem dX14_init_9 : decode cX14_init 9 = .ok (.aload_n 0, 1) := dk_42 (dk_at dksX14_init_0 9 rfl rfl)
theorem dX14_init_10 : decode cX14_init 10 = .ok (.iload_n 2, 1) := dk_28 (dk_at dksX14_init_0 10 rfl rfl)
theorem dX14_init_11 : decode cX14_init 11 = .ok (.putfield 13, 3) := dk_181 0 13 (dk_at dksX14_init_0 11 rfl rfl)
theorem dX14_init_14 : decode cX14_init 14 = .ok (.aload_n 0, 1) := dk_42 (dk_at dksX14_init_0 14 rfl rfl)
theorem dX14_init_15 : decode cX14_init 15 = .ok (.aload_n 3, 1) := dk_45 (dk_at dksX14_init_0 15 rfl rfl)
theorem dX14_init_16 : decode cX14_init 16 = .ok (.putfield 17, 3) := dk_181 0 17 (dk_at dksX14_init_0 16 rfl rfl)
theorem dX14_init_19 : decode cX14_init 19 = .ok (.aload_n 0, 1) := dk_42 (dk_at dksX14_init_0 19 rfl rfl)
theorem dX14_init_20 : decode cX14_init 20 = .ok (.iload 4, 2) := dk_21 4 (dk_at dksX14_init_0 20 rfl rfl)
theorem dX14_init_22 : decode cX14_init 22 = .ok (.putfield 20, 3) := dk_181 0 20 (dk_at dksX14_init_1 0 rfl rfl)
theorem dX14_init_25 : decode cX14_init 25 = .ok (.return_, 1) := dk_177 (dk_at dksX14_init_1 3 rfl rfl)
abbrev cX14_run : ByteArray := prog_11_method_2_code
def yX14_run : MethodName := ⟨RX14, "run", "(LBasicMachine;LBasicMachine$Line;)LBasicMachine$Line;"⟩
def dkwX14_run_2 : List UInt8 := [42, 180, 0, 13, 21, 7, 126, 153, 0, 14, 43, 42, 180, 0, 20, 182, 0, 29, 167, 0, 4, 1, 176]
abbrev dktX14_run_2 : List UInt8 := dkwX14_run_2 ++ []
def dkwX14_run_1 : List UInt8 := [24, 5, 152, 156, 0, 7, 4, 167, 0, 15, 41, 24, 5, 151, 154, 0, 7, 5, 167, 0, 4, 7, 54, 7]
abbrev dktX14_run_1 : List UInt8 := dkwX14_run_1 ++ dktX14_run_2
def dkwX14_run_0 : List UInt8 := [42, 180, 0, 7, 43, 185, 0, 23, 2, 0, 74, 42, 180, 0, 17, 43, 185, 0, 23, 2, 0, 57, 5, 41]
abbrev dktX14_run_0 : List UInt8 := dkwX14_run_0 ++ dktX14_run_1
theorem dksX14_run_0 : cX14_run.data.toList.drop 0 = dktX14_run_0 := by decide +kernel
theorem dksX14_run_1 : cX14_run.data.toList.drop 24 = dktX14_run_1 := dk_seg dksX14_run_0 24 rfl rfl
theorem dksX14_run_2 : cX14_run.data.toList.drop 48 = dktX14_run_2 := dk_seg dksX14_run_1 24 rfl rfl
theorem dX14_run_0 : decode cX14_run 0 = .ok (.aload_n 0, 1) := dk_42 (dk_at dksX14_run_0 0 rfl rfl)
theorem dX14_run_1 : decode cX14_run 1 = .ok (.getfield 7, 3) := dk_180 0 7 (dk_at dksX14_run_0 1 rfl rfl)
theorem dX14_run_4 : decode cX14_run 4 = .ok (.aload_n 1, 1) := dk_43 (dk_at dksX14_run_0 4 rfl rfl)
theorem dX14_run_5 : decode cX14_run 5 = .ok (.invokeinterface 23 2, 5) := by decide +kernel
theorem dX14_run_10 : decode cX14_run 10 = .ok (.dstore_n 3, 1) := dk_74 (dk_at dksX14_run_0 10 rfl rfl)
theorem dX14_run_11 : decode cX14_run 11 = .ok (.aload_n 0, 1) := dk_42 (dk_at dksX14_run_0 11 rfl rfl)
theorem dX14_run_12 : decode cX14_run 12 = .ok (.getfield 17, 3) := dk_180 0 17 (dk_at dksX14_run_0 12 rfl rfl)
theorem dX14_run_15 : decode cX14_run 15 = .ok (.aload_n 1, 1) := dk_43 (dk_at dksX14_run_0 15 rfl rfl)
theorem dX14_run_16 : decode cX14_run 16 = .ok (.invokeinterface 23 2, 5) := by decide +kernel
theorem dX14_run_21 : decode cX14_run 21 = .ok (.dstore 5, 2) := dk_57 5 (dk_at dksX14_run_0 21 rfl rfl)
theorem dX14_run_23 : decode cX14_run 23 = .ok (.dload_n 3, 1) := dk_41 (dk_at dksX14_run_0 23 rfl rfl)
theorem dX14_run_24 : decode cX14_run 24 = .ok (.dload 5, 2) := dk_24 5 (dk_at dksX14_run_1 0 rfl rfl)
theorem dX14_run_26 : decode cX14_run 26 = .ok (.dcmp .g, 1) := dk_152 (dk_at dksX14_run_1 2 rfl rfl)
theorem dX14_run_27 : decode cX14_run 27 = .ok (.ifCond .ge 7, 3) := dk_156 0 7 (dk_at dksX14_run_1 3 rfl rfl)
theorem dX14_run_30 : decode cX14_run 30 = .ok (.iconst 1, 1) := dk_4 (dk_at dksX14_run_1 6 rfl rfl)
theorem dX14_run_31 : decode cX14_run 31 = .ok (.goto 15, 3) := dk_167 0 15 (dk_at dksX14_run_1 7 rfl rfl)
theorem dX14_run_34 : decode cX14_run 34 = .ok (.dload_n 3, 1) := dk_41 (dk_at dksX14_run_1 10 rfl rfl)
theorem dX14_run_35 : decode cX14_run 35 = .ok (.dload 5, 2) := dk_24 5 (dk_at dksX14_run_1 11 rfl rfl)
theorem dX14_run_37 : decode cX14_run 37 = .ok (.dcmp .l, 1) := dk_151 (dk_at dksX14_run_1 13 rfl rfl)
theorem dX14_run_38 : decode cX14_run 38 = .ok (.ifCond .ne 7, 3) := dk_154 0 7 (dk_at dksX14_run_1 14 rfl rfl)
theorem dX14_run_41 : decode cX14_run 41 = .ok (.iconst 2, 1) := dk_5 (dk_at dksX14_run_1 17 rfl rfl)
theorem dX14_run_42 : decode cX14_run 42 = .ok (.goto 4, 3) := dk_167 0 4 (dk_at dksX14_run_1 18 rfl rfl)
theorem dX14_run_45 : decode cX14_run 45 = .ok (.iconst 4, 1) := dk_7 (dk_at dksX14_run_1 21 rfl rfl)
theorem dX14_run_46 : decode cX14_run 46 = .ok (.istore 7, 2) := dk_54 7 (dk_at dksX14_run_1 22 rfl rfl)
theorem dX14_run_48 : decode cX14_run 48 = .ok (.aload_n 0, 1) := dk_42 (dk_at dksX14_run_2 0 rfl rfl)
theorem dX14_run_49 : decode cX14_run 49 = .ok (.getfield 13, 3) := dk_180 0 13 (dk_at dksX14_run_2 1 rfl rfl)
theorem dX14_run_52 : decode cX14_run 52 = .ok (.iload 7, 2) := dk_21 7 (dk_at dksX14_run_2 4 rfl rfl)
theorem dX14_run_54 : decode cX14_run 54 = .ok (.iand, 1) := dk_126 (dk_at dksX14_run_2 6 rfl rfl)
theorem dX14_run_55 : decode cX14_run 55 = .ok (.ifCond .eq 14, 3) := dk_153 0 14 (dk_at dksX14_run_2 7 rfl rfl)
theorem dX14_run_58 : decode cX14_run 58 = .ok (.aload_n 1, 1) := dk_43 (dk_at dksX14_run_2 10 rfl rfl)
theorem dX14_run_59 : decode cX14_run 59 = .ok (.aload_n 0, 1) := dk_42 (dk_at dksX14_run_2 11 rfl rfl)
theorem dX14_run_60 : decode cX14_run 60 = .ok (.getfield 20, 3) := dk_180 0 20 (dk_at dksX14_run_2 12 rfl rfl)
theorem dX14_run_63 : decode cX14_run 63 = .ok (.invokevirtual 29, 3) := dk_182 0 29 (dk_at dksX14_run_2 15 rfl rfl)
theorem dX14_run_66 : decode cX14_run 66 = .ok (.goto 4, 3) := dk_167 0 4 (dk_at dksX14_run_2 18 rfl rfl)
theorem dX14_run_69 : decode cX14_run 69 = .ok (.aconst_null, 1) := dk_1 (dk_at dksX14_run_2 21 rfl rfl)
theorem dX14_run_70 : decode cX14_run 70 = .ok (.areturn, 1) := dk_176 (dk_at dksX14_run_2 22 rfl rfl)
theorem q153 : (Jvm.Cond.initialized "BasicMachine$If") ∈ lw_all := lw_g (lw_at lw_m1 32 rfl) rfl
theorem q1062 : (Jvm.Cond.instantiable "BasicMachine$If" (4 : Nat)) ∈ lw_all := lw_g (lw_at lw_m4 221 rfl) rfl
theorem q1064 : (Jvm.Cond.instanceMethod ({ cls := "BasicMachine$If", name := "<init>", desc := "(LBasicMachine$Expression;ILBasicMachine$Expression;I)V" } : Jvm.MethodName)) ∈ lw_all := lw_g (lw_at lw_m4 223 rfl) rfl
theorem q1065 : (Jvm.Cond.code ({ cls := "BasicMachine$If", name := "<init>", desc := "(LBasicMachine$Expression;ILBasicMachine$Expression;I)V" } : Jvm.MethodName) prog_11_method_1_code (5 : Nat) (Option.none : Option Jvm.ClassFile.FieldType)) ∈ lw_all := lw_g (lw_at lw_m4 224 rfl) rfl
theorem q1066 : (Jvm.Cond.methodLink "BasicMachine$If" (1 : Nat) ({ cls := "java/lang/Record", name := "<init>", desc := "()V" } : Jvm.MethodName)) ∈ lw_all := lw_g (lw_at lw_m4 225 rfl) rfl
theorem q1067 : (Jvm.Cond.fieldLink "BasicMachine$If" (7 : Nat) "BasicMachine$If" "a" "LBasicMachine$Expression;") ∈ lw_all := lw_g (lw_at lw_m4 226 rfl) rfl
theorem q1068 : (Jvm.Cond.fieldLink "BasicMachine$If" (13 : Nat) "BasicMachine$If" "relation" "I") ∈ lw_all := lw_g (lw_at lw_m4 227 rfl) rfl
theorem q1069 : (Jvm.Cond.fieldLink "BasicMachine$If" (17 : Nat) "BasicMachine$If" "b" "LBasicMachine$Expression;") ∈ lw_all := lw_g (lw_at lw_m4 228 rfl) rfl
theorem q1070 : (Jvm.Cond.fieldLink "BasicMachine$If" (20 : Nat) "BasicMachine$If" "n" "I") ∈ lw_all := lw_g (lw_at lw_m4 229 rfl) rfl
theorem q1071 : (Jvm.Cond.laysFinal "BasicMachine$If" "BasicMachine$If" "a" "LBasicMachine$Expression;") ∈ lw_all := lw_g (lw_at lw_m4 230 rfl) rfl
theorem q1072 : (Jvm.Cond.soleField "BasicMachine$If" "a") ∈ lw_all := lw_g (lw_at lw_m4 231 rfl) rfl
theorem q1073 : (Jvm.Cond.laysFinal "BasicMachine$If" "BasicMachine$If" "relation" "I") ∈ lw_all := lw_g (lw_at lw_m4 232 rfl) rfl
theorem q1074 : (Jvm.Cond.soleField "BasicMachine$If" "relation") ∈ lw_all := lw_g (lw_at lw_m4 233 rfl) rfl
theorem q1075 : (Jvm.Cond.laysFinal "BasicMachine$If" "BasicMachine$If" "b" "LBasicMachine$Expression;") ∈ lw_all := lw_g (lw_at lw_m4 234 rfl) rfl
theorem q1076 : (Jvm.Cond.soleField "BasicMachine$If" "b") ∈ lw_all := lw_g (lw_at lw_m4 235 rfl) rfl
theorem q1077 : (Jvm.Cond.laysFinal "BasicMachine$If" "BasicMachine$If" "n" "I") ∈ lw_all := lw_g (lw_at lw_m4 236 rfl) rfl
theorem q1078 : (Jvm.Cond.soleField "BasicMachine$If" "n") ∈ lw_all := lw_g (lw_at lw_m4 237 rfl) rfl
theorem q1079 : (Jvm.Cond.superclass "BasicMachine$If" "java/lang/Record") ∈ lw_all := lw_g (lw_at lw_m4 238 rfl) rfl
theorem q1591 : (Jvm.Cond.castable "BasicMachine$If" "BasicMachine$Statement") ∈ lw_tbl := lw_at lw_m7 30 rfl
theorem q1592 : (Jvm.Cond.selects "BasicMachine$If" ({ cls := "BasicMachine$Statement", name := "run", desc := "(LBasicMachine;LBasicMachine$Line;)LBasicMachine$Line;" } : Jvm.MethodName) ({ cls := "BasicMachine$If", name := "run", desc := "(LBasicMachine;LBasicMachine$Line;)LBasicMachine$Line;" } : Jvm.MethodName)) ∈ lw_all := lw_g (lw_at lw_m7 31 rfl) rfl
theorem q1593 : (Jvm.Cond.unhidden "BasicMachine$If" "run" "(LBasicMachine;LBasicMachine$Line;)LBasicMachine$Line;") ∈ lw_tbl := lw_at lw_m7 32 rfl
theorem q1594 : (Jvm.Cond.instanceMethod ({ cls := "BasicMachine$If", name := "run", desc := "(LBasicMachine;LBasicMachine$Line;)LBasicMachine$Line;" } : Jvm.MethodName)) ∈ lw_all := lw_g (lw_at lw_m7 33 rfl) rfl
theorem q1595 : (Jvm.Cond.publicMethod ({ cls := "BasicMachine$If", name := "run", desc := "(LBasicMachine;LBasicMachine$Line;)LBasicMachine$Line;" } : Jvm.MethodName)) ∈ lw_tbl := lw_at lw_m7 34 rfl
theorem q1596 : (Jvm.Cond.code ({ cls := "BasicMachine$If", name := "run", desc := "(LBasicMachine;LBasicMachine$Line;)LBasicMachine$Line;" } : Jvm.MethodName) prog_11_method_2_code (8 : Nat) (Option.some (Jvm.ClassFile.FieldType.object "BasicMachine$Line"))) ∈ lw_all := lw_g (lw_at lw_m7 35 rfl) rfl
theorem q1597 : (Jvm.Cond.interfaceEntry "BasicMachine$If" (23 : Nat)) ∈ lw_tbl := lw_at lw_m7 36 rfl
theorem q1598 : (Jvm.Cond.methodLink "BasicMachine$If" (23 : Nat) ({ cls := "BasicMachine$Expression", name := "value", desc := "(LBasicMachine;)D" } : Jvm.MethodName)) ∈ lw_all := lw_g (lw_at lw_m7 37 rfl) rfl
theorem q1599 : (Jvm.Cond.methodLinkNest "BasicMachine$If" (29 : Nat) ({ cls := "BasicMachine", name := "line", desc := "(I)LBasicMachine$Line;" } : Jvm.MethodName) "BasicMachine") ∈ lw_tbl := lw_at lw_m7 38 rfl
theorem q2323 : (Jvm.Cond.castable "BasicMachine$If" "java/lang/Object") ∈ lw_tbl := lw_at lw_m10 42 rfl
theorem in_X14 : ∀ w ∈ wsX140, w ∈ lw_all := lw_in wsX140 [1071, 1073, 1075, 1077] (by decide +kernel) (by decide +kernel)
/-! BasicMachine$Goto -/
set_option maxRecDepth 100000
def RX15 : String := "BasicMachine$Goto"
def TX15 : u_T := fun k => match k with
  | _ => ("BasicMachine$Goto", "n", "I", true)
def tyX15 : Nat → FieldType := fun k => match k with
  | _ => .int
abbrev wsX150 : List Cond := u_ws RX15 TX15 1
theorem nmX15 : ∀ a, a < 1 → ∀ b, b < 1 → a ≠ b → (TX15 a).2.1 ≠ (TX15 b).2.1 := by decide +kernel
theorem tyX15_ok : ∀ k, k < 1 → parseFieldDescriptor (TX15 k).2.2.1 = some (tyX15 k) := by decide +kernel
abbrev cX15_init : ByteArray := prog_10_method_1_code
def yX15_init : MethodName := ⟨RX15, "<init>", "(I)V"⟩
def dkwX15_init_0 : List UInt8 := [42, 183, 0, 1, 42, 27, 181, 0, 7, 177]
abbrev dktX15_init_0 : List UInt8 := dkwX15_init_0 ++ []
theorem dksX15_init_0 : cX15_init.data.toList.drop 0 = dktX15_init_0 := by decide +kernel
theorem dX15_init_0 : decode cX15_init 0 = .ok (.aload_n 0, 1) := dk_42 (dk_at dksX15_init_0 0 rfl rfl)
theorem dX15_init_1 : decode cX15_init 1 = .ok (.invokespecial 1, 3) := dk_183 0 1 (dk_at dksX15_init_0 1 rfl rfl)
theorem dX15_init_4 : decode cX15_init 4 = .ok (.aload_n 0, 1) := dk_42 (dk_at dksX15_init_0 4 rfl rfl)
theorem dX15_init_5 : decode cX15_init 5 = .ok (.iload_n 1, 1) := dk_27 (dk_at dksX15_init_0 5 rfl rfl)
theorem dX15_init_6 : decode cX15_init 6 = .ok (.putfield 7, 3) := dk_181 0 7 (dk_at dksX15_init_0 6 rfl rfl)
theorem dX15_init_9 : decode cX15_init 9 = .ok (.return_, 1) := dk_177 (dk_at dksX15_init_0 9 rfl rfl)
abbrev cX15_run : ByteArray := prog_10_method_2_code
def yX15_run : MethodName := ⟨RX15, "run", "(LBasicMachine;LBasicMachine$Line;)LBasicMachine$Line;"⟩
def dkwX15_run_0 : List UInt8 := [43, 42, 180, 0, 7, 182, 0, 13, 176]
abbrev dktX15_run_0 : List UInt8 := dkwX15_run_0 ++ []
theorem dksX15_run_0 : cX15_run.data.toList.drop 0 = dktX15_run_0 := by decide +kernel
theorem dX15_run_0 : decode cX15_run 0 = .ok (.aload_n 1, 1) := dk_43 (dk_at dksX15_run_0 0 rfl rfl)
theorem dX15_run_1 : decode cX15_run 1 = .ok (.aload_n 0, 1) := dk_42 (dk_at dksX15_run_0 1 rfl rfl)
theorem dX15_run_2 : decode cX15_run 2 = .ok (.getfield 7, 3) := dk_180 0 7 (dk_at dksX15_run_0 2 rfl rfl)
theorem dX15_run_5 : decode cX15_run 5 = .ok (.invokevirtual 13, 3) := dk_182 0 13 (dk_at dksX15_run_0 5 rfl rfl)
theorem dX15_run_8 : decode cX15_run 8 = .ok (.areturn, 1) := dk_176 (dk_at dksX15_run_0 8 rfl rfl)
theorem q154 : (Jvm.Cond.initialized "BasicMachine$Goto") ∈ lw_all := lw_g (lw_at lw_m1 33 rfl) rfl
theorem q1081 : (Jvm.Cond.instantiable "BasicMachine$Goto" (1 : Nat)) ∈ lw_all := lw_g (lw_at lw_m5 0 rfl) rfl
theorem q1083 : (Jvm.Cond.instanceMethod ({ cls := "BasicMachine$Goto", name := "<init>", desc := "(I)V" } : Jvm.MethodName)) ∈ lw_all := lw_g (lw_at lw_m5 2 rfl) rfl
theorem q1084 : (Jvm.Cond.code ({ cls := "BasicMachine$Goto", name := "<init>", desc := "(I)V" } : Jvm.MethodName) prog_10_method_1_code (2 : Nat) (Option.none : Option Jvm.ClassFile.FieldType)) ∈ lw_all := lw_g (lw_at lw_m5 3 rfl) rfl
theorem q1085 : (Jvm.Cond.methodLink "BasicMachine$Goto" (1 : Nat) ({ cls := "java/lang/Record", name := "<init>", desc := "()V" } : Jvm.MethodName)) ∈ lw_all := lw_g (lw_at lw_m5 4 rfl) rfl
theorem q1086 : (Jvm.Cond.fieldLink "BasicMachine$Goto" (7 : Nat) "BasicMachine$Goto" "n" "I") ∈ lw_all := lw_g (lw_at lw_m5 5 rfl) rfl
theorem q1087 : (Jvm.Cond.laysFinal "BasicMachine$Goto" "BasicMachine$Goto" "n" "I") ∈ lw_all := lw_g (lw_at lw_m5 6 rfl) rfl
theorem q1088 : (Jvm.Cond.soleField "BasicMachine$Goto" "n") ∈ lw_all := lw_g (lw_at lw_m5 7 rfl) rfl
theorem q1089 : (Jvm.Cond.superclass "BasicMachine$Goto" "java/lang/Record") ∈ lw_all := lw_g (lw_at lw_m5 8 rfl) rfl
theorem q1584 : (Jvm.Cond.castable "BasicMachine$Goto" "BasicMachine$Statement") ∈ lw_tbl := lw_at lw_m7 23 rfl
theorem q1585 : (Jvm.Cond.selects "BasicMachine$Goto" ({ cls := "BasicMachine$Statement", name := "run", desc := "(LBasicMachine;LBasicMachine$Line;)LBasicMachine$Line;" } : Jvm.MethodName) ({ cls := "BasicMachine$Goto", name := "run", desc := "(LBasicMachine;LBasicMachine$Line;)LBasicMachine$Line;" } : Jvm.MethodName)) ∈ lw_all := lw_g (lw_at lw_m7 24 rfl) rfl
theorem q1586 : (Jvm.Cond.unhidden "BasicMachine$Goto" "run" "(LBasicMachine;LBasicMachine$Line;)LBasicMachine$Line;") ∈ lw_tbl := lw_at lw_m7 25 rfl
theorem q1587 : (Jvm.Cond.instanceMethod ({ cls := "BasicMachine$Goto", name := "run", desc := "(LBasicMachine;LBasicMachine$Line;)LBasicMachine$Line;" } : Jvm.MethodName)) ∈ lw_all := lw_g (lw_at lw_m7 26 rfl) rfl
theorem q1588 : (Jvm.Cond.publicMethod ({ cls := "BasicMachine$Goto", name := "run", desc := "(LBasicMachine;LBasicMachine$Line;)LBasicMachine$Line;" } : Jvm.MethodName)) ∈ lw_tbl := lw_at lw_m7 27 rfl
theorem q1589 : (Jvm.Cond.code ({ cls := "BasicMachine$Goto", name := "run", desc := "(LBasicMachine;LBasicMachine$Line;)LBasicMachine$Line;" } : Jvm.MethodName) prog_10_method_2_code (3 : Nat) (Option.some (Jvm.ClassFile.FieldType.object "BasicMachine$Line"))) ∈ lw_all := lw_g (lw_at lw_m7 28 rfl) rfl
theorem q1590 : (Jvm.Cond.methodLinkNest "BasicMachine$Goto" (13 : Nat) ({ cls := "BasicMachine", name := "line", desc := "(I)LBasicMachine$Line;" } : Jvm.MethodName) "BasicMachine") ∈ lw_tbl := lw_at lw_m7 29 rfl
theorem q2324 : (Jvm.Cond.castable "BasicMachine$Goto" "java/lang/Object") ∈ lw_tbl := lw_at lw_m10 43 rfl
theorem in_X15 : ∀ w ∈ wsX150, w ∈ lw_all := lw_in wsX150 [1087] (by decide +kernel) (by decide +kernel)
/-! BasicMachine$On -/
set_option maxRecDepth 100000
def RX16 : String := "BasicMachine$On"
def TX16 : u_T := fun k => match k with
  | 0 => ("BasicMachine$On", "e", "LBasicMachine$Expression;", true)
  | _ => ("BasicMachine$On", "places", "[I", true)
def tyX16 : Nat → FieldType := fun k => match k with
  | 0 => .object "BasicMachine$Expression"
  | _ => .array .int
abbrev wsX160 : List Cond := u_ws RX16 TX16 2
theorem nmX16 : ∀ a, a < 2 → ∀ b, b < 2 → a ≠ b → (TX16 a).2.1 ≠ (TX16 b).2.1 := by decide +kernel
theorem tyX16_ok : ∀ k, k < 2 → parseFieldDescriptor (TX16 k).2.2.1 = some (tyX16 k) := by decide +kernel
abbrev cX16_init : ByteArray := prog_20_method_1_code
def yX16_init : MethodName := ⟨RX16, "<init>", "(LBasicMachine$Expression;[I)V"⟩
def dkwX16_init_0 : List UInt8 := [42, 183, 0, 1, 42, 43, 181, 0, 7, 42, 44, 181, 0, 13, 177]
abbrev dktX16_init_0 : List UInt8 := dkwX16_init_0 ++ []
theorem dksX16_init_0 : cX16_init.data.toList.drop 0 = dktX16_init_0 := by decide +kernel
theorem dX16_init_0 : decode cX16_init 0 = .ok (.aload_n 0, 1) := dk_42 (dk_at dksX16_init_0 0 rfl rfl)
theorem dX16_init_1 : decode cX16_init 1 = .ok (.invokespecial 1, 3) := dk_183 0 1 (dk_at dksX16_init_0 1 rfl rfl)
theorem dX16_init_4 : decode cX16_init 4 = .ok (.aload_n 0, 1) := dk_42 (dk_at dksX16_init_0 4 rfl rfl)
theorem dX16_init_5 : decode cX16_init 5 = .ok (.aload_n 1, 1) := dk_43 (dk_at dksX16_init_0 5 rfl rfl)
theorem dX16_init_6 : decode cX16_init 6 = .ok (.putfield 7, 3) := dk_181 0 7 (dk_at dksX16_init_0 6 rfl rfl)
theorem dX16_init_9 : decode cX16_init 9 = .ok (.aload_n 0, 1) := dk_42 (dk_at dksX16_init_0 9 rfl rfl)
theorem dX16_init_10 : decode cX16_init 10 = .ok (.aload_n 2, 1) := dk_44 (dk_at dksX16_init_0 10 rfl rfl)
theorem dX16_init_11 : decode cX16_init 11 = .ok (.putfield 13, 3) := dk_181 0 13 (dk_at dksX16_init_0 11 rfl rfl)
theorem dX16_init_14 : decode cX16_init 14 = .ok (.return_, 1) := dk_177 (dk_at dksX16_init_0 14 rfl rfl)
abbrev cX16_run : ByteArray := prog_20_method_2_code
def yX16_run : MethodName := ⟨RX16, "run", "(LBasicMachine;LBasicMachine$Line;)LBasicMachine$Line;"⟩
def dkwX16_run_2 : List UInt8 := [4, 100, 46, 182, 0, 32, 176]
abbrev dktX16_run_2 : List UInt8 := dkwX16_run_2 ++ []
def dkwX16_run_1 : List UInt8 := [180, 0, 13, 190, 133, 148, 158, 0, 11, 187, 0, 29, 89, 183, 0, 31, 191, 43, 42, 180, 0, 13, 33, 136]
abbrev dktX16_run_1 : List UInt8 := dkwX16_run_1 ++ dktX16_run_2
def dkwX16_run_0 : List UInt8 := [42, 180, 0, 7, 43, 185, 0, 17, 2, 0, 184, 0, 23, 66, 33, 10, 148, 155, 0, 14, 33, 42]
abbrev dktX16_run_0 : List UInt8 := dkwX16_run_0 ++ dktX16_run_1
theorem dksX16_run_0 : cX16_run.data.toList.drop 0 = dktX16_run_0 := by decide +kernel
theorem dksX16_run_1 : cX16_run.data.toList.drop 22 = dktX16_run_1 := dk_seg dksX16_run_0 22 rfl rfl
theorem dksX16_run_2 : cX16_run.data.toList.drop 46 = dktX16_run_2 := dk_seg dksX16_run_1 24 rfl rfl
theorem dX16_run_0 : decode cX16_run 0 = .ok (.aload_n 0, 1) := dk_42 (dk_at dksX16_run_0 0 rfl rfl)
theorem dX16_run_1 : decode cX16_run 1 = .ok (.getfield 7, 3) := dk_180 0 7 (dk_at dksX16_run_0 1 rfl rfl)
theorem dX16_run_4 : decode cX16_run 4 = .ok (.aload_n 1, 1) := dk_43 (dk_at dksX16_run_0 4 rfl rfl)
theorem dX16_run_5 : decode cX16_run 5 = .ok (.invokeinterface 17 2, 5) := by decide +kernel
theorem dX16_run_10 : decode cX16_run 10 = .ok (.invokestatic 23, 3) := dk_184 0 23 (dk_at dksX16_run_0 10 rfl rfl)
theorem dX16_run_13 : decode cX16_run 13 = .ok (.lstore_n 3, 1) := dk_66 (dk_at dksX16_run_0 13 rfl rfl)
theorem dX16_run_14 : decode cX16_run 14 = .ok (.lload_n 3, 1) := dk_33 (dk_at dksX16_run_0 14 rfl rfl)
theorem dX16_run_15 : decode cX16_run 15 = .ok (.lconst 1, 1) := dk_10 (dk_at dksX16_run_0 15 rfl rfl)
theorem dX16_run_16 : decode cX16_run 16 = .ok (.lcmp, 1) := dk_148 (dk_at dksX16_run_0 16 rfl rfl)
theorem dX16_run_17 : decode cX16_run 17 = .ok (.ifCond .lt 14, 3) := dk_155 0 14 (dk_at dksX16_run_0 17 rfl rfl)
theorem dX16_run_20 : decode cX16_run 20 = .ok (.lload_n 3, 1) := dk_33 (dk_at dksX16_run_0 20 rfl rfl)
theorem dX16_run_21 : decode cX16_run 21 = .ok (.aload_n 0, 1) := dk_42 (dk_at dksX16_run_0 21 rfl rfl)
theorem dX16_run_22 : decode cX16_run 22 = .ok (.getfield 13, 3) := dk_180 0 13 (dk_at dksX16_run_1 0 rfl rfl)
theorem dX16_run_25 : decode cX16_run 25 = .ok (.arraylength, 1) := dk_190 (dk_at dksX16_run_1 3 rfl rfl)
theorem dX16_run_26 : decode cX16_run 26 = .ok (.i2l, 1) := dk_133 (dk_at dksX16_run_1 4 rfl rfl)
theorem dX16_run_27 : decode cX16_run 27 = .ok (.lcmp, 1) := dk_148 (dk_at dksX16_run_1 5 rfl rfl)
theorem dX16_run_28 : decode cX16_run 28 = .ok (.ifCond .le 11, 3) := dk_158 0 11 (dk_at dksX16_run_1 6 rfl rfl)
theorem dX16_run_31 : decode cX16_run 31 = .ok (.new 29, 3) := dk_187 0 29 (dk_at dksX16_run_1 9 rfl rfl)
theorem dX16_run_34 : decode cX16_run 34 = .ok (.dup, 1) := dk_89 (dk_at dksX16_run_1 12 rfl rfl)
theorem dX16_run_35 : decode cX16_run 35 = .ok (.invokespecial 31, 3) := dk_183 0 31 (dk_at dksX16_run_1 13 rfl rfl)
theorem dX16_run_38 : decode cX16_run 38 = .ok (.athrow, 1) := dk_191 (dk_at dksX16_run_1 16 rfl rfl)
theorem dX16_run_39 : decode cX16_run 39 = .ok (.aload_n 1, 1) := dk_43 (dk_at dksX16_run_1 17 rfl rfl)
theorem dX16_run_40 : decode cX16_run 40 = .ok (.aload_n 0, 1) := dk_42 (dk_at dksX16_run_1 18 rfl rfl)
theorem dX16_run_41 : decode cX16_run 41 = .ok (.getfield 13, 3) := dk_180 0 13 (dk_at dksX16_run_1 19 rfl rfl)
theorem dX16_run_44 : decode cX16_run 44 = .ok (.lload_n 3, 1) := dk_33 (dk_at dksX16_run_1 22 rfl rfl)
theorem dX16_run_45 : decode cX16_run 45 = .ok (.l2i, 1) := dk_136 (dk_at dksX16_run_1 23 rfl rfl)
theorem dX16_run_46 : decode cX16_run 46 = .ok (.iconst 1, 1) := dk_4 (dk_at dksX16_run_2 0 rfl rfl)
theorem dX16_run_47 : decode cX16_run 47 = .ok (.isub, 1) := dk_100 (dk_at dksX16_run_2 1 rfl rfl)
theorem dX16_run_48 : decode cX16_run 48 = .ok (.iaload, 1) := dk_46 (dk_at dksX16_run_2 2 rfl rfl)
theorem dX16_run_49 : decode cX16_run 49 = .ok (.invokevirtual 32, 3) := dk_182 0 32 (dk_at dksX16_run_2 3 rfl rfl)
theorem dX16_run_52 : decode cX16_run 52 = .ok (.areturn, 1) := dk_176 (dk_at dksX16_run_2 6 rfl rfl)
theorem q155 : (Jvm.Cond.initialized "BasicMachine$On") ∈ lw_all := lw_g (lw_at lw_m1 34 rfl) rfl
theorem q1095 : (Jvm.Cond.instantiable "BasicMachine$On" (2 : Nat)) ∈ lw_all := lw_g (lw_at lw_m5 14 rfl) rfl
theorem q1097 : (Jvm.Cond.instanceMethod ({ cls := "BasicMachine$On", name := "<init>", desc := "(LBasicMachine$Expression;[I)V" } : Jvm.MethodName)) ∈ lw_all := lw_g (lw_at lw_m5 16 rfl) rfl
theorem q1098 : (Jvm.Cond.code ({ cls := "BasicMachine$On", name := "<init>", desc := "(LBasicMachine$Expression;[I)V" } : Jvm.MethodName) prog_20_method_1_code (3 : Nat) (Option.none : Option Jvm.ClassFile.FieldType)) ∈ lw_all := lw_g (lw_at lw_m5 17 rfl) rfl
theorem q1099 : (Jvm.Cond.methodLink "BasicMachine$On" (1 : Nat) ({ cls := "java/lang/Record", name := "<init>", desc := "()V" } : Jvm.MethodName)) ∈ lw_all := lw_g (lw_at lw_m5 18 rfl) rfl
theorem q1100 : (Jvm.Cond.fieldLink "BasicMachine$On" (7 : Nat) "BasicMachine$On" "e" "LBasicMachine$Expression;") ∈ lw_all := lw_g (lw_at lw_m5 19 rfl) rfl
theorem q1101 : (Jvm.Cond.fieldLink "BasicMachine$On" (13 : Nat) "BasicMachine$On" "places" "[I") ∈ lw_all := lw_g (lw_at lw_m5 20 rfl) rfl
theorem q1102 : (Jvm.Cond.laysFinal "BasicMachine$On" "BasicMachine$On" "e" "LBasicMachine$Expression;") ∈ lw_all := lw_g (lw_at lw_m5 21 rfl) rfl
theorem q1103 : (Jvm.Cond.soleField "BasicMachine$On" "e") ∈ lw_all := lw_g (lw_at lw_m5 22 rfl) rfl
theorem q1104 : (Jvm.Cond.laysFinal "BasicMachine$On" "BasicMachine$On" "places" "[I") ∈ lw_all := lw_g (lw_at lw_m5 23 rfl) rfl
theorem q1105 : (Jvm.Cond.soleField "BasicMachine$On" "places") ∈ lw_all := lw_g (lw_at lw_m5 24 rfl) rfl
theorem q1106 : (Jvm.Cond.superclass "BasicMachine$On" "java/lang/Record") ∈ lw_all := lw_g (lw_at lw_m5 25 rfl) rfl
theorem q1712 : (Jvm.Cond.castable "BasicMachine$On" "BasicMachine$Statement") ∈ lw_tbl := lw_at lw_m7 151 rfl
theorem q1713 : (Jvm.Cond.selects "BasicMachine$On" ({ cls := "BasicMachine$Statement", name := "run", desc := "(LBasicMachine;LBasicMachine$Line;)LBasicMachine$Line;" } : Jvm.MethodName) ({ cls := "BasicMachine$On", name := "run", desc := "(LBasicMachine;LBasicMachine$Line;)LBasicMachine$Line;" } : Jvm.MethodName)) ∈ lw_all := lw_g (lw_at lw_m7 152 rfl) rfl
theorem q1714 : (Jvm.Cond.unhidden "BasicMachine$On" "run" "(LBasicMachine;LBasicMachine$Line;)LBasicMachine$Line;") ∈ lw_tbl := lw_at lw_m7 153 rfl
theorem q1715 : (Jvm.Cond.instanceMethod ({ cls := "BasicMachine$On", name := "run", desc := "(LBasicMachine;LBasicMachine$Line;)LBasicMachine$Line;" } : Jvm.MethodName)) ∈ lw_all := lw_g (lw_at lw_m7 154 rfl) rfl
theorem q1716 : (Jvm.Cond.publicMethod ({ cls := "BasicMachine$On", name := "run", desc := "(LBasicMachine;LBasicMachine$Line;)LBasicMachine$Line;" } : Jvm.MethodName)) ∈ lw_tbl := lw_at lw_m7 155 rfl
theorem q1717 : (Jvm.Cond.code ({ cls := "BasicMachine$On", name := "run", desc := "(LBasicMachine;LBasicMachine$Line;)LBasicMachine$Line;" } : Jvm.MethodName) prog_20_method_2_code (5 : Nat) (Option.some (Jvm.ClassFile.FieldType.object "BasicMachine$Line"))) ∈ lw_all := lw_g (lw_at lw_m7 156 rfl) rfl
theorem q1718 : (Jvm.Cond.interfaceEntry "BasicMachine$On" (17 : Nat)) ∈ lw_tbl := lw_at lw_m7 157 rfl
theorem q1719 : (Jvm.Cond.methodLink "BasicMachine$On" (17 : Nat) ({ cls := "BasicMachine$Expression", name := "value", desc := "(LBasicMachine;)D" } : Jvm.MethodName)) ∈ lw_all := lw_g (lw_at lw_m7 158 rfl) rfl
theorem q1720 : (Jvm.Cond.methodLinkNest "BasicMachine$On" (23 : Nat) ({ cls := "BasicMachine", name := "whole", desc := "(D)J" } : Jvm.MethodName) "BasicMachine") ∈ lw_tbl := lw_at lw_m7 159 rfl
theorem q1721 : (Jvm.Cond.classLink "BasicMachine$On" (29 : Nat) "java/lang/IllegalArgumentException") ∈ lw_all := lw_g (lw_at lw_m7 160 rfl) rfl
theorem q1722 : (Jvm.Cond.methodLink "BasicMachine$On" (31 : Nat) ({ cls := "java/lang/IllegalArgumentException", name := "<init>", desc := "()V" } : Jvm.MethodName)) ∈ lw_all := lw_g (lw_at lw_m7 161 rfl) rfl
theorem q1723 : (Jvm.Cond.methodLinkNest "BasicMachine$On" (32 : Nat) ({ cls := "BasicMachine", name := "line", desc := "(I)LBasicMachine$Line;" } : Jvm.MethodName) "BasicMachine") ∈ lw_tbl := lw_at lw_m7 162 rfl
theorem q2325 : (Jvm.Cond.castable "BasicMachine$On" "java/lang/Object") ∈ lw_tbl := lw_at lw_m10 44 rfl
theorem in_X16 : ∀ w ∈ wsX160, w ∈ lw_all := lw_in wsX160 [1102, 1104] (by decide +kernel) (by decide +kernel)
/-! BasicMachine$Gosub -/
set_option maxRecDepth 100000
def RX17 : String := "BasicMachine$Gosub"
def TX17 : u_T := fun k => match k with
  | _ => ("BasicMachine$Gosub", "n", "I", true)
def tyX17 : Nat → FieldType := fun k => match k with
  | _ => .int
abbrev wsX170 : List Cond := u_ws RX17 TX17 1
theorem nmX17 : ∀ a, a < 1 → ∀ b, b < 1 → a ≠ b → (TX17 a).2.1 ≠ (TX17 b).2.1 := by decide +kernel
theorem tyX17_ok : ∀ k, k < 1 → parseFieldDescriptor (TX17 k).2.2.1 = some (tyX17 k) := by decide +kernel
abbrev cX17_init : ByteArray := prog_9_method_1_code
def yX17_init : MethodName := ⟨RX17, "<init>", "(I)V"⟩
def dkwX17_init_0 : List UInt8 := [42, 183, 0, 1, 42, 27, 181, 0, 7, 177]
abbrev dktX17_init_0 : List UInt8 := dkwX17_init_0 ++ []
theorem dksX17_init_0 : cX17_init.data.toList.drop 0 = dktX17_init_0 := by decide +kernel
theorem dX17_init_0 : decode cX17_init 0 = .ok (.aload_n 0, 1) := dk_42 (dk_at dksX17_init_0 0 rfl rfl)
theorem dX17_init_1 : decode cX17_init 1 = .ok (.invokespecial 1, 3) := dk_183 0 1 (dk_at dksX17_init_0 1 rfl rfl)
theorem dX17_init_4 : decode cX17_init 4 = .ok (.aload_n 0, 1) := dk_42 (dk_at dksX17_init_0 4 rfl rfl)
theorem dX17_init_5 : decode cX17_init 5 = .ok (.iload_n 1, 1) := dk_27 (dk_at dksX17_init_0 5 rfl rfl)
theorem dX17_init_6 : decode cX17_init 6 = .ok (.putfield 7, 3) := dk_181 0 7 (dk_at dksX17_init_0 6 rfl rfl)
theorem dX17_init_9 : decode cX17_init 9 = .ok (.return_, 1) := dk_177 (dk_at dksX17_init_0 9 rfl rfl)
abbrev cX17_run : ByteArray := prog_9_method_2_code
def yX17_run : MethodName := ⟨RX17, "run", "(LBasicMachine;LBasicMachine$Line;)LBasicMachine$Line;"⟩
def dkwX17_run_2 : List UInt8 := [45, 176]
abbrev dktX17_run_2 : List UInt8 := dkwX17_run_2 ++ []
def dkwX17_run_1 : List UInt8 := [182, 0, 21, 78, 43, 180, 0, 25, 43, 180, 0, 13, 44, 83, 43, 89, 180, 0, 13, 4, 96, 181, 0, 13]
abbrev dktX17_run_1 : List UInt8 := dkwX17_run_1 ++ dktX17_run_2
def dkwX17_run_0 : List UInt8 := [43, 180, 0, 13, 16, 8, 160, 0, 11, 187, 0, 18, 89, 183, 0, 20, 191, 43, 42, 180, 0, 7]
abbrev dktX17_run_0 : List UInt8 := dkwX17_run_0 ++ dktX17_run_1
theorem dksX17_run_0 : cX17_run.data.toList.drop 0 = dktX17_run_0 := by decide +kernel
theorem dksX17_run_1 : cX17_run.data.toList.drop 22 = dktX17_run_1 := dk_seg dksX17_run_0 22 rfl rfl
theorem dksX17_run_2 : cX17_run.data.toList.drop 46 = dktX17_run_2 := dk_seg dksX17_run_1 24 rfl rfl
theorem dX17_run_0 : decode cX17_run 0 = .ok (.aload_n 1, 1) := dk_43 (dk_at dksX17_run_0 0 rfl rfl)
theorem dX17_run_1 : decode cX17_run 1 = .ok (.getfield 13, 3) := dk_180 0 13 (dk_at dksX17_run_0 1 rfl rfl)
theorem dX17_run_4 : decode cX17_run 4 = .ok (.bipush 8, 2) := dk_16 8 (dk_at dksX17_run_0 4 rfl rfl)
theorem dX17_run_6 : decode cX17_run 6 = .ok (.if_icmp .ne 11, 3) := dk_160 0 11 (dk_at dksX17_run_0 6 rfl rfl)
theorem dX17_run_9 : decode cX17_run 9 = .ok (.new 18, 3) := dk_187 0 18 (dk_at dksX17_run_0 9 rfl rfl)
theorem dX17_run_12 : decode cX17_run 12 = .ok (.dup, 1) := dk_89 (dk_at dksX17_run_0 12 rfl rfl)
theorem dX17_run_13 : decode cX17_run 13 = .ok (.invokespecial 20, 3) := dk_183 0 20 (dk_at dksX17_run_0 13 rfl rfl)
theorem dX17_run_16 : decode cX17_run 16 = .ok (.athrow, 1) := dk_191 (dk_at dksX17_run_0 16 rfl rfl)
theorem dX17_run_17 : decode cX17_run 17 = .ok (.aload_n 1, 1) := dk_43 (dk_at dksX17_run_0 17 rfl rfl)
theorem dX17_run_18 : decode cX17_run 18 = .ok (.aload_n 0, 1) := dk_42 (dk_at dksX17_run_0 18 rfl rfl)
theorem dX17_run_19 : decode cX17_run 19 = .ok (.getfield 7, 3) := dk_180 0 7 (dk_at dksX17_run_0 19 rfl rfl)
theorem dX17_run_22 : decode cX17_run 22 = .ok (.invokevirtual 21, 3) := dk_182 0 21 (dk_at dksX17_run_1 0 rfl rfl)
theorem dX17_run_25 : decode cX17_run 25 = .ok (.astore_n 3, 1) := dk_78 (dk_at dksX17_run_1 3 rfl rfl)
theorem dX17_run_26 : decode cX17_run 26 = .ok (.aload_n 1, 1) := dk_43 (dk_at dksX17_run_1 4 rfl rfl)
theorem dX17_run_27 : decode cX17_run 27 = .ok (.getfield 25, 3) := dk_180 0 25 (dk_at dksX17_run_1 5 rfl rfl)
theorem dX17_run_30 : decode cX17_run 30 = .ok (.aload_n 1, 1) := dk_43 (dk_at dksX17_run_1 8 rfl rfl)
theorem dX17_run_31 : decode cX17_run 31 = .ok (.getfield 13, 3) := dk_180 0 13 (dk_at dksX17_run_1 9 rfl rfl)
theorem dX17_run_34 : decode cX17_run 34 = .ok (.aload_n 2, 1) := dk_44 (dk_at dksX17_run_1 12 rfl rfl)
theorem dX17_run_35 : decode cX17_run 35 = .ok (.aastore, 1) := dk_83 (dk_at dksX17_run_1 13 rfl rfl)
theorem dX17_run_36 : decode cX17_run 36 = .ok (.aload_n 1, 1) := dk_43 (dk_at dksX17_run_1 14 rfl rfl)
theorem dX17_run_37 : decode cX17_run 37 = .ok (.dup, 1) := dk_89 (dk_at dksX17_run_1 15 rfl rfl)
theorem dX17_run_38 : decode cX17_run 38 = .ok (.getfield 13, 3) := dk_180 0 13 (dk_at dksX17_run_1 16 rfl rfl)
theorem dX17_run_41 : decode cX17_run 41 = .ok (.iconst 1, 1) := dk_4 (dk_at dksX17_run_1 19 rfl rfl)
theorem dX17_run_42 : decode cX17_run 42 = .ok (.iadd, 1) := dk_96 (dk_at dksX17_run_1 20 rfl rfl)
theorem dX17_run_43 : decode cX17_run 43 = .ok (.putfield 13, 3) := dk_181 0 13 (dk_at dksX17_run_1 21 rfl rfl)
theorem dX17_run_46 : decode cX17_run 46 = .ok (.aload_n 3, 1) := dk_45 (dk_at dksX17_run_2 0 rfl rfl)
theorem dX17_run_47 : decode cX17_run 47 = .ok (.areturn, 1) := dk_176 (dk_at dksX17_run_2 1 rfl rfl)
theorem q156 : (Jvm.Cond.initialized "BasicMachine$Gosub") ∈ lw_all := lw_g (lw_at lw_m1 35 rfl) rfl
theorem q215 : (Jvm.Cond.fieldLinkNest "BasicMachine$Gosub" (25 : Nat) "BasicMachine" "back" "[LBasicMachine$Line;" "BasicMachine") ∈ lw_tbl := lw_at lw_m1 94 rfl
theorem q218 : (Jvm.Cond.fieldLinkNest "BasicMachine$Gosub" (13 : Nat) "BasicMachine" "returns" "I" "BasicMachine") ∈ lw_tbl := lw_at lw_m1 97 rfl
theorem q1108 : (Jvm.Cond.instantiable "BasicMachine$Gosub" (1 : Nat)) ∈ lw_all := lw_g (lw_at lw_m5 27 rfl) rfl
theorem q1110 : (Jvm.Cond.instanceMethod ({ cls := "BasicMachine$Gosub", name := "<init>", desc := "(I)V" } : Jvm.MethodName)) ∈ lw_all := lw_g (lw_at lw_m5 29 rfl) rfl
theorem q1111 : (Jvm.Cond.code ({ cls := "BasicMachine$Gosub", name := "<init>", desc := "(I)V" } : Jvm.MethodName) prog_9_method_1_code (2 : Nat) (Option.none : Option Jvm.ClassFile.FieldType)) ∈ lw_all := lw_g (lw_at lw_m5 30 rfl) rfl
theorem q1112 : (Jvm.Cond.methodLink "BasicMachine$Gosub" (1 : Nat) ({ cls := "java/lang/Record", name := "<init>", desc := "()V" } : Jvm.MethodName)) ∈ lw_all := lw_g (lw_at lw_m5 31 rfl) rfl
theorem q1113 : (Jvm.Cond.fieldLink "BasicMachine$Gosub" (7 : Nat) "BasicMachine$Gosub" "n" "I") ∈ lw_all := lw_g (lw_at lw_m5 32 rfl) rfl
theorem q1114 : (Jvm.Cond.laysFinal "BasicMachine$Gosub" "BasicMachine$Gosub" "n" "I") ∈ lw_all := lw_g (lw_at lw_m5 33 rfl) rfl
theorem q1115 : (Jvm.Cond.soleField "BasicMachine$Gosub" "n") ∈ lw_all := lw_g (lw_at lw_m5 34 rfl) rfl
theorem q1116 : (Jvm.Cond.superclass "BasicMachine$Gosub" "java/lang/Record") ∈ lw_all := lw_g (lw_at lw_m5 35 rfl) rfl
theorem q1572 : (Jvm.Cond.castable "BasicMachine$Gosub" "BasicMachine$Statement") ∈ lw_tbl := lw_at lw_m7 11 rfl
theorem q1573 : (Jvm.Cond.selects "BasicMachine$Gosub" ({ cls := "BasicMachine$Statement", name := "run", desc := "(LBasicMachine;LBasicMachine$Line;)LBasicMachine$Line;" } : Jvm.MethodName) ({ cls := "BasicMachine$Gosub", name := "run", desc := "(LBasicMachine;LBasicMachine$Line;)LBasicMachine$Line;" } : Jvm.MethodName)) ∈ lw_all := lw_g (lw_at lw_m7 12 rfl) rfl
theorem q1574 : (Jvm.Cond.unhidden "BasicMachine$Gosub" "run" "(LBasicMachine;LBasicMachine$Line;)LBasicMachine$Line;") ∈ lw_tbl := lw_at lw_m7 13 rfl
theorem q1575 : (Jvm.Cond.instanceMethod ({ cls := "BasicMachine$Gosub", name := "run", desc := "(LBasicMachine;LBasicMachine$Line;)LBasicMachine$Line;" } : Jvm.MethodName)) ∈ lw_all := lw_g (lw_at lw_m7 14 rfl) rfl
theorem q1576 : (Jvm.Cond.publicMethod ({ cls := "BasicMachine$Gosub", name := "run", desc := "(LBasicMachine;LBasicMachine$Line;)LBasicMachine$Line;" } : Jvm.MethodName)) ∈ lw_tbl := lw_at lw_m7 15 rfl
theorem q1577 : (Jvm.Cond.code ({ cls := "BasicMachine$Gosub", name := "run", desc := "(LBasicMachine;LBasicMachine$Line;)LBasicMachine$Line;" } : Jvm.MethodName) prog_9_method_2_code (4 : Nat) (Option.some (Jvm.ClassFile.FieldType.object "BasicMachine$Line"))) ∈ lw_all := lw_g (lw_at lw_m7 16 rfl) rfl
theorem q1578 : (Jvm.Cond.classLink "BasicMachine$Gosub" (18 : Nat) "java/lang/IllegalStateException") ∈ lw_all := lw_g (lw_at lw_m7 17 rfl) rfl
theorem q1579 : (Jvm.Cond.methodLink "BasicMachine$Gosub" (20 : Nat) ({ cls := "java/lang/IllegalStateException", name := "<init>", desc := "()V" } : Jvm.MethodName)) ∈ lw_all := lw_g (lw_at lw_m7 18 rfl) rfl
theorem q1580 : (Jvm.Cond.methodLinkNest "BasicMachine$Gosub" (21 : Nat) ({ cls := "BasicMachine", name := "line", desc := "(I)LBasicMachine$Line;" } : Jvm.MethodName) "BasicMachine") ∈ lw_tbl := lw_at lw_m7 19 rfl
theorem q2326 : (Jvm.Cond.castable "BasicMachine$Gosub" "java/lang/Object") ∈ lw_tbl := lw_at lw_m10 45 rfl
theorem in_X17 : ∀ w ∈ wsX170, w ∈ lw_all := lw_in wsX170 [1114] (by decide +kernel) (by decide +kernel)
/-! BasicMachine$Return -/
set_option maxRecDepth 100000
def RX18 : String := "BasicMachine$Return"
abbrev cX18_init : ByteArray := prog_27_method_1_code
def yX18_init : MethodName := ⟨RX18, "<init>", "()V"⟩
theorem dX18_init_0 : decode cX18_init 0 = .ok (.aload_n 0, 1) := by decide +kernel
theorem dX18_init_1 : decode cX18_init 1 = .ok (.invokespecial 1, 3) := by decide +kernel
theorem dX18_init_4 : decode cX18_init 4 = .ok (.return_, 1) := by decide +kernel
abbrev cX18_run : ByteArray := prog_27_method_2_code
def yX18_run : MethodName := ⟨RX18, "run", "(LBasicMachine;LBasicMachine$Line;)LBasicMachine$Line;"⟩
def dkwX18_run_1 : List UInt8 := [181, 0, 7, 43, 43, 180, 0, 16, 43, 180, 0, 7, 50, 182, 0, 20, 176]
abbrev dktX18_run_1 : List UInt8 := dkwX18_run_1 ++ []
def dkwX18_run_0 : List UInt8 := [43, 180, 0, 7, 154, 0, 11, 187, 0, 13, 89, 183, 0, 15, 191, 43, 89, 180, 0, 7, 4, 100]
abbrev dktX18_run_0 : List UInt8 := dkwX18_run_0 ++ dktX18_run_1
theorem dksX18_run_0 : cX18_run.data.toList.drop 0 = dktX18_run_0 := by decide +kernel
theorem dksX18_run_1 : cX18_run.data.toList.drop 22 = dktX18_run_1 := dk_seg dksX18_run_0 22 rfl rfl
theorem dX18_run_0 : decode cX18_run 0 = .ok (.aload_n 1, 1) := dk_43 (dk_at dksX18_run_0 0 rfl rfl)
theorem dX18_run_1 : decode cX18_run 1 = .ok (.getfield 7, 3) := dk_180 0 7 (dk_at dksX18_run_0 1 rfl rfl)
theorem dX18_run_4 : decode cX18_run 4 = .ok (.ifCond .ne 11, 3) := dk_154 0 11 (dk_at dksX18_run_0 4 rfl rfl)
theorem dX18_run_7 : decode cX18_run 7 = .ok (.new 13, 3) := dk_187 0 13 (dk_at dksX18_run_0 7 rfl rfl)
theorem dX18_run_10 : decode cX18_run 10 = .ok (.dup, 1) := dk_89 (dk_at dksX18_run_0 10 rfl rfl)
theorem dX18_run_11 : decode cX18_run 11 = .ok (.invokespecial 15, 3) := dk_183 0 15 (dk_at dksX18_run_0 11 rfl rfl)
theorem dX18_run_14 : decode cX18_run 14 = .ok (.athrow, 1) := dk_191 (dk_at dksX18_run_0 14 rfl rfl)
theorem dX18_run_15 : decode cX18_run 15 = .ok (.aload_n 1, 1) := dk_43 (dk_at dksX18_run_0 15 rfl rfl)
theorem dX18_run_16 : decode cX18_run 16 = .ok (.dup, 1) := dk_89 (dk_at dksX18_run_0 16 rfl rfl)
theorem dX18_run_17 : decode cX18_run 17 = .ok (.getfield 7, 3) := dk_180 0 7 (dk_at dksX18_run_0 17 rfl rfl)
theorem dX18_run_20 : decode cX18_run 20 = .ok (.iconst 1, 1) := dk_4 (dk_at dksX18_run_0 20 rfl rfl)
theorem dX18_run_21 : decode cX18_run 21 = .ok (.isub, 1) := dk_100 (dk_at dksX18_run_0 21 rfl rfl)
theorem dX18_run_22 : decode cX18_run 22 = .ok (.putfield 7, 3) := dk_181 0 7 (dk_at dksX18_run_1 0 rfl rfl)
theorem dX18_run_25 : decode cX18_run 25 = .ok (.aload_n 1, 1) := dk_43 (dk_at dksX18_run_1 3 rfl rfl)
theorem dX18_run_26 : decode cX18_run 26 = .ok (.aload_n 1, 1) := dk_43 (dk_at dksX18_run_1 4 rfl rfl)
theorem dX18_run_27 : decode cX18_run 27 = .ok (.getfield 16, 3) := dk_180 0 16 (dk_at dksX18_run_1 5 rfl rfl)
theorem dX18_run_30 : decode cX18_run 30 = .ok (.aload_n 1, 1) := dk_43 (dk_at dksX18_run_1 8 rfl rfl)
theorem dX18_run_31 : decode cX18_run 31 = .ok (.getfield 7, 3) := dk_180 0 7 (dk_at dksX18_run_1 9 rfl rfl)
theorem dX18_run_34 : decode cX18_run 34 = .ok (.aaload, 1) := dk_50 (dk_at dksX18_run_1 12 rfl rfl)
theorem dX18_run_35 : decode cX18_run 35 = .ok (.invokevirtual 20, 3) := dk_182 0 20 (dk_at dksX18_run_1 13 rfl rfl)
theorem dX18_run_38 : decode cX18_run 38 = .ok (.areturn, 1) := dk_176 (dk_at dksX18_run_1 16 rfl rfl)
theorem q157 : (Jvm.Cond.initialized "BasicMachine$Return") ∈ lw_all := lw_g (lw_at lw_m1 36 rfl) rfl
theorem q216 : (Jvm.Cond.fieldLinkNest "BasicMachine$Return" (16 : Nat) "BasicMachine" "back" "[LBasicMachine$Line;" "BasicMachine") ∈ lw_tbl := lw_at lw_m1 95 rfl
theorem q219 : (Jvm.Cond.fieldLinkNest "BasicMachine$Return" (7 : Nat) "BasicMachine" "returns" "I" "BasicMachine") ∈ lw_tbl := lw_at lw_m1 98 rfl
theorem q1118 : (Jvm.Cond.instantiable "BasicMachine$Return" (0 : Nat)) ∈ lw_all := lw_g (lw_at lw_m5 37 rfl) rfl
theorem q1120 : (Jvm.Cond.instanceMethod ({ cls := "BasicMachine$Return", name := "<init>", desc := "()V" } : Jvm.MethodName)) ∈ lw_all := lw_g (lw_at lw_m5 39 rfl) rfl
theorem q1121 : (Jvm.Cond.code ({ cls := "BasicMachine$Return", name := "<init>", desc := "()V" } : Jvm.MethodName) prog_27_method_1_code (1 : Nat) (Option.none : Option Jvm.ClassFile.FieldType)) ∈ lw_all := lw_g (lw_at lw_m5 40 rfl) rfl
theorem q1122 : (Jvm.Cond.methodLink "BasicMachine$Return" (1 : Nat) ({ cls := "java/lang/Record", name := "<init>", desc := "()V" } : Jvm.MethodName)) ∈ lw_all := lw_g (lw_at lw_m5 41 rfl) rfl
theorem q1123 : (Jvm.Cond.superclass "BasicMachine$Return" "java/lang/Record") ∈ lw_all := lw_g (lw_at lw_m5 42 rfl) rfl
theorem q1755 : (Jvm.Cond.castable "BasicMachine$Return" "BasicMachine$Statement") ∈ lw_tbl := lw_at lw_m7 194 rfl
theorem q1756 : (Jvm.Cond.selects "BasicMachine$Return" ({ cls := "BasicMachine$Statement", name := "run", desc := "(LBasicMachine;LBasicMachine$Line;)LBasicMachine$Line;" } : Jvm.MethodName) ({ cls := "BasicMachine$Return", name := "run", desc := "(LBasicMachine;LBasicMachine$Line;)LBasicMachine$Line;" } : Jvm.MethodName)) ∈ lw_all := lw_g (lw_at lw_m7 195 rfl) rfl
theorem q1757 : (Jvm.Cond.unhidden "BasicMachine$Return" "run" "(LBasicMachine;LBasicMachine$Line;)LBasicMachine$Line;") ∈ lw_tbl := lw_at lw_m7 196 rfl
theorem q1758 : (Jvm.Cond.instanceMethod ({ cls := "BasicMachine$Return", name := "run", desc := "(LBasicMachine;LBasicMachine$Line;)LBasicMachine$Line;" } : Jvm.MethodName)) ∈ lw_all := lw_g (lw_at lw_m7 197 rfl) rfl
theorem q1759 : (Jvm.Cond.publicMethod ({ cls := "BasicMachine$Return", name := "run", desc := "(LBasicMachine;LBasicMachine$Line;)LBasicMachine$Line;" } : Jvm.MethodName)) ∈ lw_tbl := lw_at lw_m7 198 rfl
theorem q1760 : (Jvm.Cond.code ({ cls := "BasicMachine$Return", name := "run", desc := "(LBasicMachine;LBasicMachine$Line;)LBasicMachine$Line;" } : Jvm.MethodName) prog_27_method_2_code (3 : Nat) (Option.some (Jvm.ClassFile.FieldType.object "BasicMachine$Line"))) ∈ lw_all := lw_g (lw_at lw_m7 199 rfl) rfl
theorem q1761 : (Jvm.Cond.classLink "BasicMachine$Return" (13 : Nat) "java/lang/IllegalStateException") ∈ lw_all := lw_g (lw_at lw_m7 200 rfl) rfl
theorem q1762 : (Jvm.Cond.methodLink "BasicMachine$Return" (15 : Nat) ({ cls := "java/lang/IllegalStateException", name := "<init>", desc := "()V" } : Jvm.MethodName)) ∈ lw_all := lw_g (lw_at lw_m7 201 rfl) rfl
theorem q1763 : (Jvm.Cond.methodLinkNest "BasicMachine$Return" (20 : Nat) ({ cls := "BasicMachine", name := "after", desc := "(LBasicMachine$Line;)LBasicMachine$Line;" } : Jvm.MethodName) "BasicMachine") ∈ lw_tbl := lw_at lw_m7 202 rfl
theorem q2327 : (Jvm.Cond.castable "BasicMachine$Return" "java/lang/Object") ∈ lw_tbl := lw_at lw_m10 46 rfl
/-! BasicMachine$For -/
set_option maxRecDepth 100000
def RX19 : String := "BasicMachine$For"
def TX19 : u_T := fun k => match k with
  | 0 => ("BasicMachine$For", "s", "I", true)
  | 1 => ("BasicMachine$For", "first", "LBasicMachine$Expression;", true)
  | 2 => ("BasicMachine$For", "limit", "LBasicMachine$Expression;", true)
  | _ => ("BasicMachine$For", "step", "LBasicMachine$Expression;", true)
def tyX19 : Nat → FieldType := fun k => match k with
  | 0 => .int
  | 1 => .object "BasicMachine$Expression"
  | 2 => .object "BasicMachine$Expression"
  | _ => .object "BasicMachine$Expression"
abbrev wsX190 : List Cond := u_ws RX19 TX19 4
theorem nmX19 : ∀ a, a < 4 → ∀ b, b < 4 → a ≠ b → (TX19 a).2.1 ≠ (TX19 b).2.1 := by decide +kernel
theorem tyX19_ok : ∀ k, k < 4 → parseFieldDescriptor (TX19 k).2.2.1 = some (tyX19 k) := by decide +kernel
abbrev cX19_init : ByteArray := prog_8_method_1_code
def yX19_init : MethodName := ⟨RX19, "<init>", "(ILBasicMachine$Expression;LBasicMachine$Expression;LBasicMachine$Expression;)V"⟩
def dkwX19_init_1 : List UInt8 := [181, 0, 20, 177]
abbrev dktX19_init_1 : List UInt8 := dkwX19_init_1 ++ []
def dkwX19_init_0 : List UInt8 := [42, 183, 0, 1, 42, 27, 181, 0, 7, 42, 44, 181, 0, 13, 42, 45, 181, 0, 17, 42, 25, 4]
abbrev dktX19_init_0 : List UInt8 := dkwX19_init_0 ++ dktX19_init_1
theorem dksX19_init_0 : cX19_init.data.toList.drop 0 = dktX19_init_0 := by decide +kernel
theorem dksX19_init_1 : cX19_init.data.toList.drop 22 = dktX19_init_1 := dk_seg dksX19_init_0 22 rfl rfl
theorem dX19_init_0 : decode cX19_init 0 = .ok (.aload_n 0, 1) := dk_42 (dk_at dksX19_init_0 0 rfl rfl)
theorem dX19_init_1 : decode cX19_init 1 = .ok (.invokespecial 1, 3) := dk_183 0 1 (dk_at dksX19_init_0 1 rfl rfl)
theorem dX19_init_4 : decode cX19_init 4 = .ok (.aload_n 0, 1) := dk_42 (dk_at dksX19_init_0 4 rfl rfl)
theorem dX19_init_5 : decode cX19_init 5 = .ok (.iload_n 1, 1) := dk_27 (dk_at dksX19_init_0 5 rfl rfl)
theorem dX19_init_6 : decode cX19_init 6 = .ok (.putfield 7, 3) := dk_181 0 7 (dk_at dksX19_init_0 6 rfl rfl)
theorem dX19_init_9 : decode cX19_init 9 = .ok (.aload_n 0, 1) := dk_42 (dk_at dksX19_init_0 9 rfl rfl)
theorem dX19_init_10 : decode cX19_init 10 = .ok (.aload_n 2, 1) := dk_44 (dk_at dksX19_init_0 10 rfl rfl)
theorem dX19_init_11 : decode cX19_init 11 = .ok (.putfield 13, 3) := dk_181 0 13 (dk_at dksX19_init_0 11 rfl rfl)
theorem dX19_init_14 : decode cX19_init 14 = .ok (.aload_n 0, 1) := dk_42 (dk_at dksX19_init_0 14 rfl rfl)
theorem dX19_init_15 : decode cX19_init 15 = .ok (.aload_n 3, 1) := dk_45 (dk_at dksX19_init_0 15 rfl rfl)
theorem dX19_init_16 : decode cX19_init 16 = .ok (.putfield 17, 3) := dk_181 0 17 (dk_at dksX19_init_0 16 rfl rfl)
theorem dX19_init_19 : decode cX19_init 19 = .ok (.aload_n 0, 1) := dk_42 (dk_at dksX19_init_0 19 rfl rfl)
theorem dX19_init_20 : decode cX19_init 20 = .ok (.aload 4, 2) := dk_25 4 (dk_at dksX19_init_0 20 rfl rfl)
theorem dX19_init_22 : decode cX19_init 22 = .ok (.putfield 20, 3) := dk_181 0 20 (dk_at dksX19_init_1 0 rfl rfl)
theorem dX19_init_25 : decode cX19_init 25 = .ok (.return_, 1) := dk_177 (dk_at dksX19_init_1 3 rfl rfl)
abbrev cX19_run : ByteArray := prog_8_method_2_code
def yX19_run : MethodName := ⟨RX19, "run", "(LBasicMachine;LBasicMachine$Line;)LBasicMachine$Line;"⟩
def dkwX19_run_6 : List UInt8 := [83, 43, 89, 180, 0, 35, 4, 96, 181, 0, 35, 1, 176]
abbrev dktX19_run_6 : List UInt8 := dkwX19_run_6 ++ []
def dkwX19_run_5 : List UInt8 := [43, 180, 0, 59, 43, 180, 0, 35, 187, 0, 43, 89, 42, 180, 0, 7, 24, 5, 24, 7, 44, 183, 0, 63]
abbrev dktX19_run_5 : List UInt8 := dkwX19_run_5 ++ dktX19_run_6
def dkwX19_run_4 : List UInt8 := [182, 0, 48, 182, 0, 52, 176, 43, 180, 0, 35, 16, 6, 160, 0, 11, 187, 0, 56, 89, 183, 0, 58, 191]
abbrev dktX19_run_4 : List UInt8 := dkwX19_run_4 ++ dktX19_run_5
def dkwX19_run_3 : List UInt8 := [180, 0, 7, 41, 82, 41, 24, 5, 24, 7, 184, 0, 42, 153, 0, 17, 43, 43, 42, 180, 0, 7, 44]
abbrev dktX19_run_3 : List UInt8 := dkwX19_run_3 ++ dktX19_run_4
def dkwX19_run_2 : List UInt8 := [180, 0, 7, 182, 0, 29, 54, 9, 21, 9, 155, 0, 9, 43, 21, 9, 181, 0, 35, 43, 180, 0, 38, 42]
abbrev dktX19_run_2 : List UInt8 := dkwX19_run_2 ++ dktX19_run_3
def dkwX19_run_1 : List UInt8 := [180, 0, 20, 199, 0, 7, 15, 167, 0, 13, 42, 180, 0, 20, 43, 185, 0, 23, 2, 0, 57, 7, 43, 42]
abbrev dktX19_run_1 : List UInt8 := dkwX19_run_1 ++ dktX19_run_2
def dkwX19_run_0 : List UInt8 := [42, 180, 0, 13, 43, 185, 0, 23, 2, 0, 74, 42, 180, 0, 17, 43, 185, 0, 23, 2, 0, 57, 5, 42]
abbrev dktX19_run_0 : List UInt8 := dkwX19_run_0 ++ dktX19_run_1
theorem dksX19_run_0 : cX19_run.data.toList.drop 0 = dktX19_run_0 := by decide +kernel
theorem dksX19_run_1 : cX19_run.data.toList.drop 24 = dktX19_run_1 := dk_seg dksX19_run_0 24 rfl rfl
theorem dksX19_run_2 : cX19_run.data.toList.drop 48 = dktX19_run_2 := dk_seg dksX19_run_1 24 rfl rfl
theorem dksX19_run_3 : cX19_run.data.toList.drop 72 = dktX19_run_3 := dk_seg dksX19_run_2 24 rfl rfl
theorem dksX19_run_4 : cX19_run.data.toList.drop 95 = dktX19_run_4 := dk_seg dksX19_run_3 23 rfl rfl
theorem dksX19_run_5 : cX19_run.data.toList.drop 119 = dktX19_run_5 := dk_seg dksX19_run_4 24 rfl rfl
theorem dksX19_run_6 : cX19_run.data.toList.drop 143 = dktX19_run_6 := dk_seg dksX19_run_5 24 rfl rfl
theorem dX19_run_0 : decode cX19_run 0 = .ok (.aload_n 0, 1) := dk_42 (dk_at dksX19_run_0 0 rfl rfl)
theorem dX19_run_1 : decode cX19_run 1 = .ok (.getfield 13, 3) := dk_180 0 13 (dk_at dksX19_run_0 1 rfl rfl)
theorem dX19_run_4 : decode cX19_run 4 = .ok (.aload_n 1, 1) := dk_43 (dk_at dksX19_run_0 4 rfl rfl)
theorem dX19_run_5 : decode cX19_run 5 = .ok (.invokeinterface 23 2, 5) := by decide +kernel
theorem dX19_run_10 : decode cX19_run 10 = .ok (.dstore_n 3, 1) := dk_74 (dk_at dksX19_run_0 10 rfl rfl)
theorem dX19_run_11 : decode cX19_run 11 = .ok (.aload_n 0, 1) := dk_42 (dk_at dksX19_run_0 11 rfl rfl)
theorem dX19_run_12 : decode cX19_run 12 = .ok (.getfield 17, 3) := dk_180 0 17 (dk_at dksX19_run_0 12 rfl rfl)
theorem dX19_run_15 : decode cX19_run 15 = .ok (.aload_n 1, 1) := dk_43 (dk_at dksX19_run_0 15 rfl rfl)
theorem dX19_run_16 : decode cX19_run 16 = .ok (.invokeinterface 23 2, 5) := by decide +kernel
theorem dX19_run_21 : decode cX19_run 21 = .ok (.dstore 5, 2) := dk_57 5 (dk_at dksX19_run_0 21 rfl rfl)
theorem dX19_run_23 : decode cX19_run 23 = .ok (.aload_n 0, 1) := dk_42 (dk_at dksX19_run_0 23 rfl rfl)
theorem dX19_run_24 : decode cX19_run 24 = .ok (.getfield 20, 3) := dk_180 0 20 (dk_at dksX19_run_1 0 rfl rfl)
theorem dX19_run_27 : decode cX19_run 27 = .ok (.ifnonnull 7, 3) := dk_199 0 7 (dk_at dksX19_run_1 3 rfl rfl)
theorem dX19_run_30 : decode cX19_run 30 = .ok (.dconst 1, 1) := dk_15 (dk_at dksX19_run_1 6 rfl rfl)
theorem dX19_run_31 : decode cX19_run 31 = .ok (.goto 13, 3) := dk_167 0 13 (dk_at dksX19_run_1 7 rfl rfl)
theorem dX19_run_34 : decode cX19_run 34 = .ok (.aload_n 0, 1) := dk_42 (dk_at dksX19_run_1 10 rfl rfl)
theorem dX19_run_35 : decode cX19_run 35 = .ok (.getfield 20, 3) := dk_180 0 20 (dk_at dksX19_run_1 11 rfl rfl)
theorem dX19_run_38 : decode cX19_run 38 = .ok (.aload_n 1, 1) := dk_43 (dk_at dksX19_run_1 14 rfl rfl)
theorem dX19_run_39 : decode cX19_run 39 = .ok (.invokeinterface 23 2, 5) := by decide +kernel
theorem dX19_run_44 : decode cX19_run 44 = .ok (.dstore 7, 2) := dk_57 7 (dk_at dksX19_run_1 20 rfl rfl)
theorem dX19_run_46 : decode cX19_run 46 = .ok (.aload_n 1, 1) := dk_43 (dk_at dksX19_run_1 22 rfl rfl)
theorem dX19_run_47 : decode cX19_run 47 = .ok (.aload_n 0, 1) := dk_42 (dk_at dksX19_run_1 23 rfl rfl)
theorem dX19_run_48 : decode cX19_run 48 = .ok (.getfield 7, 3) := dk_180 0 7 (dk_at dksX19_run_2 0 rfl rfl)
theorem dX19_run_51 : decode cX19_run 51 = .ok (.invokevirtual 29, 3) := dk_182 0 29 (dk_at dksX19_run_2 3 rfl rfl)
theorem dX19_run_54 : decode cX19_run 54 = .ok (.istore 9, 2) := dk_54 9 (dk_at dksX19_run_2 6 rfl rfl)
theorem dX19_run_56 : decode cX19_run 56 = .ok (.iload 9, 2) := dk_21 9 (dk_at dksX19_run_2 8 rfl rfl)
theorem dX19_run_58 : decode cX19_run 58 = .ok (.ifCond .lt 9, 3) := dk_155 0 9 (dk_at dksX19_run_2 10 rfl rfl)
theorem dX19_run_61 : decode cX19_run 61 = .ok (.aload_n 1, 1) := dk_43 (dk_at dksX19_run_2 13 rfl rfl)
theorem dX19_run_62 : decode cX19_run 62 = .ok (.iload 9, 2) := dk_21 9 (dk_at dksX19_run_2 14 rfl rfl)
theorem dX19_run_64 : decode cX19_run 64 = .ok (.putfield 35, 3) := dk_181 0 35 (dk_at dksX19_run_2 16 rfl rfl)
theorem dX19_run_67 : decode cX19_run 67 = .ok (.aload_n 1, 1) := dk_43 (dk_at dksX19_run_2 19 rfl rfl)
theorem dX19_run_68 : decode cX19_run 68 = .ok (.getfield 38, 3) := dk_180 0 38 (dk_at dksX19_run_2 20 rfl rfl)
theorem dX19_run_71 : decode cX19_run 71 = .ok (.aload_n 0, 1) := dk_42 (dk_at dksX19_run_2 23 rfl rfl)
theorem dX19_run_72 : decode cX19_run 72 = .ok (.getfield 7, 3) := dk_180 0 7 (dk_at dksX19_run_3 0 rfl rfl)
theorem dX19_run_75 : decode cX19_run 75 = .ok (.dload_n 3, 1) := dk_41 (dk_at dksX19_run_3 3 rfl rfl)
theorem dX19_run_76 : decode cX19_run 76 = .ok (.dastore, 1) := dk_82 (dk_at dksX19_run_3 4 rfl rfl)
theorem dX19_run_77 : decode cX19_run 77 = .ok (.dload_n 3, 1) := dk_41 (dk_at dksX19_run_3 5 rfl rfl)
theorem dX19_run_78 : decode cX19_run 78 = .ok (.dload 5, 2) := dk_24 5 (dk_at dksX19_run_3 6 rfl rfl)
theorem dX19_run_80 : decode cX19_run 80 = .ok (.dload 7, 2) := dk_24 7 (dk_at dksX19_run_3 8 rfl rfl)
theorem dX19_run_82 : decode cX19_run 82 = .ok (.invokestatic 42, 3) := dk_184 0 42 (dk_at dksX19_run_3 10 rfl rfl)
theorem dX19_run_85 : decode cX19_run 85 = .ok (.ifCond .eq 17, 3) := dk_153 0 17 (dk_at dksX19_run_3 13 rfl rfl)
theorem dX19_run_88 : decode cX19_run 88 = .ok (.aload_n 1, 1) := dk_43 (dk_at dksX19_run_3 16 rfl rfl)
theorem dX19_run_89 : decode cX19_run 89 = .ok (.aload_n 1, 1) := dk_43 (dk_at dksX19_run_3 17 rfl rfl)
theorem dX19_run_90 : decode cX19_run 90 = .ok (.aload_n 0, 1) := dk_42 (dk_at dksX19_run_3 18 rfl rfl)
theorem dX19_run_91 : decode cX19_run 91 = .ok (.getfield 7, 3) := dk_180 0 7 (dk_at dksX19_run_3 19 rfl rfl)
theorem dX19_run_94 : decode cX19_run 94 = .ok (.aload_n 2, 1) := dk_44 (dk_at dksX19_run_3 22 rfl rfl)
theorem dX19_run_95 : decode cX19_run 95 = .ok (.invokevirtual 48, 3) := dk_182 0 48 (dk_at dksX19_run_4 0 rfl rfl)
theorem dX19_run_98 : decode cX19_run 98 = .ok (.invokevirtual 52, 3) := dk_182 0 52 (dk_at dksX19_run_4 3 rfl rfl)
theorem dX19_run_101 : decode cX19_run 101 = .ok (.areturn, 1) := dk_176 (dk_at dksX19_run_4 6 rfl rfl)
theorem dX19_run_102 : decode cX19_run 102 = .ok (.aload_n 1, 1) := dk_43 (dk_at dksX19_run_4 7 rfl rfl)
theorem dX19_run_103 : decode cX19_run 103 = .ok (.getfield 35, 3) := dk_180 0 35 (dk_at dksX19_run_4 8 rfl rfl)
theorem dX19_run_106 : decode cX19_run 106 = .ok (.bipush 6, 2) := dk_16 6 (dk_at dksX19_run_4 11 rfl rfl)
theorem dX19_run_108 : decode cX19_run 108 = .ok (.if_icmp .ne 11, 3) := dk_160 0 11 (dk_at dksX19_run_4 13 rfl rfl)
theorem dX19_run_111 : decode cX19_run 111 = .ok (.new 56, 3) := dk_187 0 56 (dk_at dksX19_run_4 16 rfl rfl)
theorem dX19_run_114 : decode cX19_run 114 = .ok (.dup, 1) := dk_89 (dk_at dksX19_run_4 19 rfl rfl)
theorem dX19_run_115 : decode cX19_run 115 = .ok (.invokespecial 58, 3) := dk_183 0 58 (dk_at dksX19_run_4 20 rfl rfl)
theorem dX19_run_118 : decode cX19_run 118 = .ok (.athrow, 1) := dk_191 (dk_at dksX19_run_4 23 rfl rfl)
theorem dX19_run_119 : decode cX19_run 119 = .ok (.aload_n 1, 1) := dk_43 (dk_at dksX19_run_5 0 rfl rfl)
theorem dX19_run_120 : decode cX19_run 120 = .ok (.getfield 59, 3) := dk_180 0 59 (dk_at dksX19_run_5 1 rfl rfl)
theorem dX19_run_123 : decode cX19_run 123 = .ok (.aload_n 1, 1) := dk_43 (dk_at dksX19_run_5 4 rfl rfl)
theorem dX19_run_124 : decode cX19_run 124 = .ok (.getfield 35, 3) := dk_180 0 35 (dk_at dksX19_run_5 5 rfl rfl)
theorem dX19_run_127 : decode cX19_run 127 = .ok (.new 43, 3) := dk_187 0 43 (dk_at dksX19_run_5 8 rfl rfl)
theorem dX19_run_130 : decode cX19_run 130 = .ok (.dup, 1) := dk_89 (dk_at dksX19_run_5 11 rfl rfl)
theorem dX19_run_131 : decode cX19_run 131 = .ok (.aload_n 0, 1) := dk_42 (dk_at dksX19_run_5 12 rfl rfl)
theorem dX19_run_132 : decode cX19_run 132 = .ok (.getfield 7, 3) := dk_180 0 7 (dk_at dksX19_run_5 13 rfl rfl)
theorem dX19_run_135 : decode cX19_run 135 = .ok (.dload 5, 2) := dk_24 5 (dk_at dksX19_run_5 16 rfl rfl)
theorem dX19_run_137 : decode cX19_run 137 = .ok (.dload 7, 2) := dk_24 7 (dk_at dksX19_run_5 18 rfl rfl)
theorem dX19_run_139 : decode cX19_run 139 = .ok (.aload_n 2, 1) := dk_44 (dk_at dksX19_run_5 20 rfl rfl)
theorem dX19_run_140 : decode cX19_run 140 = .ok (.invokespecial 63, 3) := dk_183 0 63 (dk_at dksX19_run_5 21 rfl rfl)
theorem dX19_run_143 : decode cX19_run 143 = .ok (.aastore, 1) := dk_83 (dk_at dksX19_run_6 0 rfl rfl)
theorem dX19_run_144 : decode cX19_run 144 = .ok (.aload_n 1, 1) := dk_43 (dk_at dksX19_run_6 1 rfl rfl)
theorem dX19_run_145 : decode cX19_run 145 = .ok (.dup, 1) := dk_89 (dk_at dksX19_run_6 2 rfl rfl)
theorem dX19_run_146 : decode cX19_run 146 = .ok (.getfield 35, 3) := dk_180 0 35 (dk_at dksX19_run_6 3 rfl rfl)
theorem dX19_run_149 : decode cX19_run 149 = .ok (.iconst 1, 1) := dk_4 (dk_at dksX19_run_6 6 rfl rfl)
theorem dX19_run_150 : decode cX19_run 150 = .ok (.iadd, 1) := dk_96 (dk_at dksX19_run_6 7 rfl rfl)
theorem dX19_run_151 : decode cX19_run 151 = .ok (.putfield 35, 3) := dk_181 0 35 (dk_at dksX19_run_6 8 rfl rfl)
theorem dX19_run_154 : decode cX19_run 154 = .ok (.aconst_null, 1) := dk_1 (dk_at dksX19_run_6 11 rfl rfl)
theorem dX19_run_155 : decode cX19_run 155 = .ok (.areturn, 1) := dk_176 (dk_at dksX19_run_6 12 rfl rfl)
theorem q158 : (Jvm.Cond.initialized "BasicMachine$For") ∈ lw_all := lw_g (lw_at lw_m1 37 rfl) rfl
theorem q197 : (Jvm.Cond.fieldLinkNest "BasicMachine$For" (38 : Nat) "BasicMachine" "variables" "[D" "BasicMachine") ∈ lw_tbl := lw_at lw_m1 76 rfl
theorem q222 : (Jvm.Cond.fieldLinkNest "BasicMachine$For" (59 : Nat) "BasicMachine" "loopRow" "[LBasicMachine$Loop;" "BasicMachine") ∈ lw_tbl := lw_at lw_m1 101 rfl
theorem q225 : (Jvm.Cond.fieldLinkNest "BasicMachine$For" (35 : Nat) "BasicMachine" "loops" "I" "BasicMachine") ∈ lw_tbl := lw_at lw_m1 104 rfl
theorem q1130 : (Jvm.Cond.instantiable "BasicMachine$For" (4 : Nat)) ∈ lw_all := lw_g (lw_at lw_m5 49 rfl) rfl
theorem q1132 : (Jvm.Cond.instanceMethod ({ cls := "BasicMachine$For", name := "<init>", desc := "(ILBasicMachine$Expression;LBasicMachine$Expression;LBasicMachine$Expression;)V" } : Jvm.MethodName)) ∈ lw_all := lw_g (lw_at lw_m5 51 rfl) rfl
theorem q1133 : (Jvm.Cond.code ({ cls := "BasicMachine$For", name := "<init>", desc := "(ILBasicMachine$Expression;LBasicMachine$Expression;LBasicMachine$Expression;)V" } : Jvm.MethodName) prog_8_method_1_code (5 : Nat) (Option.none : Option Jvm.ClassFile.FieldType)) ∈ lw_all := lw_g (lw_at lw_m5 52 rfl) rfl
theorem q1134 : (Jvm.Cond.methodLink "BasicMachine$For" (1 : Nat) ({ cls := "java/lang/Record", name := "<init>", desc := "()V" } : Jvm.MethodName)) ∈ lw_all := lw_g (lw_at lw_m5 53 rfl) rfl
theorem q1135 : (Jvm.Cond.fieldLink "BasicMachine$For" (7 : Nat) "BasicMachine$For" "s" "I") ∈ lw_all := lw_g (lw_at lw_m5 54 rfl) rfl
theorem q1136 : (Jvm.Cond.fieldLink "BasicMachine$For" (13 : Nat) "BasicMachine$For" "first" "LBasicMachine$Expression;") ∈ lw_all := lw_g (lw_at lw_m5 55 rfl) rfl
theorem q1137 : (Jvm.Cond.fieldLink "BasicMachine$For" (17 : Nat) "BasicMachine$For" "limit" "LBasicMachine$Expression;") ∈ lw_all := lw_g (lw_at lw_m5 56 rfl) rfl
theorem q1138 : (Jvm.Cond.fieldLink "BasicMachine$For" (20 : Nat) "BasicMachine$For" "step" "LBasicMachine$Expression;") ∈ lw_all := lw_g (lw_at lw_m5 57 rfl) rfl
theorem q1139 : (Jvm.Cond.laysFinal "BasicMachine$For" "BasicMachine$For" "s" "I") ∈ lw_all := lw_g (lw_at lw_m5 58 rfl) rfl
theorem q1140 : (Jvm.Cond.soleField "BasicMachine$For" "s") ∈ lw_all := lw_g (lw_at lw_m5 59 rfl) rfl
theorem q1141 : (Jvm.Cond.laysFinal "BasicMachine$For" "BasicMachine$For" "first" "LBasicMachine$Expression;") ∈ lw_all := lw_g (lw_at lw_m5 60 rfl) rfl
theorem q1142 : (Jvm.Cond.soleField "BasicMachine$For" "first") ∈ lw_all := lw_g (lw_at lw_m5 61 rfl) rfl
theorem q1143 : (Jvm.Cond.laysFinal "BasicMachine$For" "BasicMachine$For" "limit" "LBasicMachine$Expression;") ∈ lw_all := lw_g (lw_at lw_m5 62 rfl) rfl
theorem q1144 : (Jvm.Cond.soleField "BasicMachine$For" "limit") ∈ lw_all := lw_g (lw_at lw_m5 63 rfl) rfl
theorem q1145 : (Jvm.Cond.laysFinal "BasicMachine$For" "BasicMachine$For" "step" "LBasicMachine$Expression;") ∈ lw_all := lw_g (lw_at lw_m5 64 rfl) rfl
theorem q1146 : (Jvm.Cond.soleField "BasicMachine$For" "step") ∈ lw_all := lw_g (lw_at lw_m5 65 rfl) rfl
theorem q1147 : (Jvm.Cond.superclass "BasicMachine$For" "java/lang/Record") ∈ lw_all := lw_g (lw_at lw_m5 66 rfl) rfl
theorem q1401 : (Jvm.Cond.castable "BasicMachine$For" "BasicMachine$Statement") ∈ lw_tbl := lw_at lw_m6 80 rfl
theorem q1402 : (Jvm.Cond.selects "BasicMachine$For" ({ cls := "BasicMachine$Statement", name := "run", desc := "(LBasicMachine;LBasicMachine$Line;)LBasicMachine$Line;" } : Jvm.MethodName) ({ cls := "BasicMachine$For", name := "run", desc := "(LBasicMachine;LBasicMachine$Line;)LBasicMachine$Line;" } : Jvm.MethodName)) ∈ lw_all := lw_g (lw_at lw_m6 81 rfl) rfl
theorem q1403 : (Jvm.Cond.unhidden "BasicMachine$For" "run" "(LBasicMachine;LBasicMachine$Line;)LBasicMachine$Line;") ∈ lw_tbl := lw_at lw_m6 82 rfl
theorem q1404 : (Jvm.Cond.instanceMethod ({ cls := "BasicMachine$For", name := "run", desc := "(LBasicMachine;LBasicMachine$Line;)LBasicMachine$Line;" } : Jvm.MethodName)) ∈ lw_all := lw_g (lw_at lw_m6 83 rfl) rfl
theorem q1405 : (Jvm.Cond.publicMethod ({ cls := "BasicMachine$For", name := "run", desc := "(LBasicMachine;LBasicMachine$Line;)LBasicMachine$Line;" } : Jvm.MethodName)) ∈ lw_tbl := lw_at lw_m6 84 rfl
theorem q1406 : (Jvm.Cond.code ({ cls := "BasicMachine$For", name := "run", desc := "(LBasicMachine;LBasicMachine$Line;)LBasicMachine$Line;" } : Jvm.MethodName) prog_8_method_2_code (10 : Nat) (Option.some (Jvm.ClassFile.FieldType.object "BasicMachine$Line"))) ∈ lw_all := lw_g (lw_at lw_m6 85 rfl) rfl
theorem q1407 : (Jvm.Cond.interfaceEntry "BasicMachine$For" (23 : Nat)) ∈ lw_tbl := lw_at lw_m6 86 rfl
theorem q1408 : (Jvm.Cond.methodLink "BasicMachine$For" (23 : Nat) ({ cls := "BasicMachine$Expression", name := "value", desc := "(LBasicMachine;)D" } : Jvm.MethodName)) ∈ lw_all := lw_g (lw_at lw_m6 87 rfl) rfl
theorem q1527 : (Jvm.Cond.methodLinkNest "BasicMachine$For" (29 : Nat) ({ cls := "BasicMachine", name := "loop", desc := "(I)I" } : Jvm.MethodName) "BasicMachine") ∈ lw_tbl := lw_at lw_m6 206 rfl
theorem q1535 : (Jvm.Cond.methodLink "BasicMachine$For" (42 : Nat) ({ cls := "BasicMachine$Loop", name := "over", desc := "(DDD)Z" } : Jvm.MethodName)) ∈ lw_all := lw_g (lw_at lw_m6 214 rfl) rfl
theorem q1538 : (Jvm.Cond.methodLinkNest "BasicMachine$For" (48 : Nat) ({ cls := "BasicMachine", name := "nextOf", desc := "(ILBasicMachine$Line;)LBasicMachine$Line;" } : Jvm.MethodName) "BasicMachine") ∈ lw_tbl := lw_at lw_m6 217 rfl
theorem q1547 : (Jvm.Cond.methodLinkNest "BasicMachine$For" (52 : Nat) ({ cls := "BasicMachine", name := "after", desc := "(LBasicMachine$Line;)LBasicMachine$Line;" } : Jvm.MethodName) "BasicMachine") ∈ lw_tbl := lw_at lw_m6 226 rfl
theorem q1551 : (Jvm.Cond.classLink "BasicMachine$For" (56 : Nat) "java/lang/IllegalStateException") ∈ lw_all := lw_g (lw_at lw_m6 230 rfl) rfl
theorem q1552 : (Jvm.Cond.methodLink "BasicMachine$For" (58 : Nat) ({ cls := "java/lang/IllegalStateException", name := "<init>", desc := "()V" } : Jvm.MethodName)) ∈ lw_all := lw_g (lw_at lw_m6 231 rfl) rfl
theorem q1553 : (Jvm.Cond.classLink "BasicMachine$For" (43 : Nat) "BasicMachine$Loop") ∈ lw_all := lw_g (lw_at lw_m6 232 rfl) rfl
theorem q1555 : (Jvm.Cond.methodLinkNest "BasicMachine$For" (63 : Nat) ({ cls := "BasicMachine$Loop", name := "<init>", desc := "(IDDLBasicMachine$Line;)V" } : Jvm.MethodName) "BasicMachine") ∈ lw_tbl := lw_at lw_m6 234 rfl
theorem q2328 : (Jvm.Cond.castable "BasicMachine$For" "java/lang/Object") ∈ lw_tbl := lw_at lw_m10 47 rfl
theorem in_X19 : ∀ w ∈ wsX190, w ∈ lw_all := lw_in wsX190 [1139, 1141, 1143, 1145] (by decide +kernel) (by decide +kernel)
/-! BasicMachine$Next -/
set_option maxRecDepth 100000
def RX20 : String := "BasicMachine$Next"
def TX20 : u_T := fun k => match k with
  | _ => ("BasicMachine$Next", "s", "I", true)
def tyX20 : Nat → FieldType := fun k => match k with
  | _ => .int
abbrev wsX200 : List Cond := u_ws RX20 TX20 1
theorem nmX20 : ∀ a, a < 1 → ∀ b, b < 1 → a ≠ b → (TX20 a).2.1 ≠ (TX20 b).2.1 := by decide +kernel
theorem tyX20_ok : ∀ k, k < 1 → parseFieldDescriptor (TX20 k).2.2.1 = some (tyX20 k) := by decide +kernel
abbrev cX20_init : ByteArray := prog_17_method_1_code
def yX20_init : MethodName := ⟨RX20, "<init>", "(I)V"⟩
def dkwX20_init_0 : List UInt8 := [42, 183, 0, 1, 42, 27, 181, 0, 7, 177]
abbrev dktX20_init_0 : List UInt8 := dkwX20_init_0 ++ []
theorem dksX20_init_0 : cX20_init.data.toList.drop 0 = dktX20_init_0 := by decide +kernel
theorem dX20_init_0 : decode cX20_init 0 = .ok (.aload_n 0, 1) := dk_42 (dk_at dksX20_init_0 0 rfl rfl)
theorem dX20_init_1 : decode cX20_init 1 = .ok (.invokespecial 1, 3) := dk_183 0 1 (dk_at dksX20_init_0 1 rfl rfl)
theorem dX20_init_4 : decode cX20_init 4 = .ok (.aload_n 0, 1) := dk_42 (dk_at dksX20_init_0 4 rfl rfl)
theorem dX20_init_5 : decode cX20_init 5 = .ok (.iload_n 1, 1) := dk_27 (dk_at dksX20_init_0 5 rfl rfl)
theorem dX20_init_6 : decode cX20_init 6 = .ok (.putfield 7, 3) := dk_181 0 7 (dk_at dksX20_init_0 6 rfl rfl)
theorem dX20_init_9 : decode cX20_init 9 = .ok (.return_, 1) := dk_177 (dk_at dksX20_init_0 9 rfl rfl)
abbrev cX20_s : ByteArray := prog_17_method_6_code
def yX20_s : MethodName := ⟨RX20, "s", "()I"⟩
theorem dX20_s_0 : decode cX20_s 0 = .ok (.aload_n 0, 1) := by decide +kernel
theorem dX20_s_1 : decode cX20_s 1 = .ok (.getfield 7, 3) := by decide +kernel
theorem dX20_s_4 : decode cX20_s 4 = .ok (.ireturn, 1) := by decide +kernel
abbrev cX20_run : ByteArray := prog_17_method_2_code
def yX20_run : MethodName := ⟨RX20, "run", "(LBasicMachine;LBasicMachine$Line;)LBasicMachine$Line;"⟩
def dkwX20_run_4 : List UInt8 := [182, 0, 54, 176, 43, 29, 181, 0, 22, 1, 176]
abbrev dktX20_run_4 : List UInt8 := dkwX20_run_4 ++ []
def dkwX20_run_3 : List UInt8 := [25, 4, 182, 0, 43, 25, 4, 182, 0, 33, 184, 0, 46, 154, 0, 13, 43, 25, 4, 182, 0, 50]
abbrev dktX20_run_3 : List UInt8 := dkwX20_run_3 ++ dktX20_run_4
def dkwX20_run_2 : List UInt8 := [42, 180, 0, 7, 49, 25, 4, 182, 0, 33, 99, 184, 0, 39, 82, 43, 180, 0, 29, 42, 180, 0, 7, 49]
abbrev dktX20_run_2 : List UInt8 := dkwX20_run_2 ++ dktX20_run_3
def dkwX20_run_1 : List UInt8 := [96, 181, 0, 22, 43, 180, 0, 25, 29, 50, 58, 4, 43, 180, 0, 29, 42, 180, 0, 7, 43, 180, 0, 29]
abbrev dktX20_run_1 : List UInt8 := dkwX20_run_1 ++ dktX20_run_2
def dkwX20_run_0 : List UInt8 := [43, 42, 180, 0, 7, 182, 0, 13, 62, 29, 156, 0, 11, 187, 0, 19, 89, 183, 0, 21, 191, 43, 29, 4]
abbrev dktX20_run_0 : List UInt8 := dkwX20_run_0 ++ dktX20_run_1
theorem dksX20_run_0 : cX20_run.data.toList.drop 0 = dktX20_run_0 := by decide +kernel
theorem dksX20_run_1 : cX20_run.data.toList.drop 24 = dktX20_run_1 := dk_seg dksX20_run_0 24 rfl rfl
theorem dksX20_run_2 : cX20_run.data.toList.drop 48 = dktX20_run_2 := dk_seg dksX20_run_1 24 rfl rfl
theorem dksX20_run_3 : cX20_run.data.toList.drop 72 = dktX20_run_3 := dk_seg dksX20_run_2 24 rfl rfl
theorem dksX20_run_4 : cX20_run.data.toList.drop 94 = dktX20_run_4 := dk_seg dksX20_run_3 22 rfl rfl
theorem dX20_run_0 : decode cX20_run 0 = .ok (.aload_n 1, 1) := dk_43 (dk_at dksX20_run_0 0 rfl rfl)
theorem dX20_run_1 : decode cX20_run 1 = .ok (.aload_n 0, 1) := dk_42 (dk_at dksX20_run_0 1 rfl rfl)
theorem dX20_run_2 : decode cX20_run 2 = .ok (.getfield 7, 3) := dk_180 0 7 (dk_at dksX20_run_0 2 rfl rfl)
theorem dX20_run_5 : decode cX20_run 5 = .ok (.invokevirtual 13, 3) := dk_182 0 13 (dk_at dksX20_run_0 5 rfl rfl)
theorem dX20_run_8 : decode cX20_run 8 = .ok (.istore_n 3, 1) := dk_62 (dk_at dksX20_run_0 8 rfl rfl)
theorem dX20_run_9 : decode cX20_run 9 = .ok (.iload_n 3, 1) := dk_29 (dk_at dksX20_run_0 9 rfl rfl)
theorem dX20_run_10 : decode cX20_run 10 = .ok (.ifCond .ge 11, 3) := dk_156 0 11 (dk_at dksX20_run_0 10 rfl rfl)
theorem dX20_run_13 : decode cX20_run 13 = .ok (.new 19, 3) := dk_187 0 19 (dk_at dksX20_run_0 13 rfl rfl)
theorem dX20_run_16 : decode cX20_run 16 = .ok (.dup, 1) := dk_89 (dk_at dksX20_run_0 16 rfl rfl)
theorem dX20_run_17 : decode cX20_run 17 = .ok (.invokespecial 21, 3) := dk_183 0 21 (dk_at dksX20_run_0 17 rfl rfl)
theorem dX20_run_20 : decode cX20_run 20 = .ok (.athrow, 1) := dk_191 (dk_at dksX20_run_0 20 rfl rfl)
theorem dX20_run_21 : decode cX20_run 21 = .ok (.aload_n 1, 1) := dk_43 (dk_at dksX20_run_0 21 rfl rfl)
theorem dX20_run_22 : decode cX20_run 22 = .ok (.iload_n 3, 1) := dk_29 (dk_at dksX20_run_0 22 rfl rfl)
theorem dX20_run_23 : decode cX20_run 23 = .ok (.iconst 1, 1) := dk_4 (dk_at dksX20_run_0 23 rfl rfl)
theorem dX20_run_24 : decode cX20_run 24 = .ok (.iadd, 1) := dk_96 (dk_at dksX20_run_1 0 rfl rfl)
theorem dX20_run_25 : decode cX20_run 25 = .ok (.putfield 22, 3) := dk_181 0 22 (dk_at dksX20_run_1 1 rfl rfl)
theorem dX20_run_28 : decode cX20_run 28 = .ok (.aload_n 1, 1) := dk_43 (dk_at dksX20_run_1 4 rfl rfl)
theorem dX20_run_29 : decode cX20_run 29 = .ok (.getfield 25, 3) := dk_180 0 25 (dk_at dksX20_run_1 5 rfl rfl)
theorem dX20_run_32 : decode cX20_run 32 = .ok (.iload_n 3, 1) := dk_29 (dk_at dksX20_run_1 8 rfl rfl)
theorem dX20_run_33 : decode cX20_run 33 = .ok (.aaload, 1) := dk_50 (dk_at dksX20_run_1 9 rfl rfl)
theorem dX20_run_34 : decode cX20_run 34 = .ok (.astore 4, 2) := dk_58 4 (dk_at dksX20_run_1 10 rfl rfl)
theorem dX20_run_36 : decode cX20_run 36 = .ok (.aload_n 1, 1) := dk_43 (dk_at dksX20_run_1 12 rfl rfl)
theorem dX20_run_37 : decode cX20_run 37 = .ok (.getfield 29, 3) := dk_180 0 29 (dk_at dksX20_run_1 13 rfl rfl)
theorem dX20_run_40 : decode cX20_run 40 = .ok (.aload_n 0, 1) := dk_42 (dk_at dksX20_run_1 16 rfl rfl)
theorem dX20_run_41 : decode cX20_run 41 = .ok (.getfield 7, 3) := dk_180 0 7 (dk_at dksX20_run_1 17 rfl rfl)
theorem dX20_run_44 : decode cX20_run 44 = .ok (.aload_n 1, 1) := dk_43 (dk_at dksX20_run_1 20 rfl rfl)
theorem dX20_run_45 : decode cX20_run 45 = .ok (.getfield 29, 3) := dk_180 0 29 (dk_at dksX20_run_1 21 rfl rfl)
theorem dX20_run_48 : decode cX20_run 48 = .ok (.aload_n 0, 1) := dk_42 (dk_at dksX20_run_2 0 rfl rfl)
theorem dX20_run_49 : decode cX20_run 49 = .ok (.getfield 7, 3) := dk_180 0 7 (dk_at dksX20_run_2 1 rfl rfl)
theorem dX20_run_52 : decode cX20_run 52 = .ok (.daload, 1) := dk_49 (dk_at dksX20_run_2 4 rfl rfl)
theorem dX20_run_53 : decode cX20_run 53 = .ok (.aload 4, 2) := dk_25 4 (dk_at dksX20_run_2 5 rfl rfl)
theorem dX20_run_55 : decode cX20_run 55 = .ok (.invokevirtual 33, 3) := dk_182 0 33 (dk_at dksX20_run_2 7 rfl rfl)
theorem dX20_run_58 : decode cX20_run 58 = .ok (.dadd, 1) := dk_99 (dk_at dksX20_run_2 10 rfl rfl)
theorem dX20_run_59 : decode cX20_run 59 = .ok (.invokestatic 39, 3) := dk_184 0 39 (dk_at dksX20_run_2 11 rfl rfl)
theorem dX20_run_62 : decode cX20_run 62 = .ok (.dastore, 1) := dk_82 (dk_at dksX20_run_2 14 rfl rfl)
theorem dX20_run_63 : decode cX20_run 63 = .ok (.aload_n 1, 1) := dk_43 (dk_at dksX20_run_2 15 rfl rfl)
theorem dX20_run_64 : decode cX20_run 64 = .ok (.getfield 29, 3) := dk_180 0 29 (dk_at dksX20_run_2 16 rfl rfl)
theorem dX20_run_67 : decode cX20_run 67 = .ok (.aload_n 0, 1) := dk_42 (dk_at dksX20_run_2 19 rfl rfl)
theorem dX20_run_68 : decode cX20_run 68 = .ok (.getfield 7, 3) := dk_180 0 7 (dk_at dksX20_run_2 20 rfl rfl)
theorem dX20_run_71 : decode cX20_run 71 = .ok (.daload, 1) := dk_49 (dk_at dksX20_run_2 23 rfl rfl)
theorem dX20_run_72 : decode cX20_run 72 = .ok (.aload 4, 2) := dk_25 4 (dk_at dksX20_run_3 0 rfl rfl)
theorem dX20_run_74 : decode cX20_run 74 = .ok (.invokevirtual 43, 3) := dk_182 0 43 (dk_at dksX20_run_3 2 rfl rfl)
theorem dX20_run_77 : decode cX20_run 77 = .ok (.aload 4, 2) := dk_25 4 (dk_at dksX20_run_3 5 rfl rfl)
theorem dX20_run_79 : decode cX20_run 79 = .ok (.invokevirtual 33, 3) := dk_182 0 33 (dk_at dksX20_run_3 7 rfl rfl)
theorem dX20_run_82 : decode cX20_run 82 = .ok (.invokestatic 46, 3) := dk_184 0 46 (dk_at dksX20_run_3 10 rfl rfl)
theorem dX20_run_85 : decode cX20_run 85 = .ok (.ifCond .ne 13, 3) := dk_154 0 13 (dk_at dksX20_run_3 13 rfl rfl)
theorem dX20_run_88 : decode cX20_run 88 = .ok (.aload_n 1, 1) := dk_43 (dk_at dksX20_run_3 16 rfl rfl)
theorem dX20_run_89 : decode cX20_run 89 = .ok (.aload 4, 2) := dk_25 4 (dk_at dksX20_run_3 17 rfl rfl)
theorem dX20_run_91 : decode cX20_run 91 = .ok (.invokevirtual 50, 3) := dk_182 0 50 (dk_at dksX20_run_3 19 rfl rfl)
theorem dX20_run_94 : decode cX20_run 94 = .ok (.invokevirtual 54, 3) := dk_182 0 54 (dk_at dksX20_run_4 0 rfl rfl)
theorem dX20_run_97 : decode cX20_run 97 = .ok (.areturn, 1) := dk_176 (dk_at dksX20_run_4 3 rfl rfl)
theorem dX20_run_98 : decode cX20_run 98 = .ok (.aload_n 1, 1) := dk_43 (dk_at dksX20_run_4 4 rfl rfl)
theorem dX20_run_99 : decode cX20_run 99 = .ok (.iload_n 3, 1) := dk_29 (dk_at dksX20_run_4 5 rfl rfl)
theorem dX20_run_100 : decode cX20_run 100 = .ok (.putfield 22, 3) := dk_181 0 22 (dk_at dksX20_run_4 6 rfl rfl)
theorem dX20_run_103 : decode cX20_run 103 = .ok (.aconst_null, 1) := dk_1 (dk_at dksX20_run_4 9 rfl rfl)
theorem dX20_run_104 : decode cX20_run 104 = .ok (.areturn, 1) := dk_176 (dk_at dksX20_run_4 10 rfl rfl)
theorem q159 : (Jvm.Cond.initialized "BasicMachine$Next") ∈ lw_all := lw_g (lw_at lw_m1 38 rfl) rfl
theorem q196 : (Jvm.Cond.fieldLinkNest "BasicMachine$Next" (29 : Nat) "BasicMachine" "variables" "[D" "BasicMachine") ∈ lw_tbl := lw_at lw_m1 75 rfl
theorem q221 : (Jvm.Cond.fieldLinkNest "BasicMachine$Next" (25 : Nat) "BasicMachine" "loopRow" "[LBasicMachine$Loop;" "BasicMachine") ∈ lw_tbl := lw_at lw_m1 100 rfl
theorem q224 : (Jvm.Cond.fieldLinkNest "BasicMachine$Next" (22 : Nat) "BasicMachine" "loops" "I" "BasicMachine") ∈ lw_tbl := lw_at lw_m1 103 rfl
theorem q1150 : (Jvm.Cond.instantiable "BasicMachine$Next" (1 : Nat)) ∈ lw_all := lw_g (lw_at lw_m5 69 rfl) rfl
theorem q1152 : (Jvm.Cond.instanceMethod ({ cls := "BasicMachine$Next", name := "<init>", desc := "(I)V" } : Jvm.MethodName)) ∈ lw_all := lw_g (lw_at lw_m5 71 rfl) rfl
theorem q1153 : (Jvm.Cond.code ({ cls := "BasicMachine$Next", name := "<init>", desc := "(I)V" } : Jvm.MethodName) prog_17_method_1_code (2 : Nat) (Option.none : Option Jvm.ClassFile.FieldType)) ∈ lw_all := lw_g (lw_at lw_m5 72 rfl) rfl
theorem q1154 : (Jvm.Cond.methodLink "BasicMachine$Next" (1 : Nat) ({ cls := "java/lang/Record", name := "<init>", desc := "()V" } : Jvm.MethodName)) ∈ lw_all := lw_g (lw_at lw_m5 73 rfl) rfl
theorem q1155 : (Jvm.Cond.fieldLink "BasicMachine$Next" (7 : Nat) "BasicMachine$Next" "s" "I") ∈ lw_all := lw_g (lw_at lw_m5 74 rfl) rfl
theorem q1156 : (Jvm.Cond.laysFinal "BasicMachine$Next" "BasicMachine$Next" "s" "I") ∈ lw_all := lw_g (lw_at lw_m5 75 rfl) rfl
theorem q1157 : (Jvm.Cond.soleField "BasicMachine$Next" "s") ∈ lw_all := lw_g (lw_at lw_m5 76 rfl) rfl
theorem q1158 : (Jvm.Cond.superclass "BasicMachine$Next" "java/lang/Record") ∈ lw_all := lw_g (lw_at lw_m5 77 rfl) rfl
theorem q1544 : (Jvm.Cond.instanceMethod ({ cls := "BasicMachine$Next", name := "s", desc := "()I" } : Jvm.MethodName)) ∈ lw_all := lw_g (lw_at lw_m6 223 rfl) rfl
theorem q1545 : (Jvm.Cond.selects "BasicMachine$Next" ({ cls := "BasicMachine$Next", name := "s", desc := "()I" } : Jvm.MethodName) ({ cls := "BasicMachine$Next", name := "s", desc := "()I" } : Jvm.MethodName)) ∈ lw_all := lw_g (lw_at lw_m6 224 rfl) rfl
theorem q1546 : (Jvm.Cond.code ({ cls := "BasicMachine$Next", name := "s", desc := "()I" } : Jvm.MethodName) prog_17_method_6_code (1 : Nat) (Option.some Jvm.ClassFile.FieldType.int)) ∈ lw_all := lw_g (lw_at lw_m6 225 rfl) rfl
theorem q1682 : (Jvm.Cond.castable "BasicMachine$Next" "BasicMachine$Statement") ∈ lw_tbl := lw_at lw_m7 121 rfl
theorem q1683 : (Jvm.Cond.selects "BasicMachine$Next" ({ cls := "BasicMachine$Statement", name := "run", desc := "(LBasicMachine;LBasicMachine$Line;)LBasicMachine$Line;" } : Jvm.MethodName) ({ cls := "BasicMachine$Next", name := "run", desc := "(LBasicMachine;LBasicMachine$Line;)LBasicMachine$Line;" } : Jvm.MethodName)) ∈ lw_all := lw_g (lw_at lw_m7 122 rfl) rfl
theorem q1684 : (Jvm.Cond.unhidden "BasicMachine$Next" "run" "(LBasicMachine;LBasicMachine$Line;)LBasicMachine$Line;") ∈ lw_tbl := lw_at lw_m7 123 rfl
theorem q1685 : (Jvm.Cond.instanceMethod ({ cls := "BasicMachine$Next", name := "run", desc := "(LBasicMachine;LBasicMachine$Line;)LBasicMachine$Line;" } : Jvm.MethodName)) ∈ lw_all := lw_g (lw_at lw_m7 124 rfl) rfl
theorem q1686 : (Jvm.Cond.publicMethod ({ cls := "BasicMachine$Next", name := "run", desc := "(LBasicMachine;LBasicMachine$Line;)LBasicMachine$Line;" } : Jvm.MethodName)) ∈ lw_tbl := lw_at lw_m7 125 rfl
theorem q1687 : (Jvm.Cond.code ({ cls := "BasicMachine$Next", name := "run", desc := "(LBasicMachine;LBasicMachine$Line;)LBasicMachine$Line;" } : Jvm.MethodName) prog_17_method_2_code (5 : Nat) (Option.some (Jvm.ClassFile.FieldType.object "BasicMachine$Line"))) ∈ lw_all := lw_g (lw_at lw_m7 126 rfl) rfl
theorem q1688 : (Jvm.Cond.methodLinkNest "BasicMachine$Next" (13 : Nat) ({ cls := "BasicMachine", name := "loop", desc := "(I)I" } : Jvm.MethodName) "BasicMachine") ∈ lw_tbl := lw_at lw_m7 127 rfl
theorem q1689 : (Jvm.Cond.classLink "BasicMachine$Next" (19 : Nat) "java/lang/IllegalStateException") ∈ lw_all := lw_g (lw_at lw_m7 128 rfl) rfl
theorem q1690 : (Jvm.Cond.methodLink "BasicMachine$Next" (21 : Nat) ({ cls := "java/lang/IllegalStateException", name := "<init>", desc := "()V" } : Jvm.MethodName)) ∈ lw_all := lw_g (lw_at lw_m7 129 rfl) rfl
theorem q1691 : (Jvm.Cond.methodLink "BasicMachine$Next" (33 : Nat) ({ cls := "BasicMachine$Loop", name := "step", desc := "()D" } : Jvm.MethodName)) ∈ lw_all := lw_g (lw_at lw_m7 130 rfl) rfl
theorem q1695 : (Jvm.Cond.methodLinkNest "BasicMachine$Next" (39 : Nat) ({ cls := "BasicMachine", name := "checked", desc := "(D)D" } : Jvm.MethodName) "BasicMachine") ∈ lw_tbl := lw_at lw_m7 134 rfl
theorem q1696 : (Jvm.Cond.methodLink "BasicMachine$Next" (43 : Nat) ({ cls := "BasicMachine$Loop", name := "limit", desc := "()D" } : Jvm.MethodName)) ∈ lw_all := lw_g (lw_at lw_m7 135 rfl) rfl
theorem q1700 : (Jvm.Cond.methodLink "BasicMachine$Next" (46 : Nat) ({ cls := "BasicMachine$Loop", name := "over", desc := "(DDD)Z" } : Jvm.MethodName)) ∈ lw_all := lw_g (lw_at lw_m7 139 rfl) rfl
theorem q1701 : (Jvm.Cond.methodLink "BasicMachine$Next" (50 : Nat) ({ cls := "BasicMachine$Loop", name := "from", desc := "()LBasicMachine$Line;" } : Jvm.MethodName)) ∈ lw_all := lw_g (lw_at lw_m7 140 rfl) rfl
theorem q1705 : (Jvm.Cond.methodLinkNest "BasicMachine$Next" (54 : Nat) ({ cls := "BasicMachine", name := "after", desc := "(LBasicMachine$Line;)LBasicMachine$Line;" } : Jvm.MethodName) "BasicMachine") ∈ lw_tbl := lw_at lw_m7 144 rfl
theorem q2329 : (Jvm.Cond.castable "BasicMachine$Next" "java/lang/Object") ∈ lw_tbl := lw_at lw_m10 48 rfl
theorem in_X20 : ∀ w ∈ wsX200, w ∈ lw_all := lw_in wsX200 [1156] (by decide +kernel) (by decide +kernel)
/-! BasicMachine$Read -/
set_option maxRecDepth 100000
def RX21 : String := "BasicMachine$Read"
def TX21 : u_T := fun k => match k with
  | _ => ("BasicMachine$Read", "place", "LBasicMachine$Place;", true)
def tyX21 : Nat → FieldType := fun k => match k with
  | _ => .object "BasicMachine$Place"
abbrev wsX210 : List Cond := u_ws RX21 TX21 1
theorem nmX21 : ∀ a, a < 1 → ∀ b, b < 1 → a ≠ b → (TX21 a).2.1 ≠ (TX21 b).2.1 := by decide +kernel
theorem tyX21_ok : ∀ k, k < 1 → parseFieldDescriptor (TX21 k).2.2.1 = some (tyX21 k) := by decide +kernel
abbrev cX21_init : ByteArray := prog_25_method_1_code
def yX21_init : MethodName := ⟨RX21, "<init>", "(LBasicMachine$Place;)V"⟩
def dkwX21_init_0 : List UInt8 := [42, 183, 0, 1, 42, 43, 181, 0, 7, 177]
abbrev dktX21_init_0 : List UInt8 := dkwX21_init_0 ++ []
theorem dksX21_init_0 : cX21_init.data.toList.drop 0 = dktX21_init_0 := by decide +kernel
theorem dX21_init_0 : decode cX21_init 0 = .ok (.aload_n 0, 1) := dk_42 (dk_at dksX21_init_0 0 rfl rfl)
theorem dX21_init_1 : decode cX21_init 1 = .ok (.invokespecial 1, 3) := dk_183 0 1 (dk_at dksX21_init_0 1 rfl rfl)
theorem dX21_init_4 : decode cX21_init 4 = .ok (.aload_n 0, 1) := dk_42 (dk_at dksX21_init_0 4 rfl rfl)
theorem dX21_init_5 : decode cX21_init 5 = .ok (.aload_n 1, 1) := dk_43 (dk_at dksX21_init_0 5 rfl rfl)
theorem dX21_init_6 : decode cX21_init 6 = .ok (.putfield 7, 3) := dk_181 0 7 (dk_at dksX21_init_0 6 rfl rfl)
theorem dX21_init_9 : decode cX21_init 9 = .ok (.return_, 1) := dk_177 (dk_at dksX21_init_0 9 rfl rfl)
abbrev cX21_run : ByteArray := prog_25_method_2_code
def yX21_run : MethodName := ⟨RX21, "run", "(LBasicMachine;LBasicMachine$Line;)LBasicMachine$Line;"⟩
def dkwX21_run_0 : List UInt8 := [42, 180, 0, 7, 43, 182, 0, 13, 66, 42, 180, 0, 7, 43, 33, 43, 182, 0, 19, 182, 0, 25, 1, 176]
abbrev dktX21_run_0 : List UInt8 := dkwX21_run_0 ++ []
theorem dksX21_run_0 : cX21_run.data.toList.drop 0 = dktX21_run_0 := by decide +kernel
theorem dX21_run_0 : decode cX21_run 0 = .ok (.aload_n 0, 1) := dk_42 (dk_at dksX21_run_0 0 rfl rfl)
theorem dX21_run_1 : decode cX21_run 1 = .ok (.getfield 7, 3) := dk_180 0 7 (dk_at dksX21_run_0 1 rfl rfl)
theorem dX21_run_4 : decode cX21_run 4 = .ok (.aload_n 1, 1) := dk_43 (dk_at dksX21_run_0 4 rfl rfl)
theorem dX21_run_5 : decode cX21_run 5 = .ok (.invokevirtual 13, 3) := dk_182 0 13 (dk_at dksX21_run_0 5 rfl rfl)
theorem dX21_run_8 : decode cX21_run 8 = .ok (.lstore_n 3, 1) := dk_66 (dk_at dksX21_run_0 8 rfl rfl)
theorem dX21_run_9 : decode cX21_run 9 = .ok (.aload_n 0, 1) := dk_42 (dk_at dksX21_run_0 9 rfl rfl)
theorem dX21_run_10 : decode cX21_run 10 = .ok (.getfield 7, 3) := dk_180 0 7 (dk_at dksX21_run_0 10 rfl rfl)
theorem dX21_run_13 : decode cX21_run 13 = .ok (.aload_n 1, 1) := dk_43 (dk_at dksX21_run_0 13 rfl rfl)
theorem dX21_run_14 : decode cX21_run 14 = .ok (.lload_n 3, 1) := dk_33 (dk_at dksX21_run_0 14 rfl rfl)
theorem dX21_run_15 : decode cX21_run 15 = .ok (.aload_n 1, 1) := dk_43 (dk_at dksX21_run_0 15 rfl rfl)
theorem dX21_run_16 : decode cX21_run 16 = .ok (.invokevirtual 19, 3) := dk_182 0 19 (dk_at dksX21_run_0 16 rfl rfl)
theorem dX21_run_19 : decode cX21_run 19 = .ok (.invokevirtual 25, 3) := dk_182 0 25 (dk_at dksX21_run_0 19 rfl rfl)
theorem dX21_run_22 : decode cX21_run 22 = .ok (.aconst_null, 1) := dk_1 (dk_at dksX21_run_0 22 rfl rfl)
theorem dX21_run_23 : decode cX21_run 23 = .ok (.areturn, 1) := dk_176 (dk_at dksX21_run_0 23 rfl rfl)
theorem q160 : (Jvm.Cond.initialized "BasicMachine$Read") ∈ lw_all := lw_g (lw_at lw_m1 39 rfl) rfl
theorem q1160 : (Jvm.Cond.instantiable "BasicMachine$Read" (1 : Nat)) ∈ lw_all := lw_g (lw_at lw_m5 79 rfl) rfl
theorem q1162 : (Jvm.Cond.instanceMethod ({ cls := "BasicMachine$Read", name := "<init>", desc := "(LBasicMachine$Place;)V" } : Jvm.MethodName)) ∈ lw_all := lw_g (lw_at lw_m5 81 rfl) rfl
theorem q1163 : (Jvm.Cond.code ({ cls := "BasicMachine$Read", name := "<init>", desc := "(LBasicMachine$Place;)V" } : Jvm.MethodName) prog_25_method_1_code (2 : Nat) (Option.none : Option Jvm.ClassFile.FieldType)) ∈ lw_all := lw_g (lw_at lw_m5 82 rfl) rfl
theorem q1164 : (Jvm.Cond.methodLink "BasicMachine$Read" (1 : Nat) ({ cls := "java/lang/Record", name := "<init>", desc := "()V" } : Jvm.MethodName)) ∈ lw_all := lw_g (lw_at lw_m5 83 rfl) rfl
theorem q1165 : (Jvm.Cond.fieldLink "BasicMachine$Read" (7 : Nat) "BasicMachine$Read" "place" "LBasicMachine$Place;") ∈ lw_all := lw_g (lw_at lw_m5 84 rfl) rfl
theorem q1166 : (Jvm.Cond.laysFinal "BasicMachine$Read" "BasicMachine$Read" "place" "LBasicMachine$Place;") ∈ lw_all := lw_g (lw_at lw_m5 85 rfl) rfl
theorem q1167 : (Jvm.Cond.soleField "BasicMachine$Read" "place") ∈ lw_all := lw_g (lw_at lw_m5 86 rfl) rfl
theorem q1168 : (Jvm.Cond.superclass "BasicMachine$Read" "java/lang/Record") ∈ lw_all := lw_g (lw_at lw_m5 87 rfl) rfl
theorem q1732 : (Jvm.Cond.castable "BasicMachine$Read" "BasicMachine$Statement") ∈ lw_tbl := lw_at lw_m7 171 rfl
theorem q1733 : (Jvm.Cond.selects "BasicMachine$Read" ({ cls := "BasicMachine$Statement", name := "run", desc := "(LBasicMachine;LBasicMachine$Line;)LBasicMachine$Line;" } : Jvm.MethodName) ({ cls := "BasicMachine$Read", name := "run", desc := "(LBasicMachine;LBasicMachine$Line;)LBasicMachine$Line;" } : Jvm.MethodName)) ∈ lw_all := lw_g (lw_at lw_m7 172 rfl) rfl
theorem q1734 : (Jvm.Cond.unhidden "BasicMachine$Read" "run" "(LBasicMachine;LBasicMachine$Line;)LBasicMachine$Line;") ∈ lw_tbl := lw_at lw_m7 173 rfl
theorem q1735 : (Jvm.Cond.instanceMethod ({ cls := "BasicMachine$Read", name := "run", desc := "(LBasicMachine;LBasicMachine$Line;)LBasicMachine$Line;" } : Jvm.MethodName)) ∈ lw_all := lw_g (lw_at lw_m7 174 rfl) rfl
theorem q1736 : (Jvm.Cond.publicMethod ({ cls := "BasicMachine$Read", name := "run", desc := "(LBasicMachine;LBasicMachine$Line;)LBasicMachine$Line;" } : Jvm.MethodName)) ∈ lw_tbl := lw_at lw_m7 175 rfl
theorem q1737 : (Jvm.Cond.code ({ cls := "BasicMachine$Read", name := "run", desc := "(LBasicMachine;LBasicMachine$Line;)LBasicMachine$Line;" } : Jvm.MethodName) prog_25_method_2_code (5 : Nat) (Option.some (Jvm.ClassFile.FieldType.object "BasicMachine$Line"))) ∈ lw_all := lw_g (lw_at lw_m7 176 rfl) rfl
theorem q1738 : (Jvm.Cond.methodLink "BasicMachine$Read" (13 : Nat) ({ cls := "BasicMachine$Place", name := "find", desc := "(LBasicMachine;)J" } : Jvm.MethodName)) ∈ lw_all := lw_g (lw_at lw_m7 177 rfl) rfl
theorem q1739 : (Jvm.Cond.methodLinkNest "BasicMachine$Read" (19 : Nat) ({ cls := "BasicMachine", name := "read", desc := "()D" } : Jvm.MethodName) "BasicMachine") ∈ lw_tbl := lw_at lw_m7 178 rfl
theorem q1748 : (Jvm.Cond.methodLink "BasicMachine$Read" (25 : Nat) ({ cls := "BasicMachine$Place", name := "put", desc := "(LBasicMachine;JD)V" } : Jvm.MethodName)) ∈ lw_all := lw_g (lw_at lw_m7 187 rfl) rfl
theorem q2330 : (Jvm.Cond.castable "BasicMachine$Read" "java/lang/Object") ∈ lw_tbl := lw_at lw_m10 49 rfl
theorem in_X21 : ∀ w ∈ wsX210, w ∈ lw_all := lw_in wsX210 [1166] (by decide +kernel) (by decide +kernel)
/-! BasicMachine$Data -/
set_option maxRecDepth 100000
def RX22 : String := "BasicMachine$Data"
def TX22 : u_T := fun k => match k with
  | _ => ("BasicMachine$Data", "values", "[D", true)
def tyX22 : Nat → FieldType := fun k => match k with
  | _ => .array .double
abbrev wsX220 : List Cond := u_ws RX22 TX22 1
theorem nmX22 : ∀ a, a < 1 → ∀ b, b < 1 → a ≠ b → (TX22 a).2.1 ≠ (TX22 b).2.1 := by decide +kernel
theorem tyX22_ok : ∀ k, k < 1 → parseFieldDescriptor (TX22 k).2.2.1 = some (tyX22 k) := by decide +kernel
abbrev cX22_init : ByteArray := prog_3_method_1_code
def yX22_init : MethodName := ⟨RX22, "<init>", "([D)V"⟩
def dkwX22_init_0 : List UInt8 := [42, 183, 0, 1, 42, 43, 181, 0, 7, 177]
abbrev dktX22_init_0 : List UInt8 := dkwX22_init_0 ++ []
theorem dksX22_init_0 : cX22_init.data.toList.drop 0 = dktX22_init_0 := by decide +kernel
theorem dX22_init_0 : decode cX22_init 0 = .ok (.aload_n 0, 1) := dk_42 (dk_at dksX22_init_0 0 rfl rfl)
theorem dX22_init_1 : decode cX22_init 1 = .ok (.invokespecial 1, 3) := dk_183 0 1 (dk_at dksX22_init_0 1 rfl rfl)
theorem dX22_init_4 : decode cX22_init 4 = .ok (.aload_n 0, 1) := dk_42 (dk_at dksX22_init_0 4 rfl rfl)
theorem dX22_init_5 : decode cX22_init 5 = .ok (.aload_n 1, 1) := dk_43 (dk_at dksX22_init_0 5 rfl rfl)
theorem dX22_init_6 : decode cX22_init 6 = .ok (.putfield 7, 3) := dk_181 0 7 (dk_at dksX22_init_0 6 rfl rfl)
theorem dX22_init_9 : decode cX22_init 9 = .ok (.return_, 1) := dk_177 (dk_at dksX22_init_0 9 rfl rfl)
abbrev cX22_run : ByteArray := prog_3_method_2_code
def yX22_run : MethodName := ⟨RX22, "run", "(LBasicMachine;LBasicMachine$Line;)LBasicMachine$Line;"⟩
theorem dX22_run_0 : decode cX22_run 0 = .ok (.aconst_null, 1) := by decide +kernel
theorem dX22_run_1 : decode cX22_run 1 = .ok (.areturn, 1) := by decide +kernel
abbrev cX22_values : ByteArray := prog_3_method_6_code
def yX22_values : MethodName := ⟨RX22, "values", "()[D"⟩
theorem dX22_values_0 : decode cX22_values 0 = .ok (.aload_n 0, 1) := by decide +kernel
theorem dX22_values_1 : decode cX22_values 1 = .ok (.getfield 7, 3) := by decide +kernel
theorem dX22_values_4 : decode cX22_values 4 = .ok (.areturn, 1) := by decide +kernel
theorem q161 : (Jvm.Cond.initialized "BasicMachine$Data") ∈ lw_all := lw_g (lw_at lw_m1 40 rfl) rfl
theorem q1174 : (Jvm.Cond.instantiable "BasicMachine$Data" (1 : Nat)) ∈ lw_all := lw_g (lw_at lw_m5 93 rfl) rfl
theorem q1176 : (Jvm.Cond.instanceMethod ({ cls := "BasicMachine$Data", name := "<init>", desc := "([D)V" } : Jvm.MethodName)) ∈ lw_all := lw_g (lw_at lw_m5 95 rfl) rfl
theorem q1177 : (Jvm.Cond.code ({ cls := "BasicMachine$Data", name := "<init>", desc := "([D)V" } : Jvm.MethodName) prog_3_method_1_code (2 : Nat) (Option.none : Option Jvm.ClassFile.FieldType)) ∈ lw_all := lw_g (lw_at lw_m5 96 rfl) rfl
theorem q1178 : (Jvm.Cond.methodLink "BasicMachine$Data" (1 : Nat) ({ cls := "java/lang/Record", name := "<init>", desc := "()V" } : Jvm.MethodName)) ∈ lw_all := lw_g (lw_at lw_m5 97 rfl) rfl
theorem q1179 : (Jvm.Cond.fieldLink "BasicMachine$Data" (7 : Nat) "BasicMachine$Data" "values" "[D") ∈ lw_all := lw_g (lw_at lw_m5 98 rfl) rfl
theorem q1180 : (Jvm.Cond.laysFinal "BasicMachine$Data" "BasicMachine$Data" "values" "[D") ∈ lw_all := lw_g (lw_at lw_m5 99 rfl) rfl
theorem q1181 : (Jvm.Cond.soleField "BasicMachine$Data" "values") ∈ lw_all := lw_g (lw_at lw_m5 100 rfl) rfl
theorem q1182 : (Jvm.Cond.superclass "BasicMachine$Data" "java/lang/Record") ∈ lw_all := lw_g (lw_at lw_m5 101 rfl) rfl
theorem q1357 : (Jvm.Cond.castable "BasicMachine$Data" "BasicMachine$Statement") ∈ lw_tbl := lw_at lw_m6 36 rfl
theorem q1358 : (Jvm.Cond.selects "BasicMachine$Data" ({ cls := "BasicMachine$Statement", name := "run", desc := "(LBasicMachine;LBasicMachine$Line;)LBasicMachine$Line;" } : Jvm.MethodName) ({ cls := "BasicMachine$Data", name := "run", desc := "(LBasicMachine;LBasicMachine$Line;)LBasicMachine$Line;" } : Jvm.MethodName)) ∈ lw_all := lw_g (lw_at lw_m6 37 rfl) rfl
theorem q1359 : (Jvm.Cond.unhidden "BasicMachine$Data" "run" "(LBasicMachine;LBasicMachine$Line;)LBasicMachine$Line;") ∈ lw_tbl := lw_at lw_m6 38 rfl
theorem q1360 : (Jvm.Cond.instanceMethod ({ cls := "BasicMachine$Data", name := "run", desc := "(LBasicMachine;LBasicMachine$Line;)LBasicMachine$Line;" } : Jvm.MethodName)) ∈ lw_all := lw_g (lw_at lw_m6 39 rfl) rfl
theorem q1361 : (Jvm.Cond.publicMethod ({ cls := "BasicMachine$Data", name := "run", desc := "(LBasicMachine;LBasicMachine$Line;)LBasicMachine$Line;" } : Jvm.MethodName)) ∈ lw_tbl := lw_at lw_m6 40 rfl
theorem q1362 : (Jvm.Cond.code ({ cls := "BasicMachine$Data", name := "run", desc := "(LBasicMachine;LBasicMachine$Line;)LBasicMachine$Line;" } : Jvm.MethodName) prog_3_method_2_code (3 : Nat) (Option.some (Jvm.ClassFile.FieldType.object "BasicMachine$Line"))) ∈ lw_all := lw_g (lw_at lw_m6 41 rfl) rfl
theorem q1745 : (Jvm.Cond.instanceMethod ({ cls := "BasicMachine$Data", name := "values", desc := "()[D" } : Jvm.MethodName)) ∈ lw_all := lw_g (lw_at lw_m7 184 rfl) rfl
theorem q1746 : (Jvm.Cond.selects "BasicMachine$Data" ({ cls := "BasicMachine$Data", name := "values", desc := "()[D" } : Jvm.MethodName) ({ cls := "BasicMachine$Data", name := "values", desc := "()[D" } : Jvm.MethodName)) ∈ lw_all := lw_g (lw_at lw_m7 185 rfl) rfl
theorem q1747 : (Jvm.Cond.code ({ cls := "BasicMachine$Data", name := "values", desc := "()[D" } : Jvm.MethodName) prog_3_method_6_code (1 : Nat) (Option.some (Jvm.ClassFile.FieldType.array Jvm.ClassFile.FieldType.double))) ∈ lw_all := lw_g (lw_at lw_m7 186 rfl) rfl
theorem q2331 : (Jvm.Cond.castable "BasicMachine$Data" "java/lang/Object") ∈ lw_tbl := lw_at lw_m10 50 rfl
theorem in_X22 : ∀ w ∈ wsX220, w ∈ lw_all := lw_in wsX220 [1180] (by decide +kernel) (by decide +kernel)
/-! BasicMachine$Restore -/
set_option maxRecDepth 100000
def RX23 : String := "BasicMachine$Restore"
abbrev cX23_init : ByteArray := prog_26_method_1_code
def yX23_init : MethodName := ⟨RX23, "<init>", "()V"⟩
theorem dX23_init_0 : decode cX23_init 0 = .ok (.aload_n 0, 1) := by decide +kernel
theorem dX23_init_1 : decode cX23_init 1 = .ok (.invokespecial 1, 3) := by decide +kernel
theorem dX23_init_4 : decode cX23_init 4 = .ok (.return_, 1) := by decide +kernel
abbrev cX23_run : ByteArray := prog_26_method_2_code
def yX23_run : MethodName := ⟨RX23, "run", "(LBasicMachine;LBasicMachine$Line;)LBasicMachine$Line;"⟩
def dkwX23_run_0 : List UInt8 := [43, 3, 181, 0, 7, 1, 176]
abbrev dktX23_run_0 : List UInt8 := dkwX23_run_0 ++ []
theorem dksX23_run_0 : cX23_run.data.toList.drop 0 = dktX23_run_0 := by decide +kernel
theorem dX23_run_0 : decode cX23_run 0 = .ok (.aload_n 1, 1) := dk_43 (dk_at dksX23_run_0 0 rfl rfl)
theorem dX23_run_1 : decode cX23_run 1 = .ok (.iconst 0, 1) := dk_3 (dk_at dksX23_run_0 1 rfl rfl)
theorem dX23_run_2 : decode cX23_run 2 = .ok (.putfield 7, 3) := dk_181 0 7 (dk_at dksX23_run_0 2 rfl rfl)
theorem dX23_run_5 : decode cX23_run 5 = .ok (.aconst_null, 1) := dk_1 (dk_at dksX23_run_0 5 rfl rfl)
theorem dX23_run_6 : decode cX23_run 6 = .ok (.areturn, 1) := dk_176 (dk_at dksX23_run_0 6 rfl rfl)
theorem q162 : (Jvm.Cond.initialized "BasicMachine$Restore") ∈ lw_all := lw_g (lw_at lw_m1 41 rfl) rfl
theorem q231 : (Jvm.Cond.fieldLinkNest "BasicMachine$Restore" (7 : Nat) "BasicMachine" "readPlace" "I" "BasicMachine") ∈ lw_tbl := lw_at lw_m1 110 rfl
theorem q1184 : (Jvm.Cond.instantiable "BasicMachine$Restore" (0 : Nat)) ∈ lw_all := lw_g (lw_at lw_m5 103 rfl) rfl
theorem q1186 : (Jvm.Cond.instanceMethod ({ cls := "BasicMachine$Restore", name := "<init>", desc := "()V" } : Jvm.MethodName)) ∈ lw_all := lw_g (lw_at lw_m5 105 rfl) rfl
theorem q1187 : (Jvm.Cond.code ({ cls := "BasicMachine$Restore", name := "<init>", desc := "()V" } : Jvm.MethodName) prog_26_method_1_code (1 : Nat) (Option.none : Option Jvm.ClassFile.FieldType)) ∈ lw_all := lw_g (lw_at lw_m5 106 rfl) rfl
theorem q1188 : (Jvm.Cond.methodLink "BasicMachine$Restore" (1 : Nat) ({ cls := "java/lang/Record", name := "<init>", desc := "()V" } : Jvm.MethodName)) ∈ lw_all := lw_g (lw_at lw_m5 107 rfl) rfl
theorem q1189 : (Jvm.Cond.superclass "BasicMachine$Restore" "java/lang/Record") ∈ lw_all := lw_g (lw_at lw_m5 108 rfl) rfl
theorem q1749 : (Jvm.Cond.castable "BasicMachine$Restore" "BasicMachine$Statement") ∈ lw_tbl := lw_at lw_m7 188 rfl
theorem q1750 : (Jvm.Cond.selects "BasicMachine$Restore" ({ cls := "BasicMachine$Statement", name := "run", desc := "(LBasicMachine;LBasicMachine$Line;)LBasicMachine$Line;" } : Jvm.MethodName) ({ cls := "BasicMachine$Restore", name := "run", desc := "(LBasicMachine;LBasicMachine$Line;)LBasicMachine$Line;" } : Jvm.MethodName)) ∈ lw_all := lw_g (lw_at lw_m7 189 rfl) rfl
theorem q1751 : (Jvm.Cond.unhidden "BasicMachine$Restore" "run" "(LBasicMachine;LBasicMachine$Line;)LBasicMachine$Line;") ∈ lw_tbl := lw_at lw_m7 190 rfl
theorem q1752 : (Jvm.Cond.instanceMethod ({ cls := "BasicMachine$Restore", name := "run", desc := "(LBasicMachine;LBasicMachine$Line;)LBasicMachine$Line;" } : Jvm.MethodName)) ∈ lw_all := lw_g (lw_at lw_m7 191 rfl) rfl
theorem q1753 : (Jvm.Cond.publicMethod ({ cls := "BasicMachine$Restore", name := "run", desc := "(LBasicMachine;LBasicMachine$Line;)LBasicMachine$Line;" } : Jvm.MethodName)) ∈ lw_tbl := lw_at lw_m7 192 rfl
theorem q1754 : (Jvm.Cond.code ({ cls := "BasicMachine$Restore", name := "run", desc := "(LBasicMachine;LBasicMachine$Line;)LBasicMachine$Line;" } : Jvm.MethodName) prog_26_method_2_code (3 : Nat) (Option.some (Jvm.ClassFile.FieldType.object "BasicMachine$Line"))) ∈ lw_all := lw_g (lw_at lw_m7 193 rfl) rfl
theorem q2332 : (Jvm.Cond.castable "BasicMachine$Restore" "java/lang/Object") ∈ lw_tbl := lw_at lw_m10 51 rfl
/-! BasicMachine$Dim -/
set_option maxRecDepth 100000
def RX24 : String := "BasicMachine$Dim"
def TX24 : u_T := fun k => match k with
  | 0 => ("BasicMachine$Dim", "matrix", "I", true)
  | 1 => ("BasicMachine$Dim", "rows", "I", true)
  | _ => ("BasicMachine$Dim", "columns", "I", true)
def tyX24 : Nat → FieldType := fun k => match k with
  | 0 => .int
  | 1 => .int
  | _ => .int
abbrev wsX240 : List Cond := u_ws RX24 TX24 3
theorem nmX24 : ∀ a, a < 3 → ∀ b, b < 3 → a ≠ b → (TX24 a).2.1 ≠ (TX24 b).2.1 := by decide +kernel
theorem tyX24_ok : ∀ k, k < 3 → parseFieldDescriptor (TX24 k).2.2.1 = some (tyX24 k) := by decide +kernel
abbrev cX24_init : ByteArray := prog_5_method_1_code
def yX24_init : MethodName := ⟨RX24, "<init>", "(III)V"⟩
def dkwX24_init_0 : List UInt8 := [42, 183, 0, 1, 42, 27, 181, 0, 7, 42, 28, 181, 0, 13, 42, 29, 181, 0, 16, 177]
abbrev dktX24_init_0 : List UInt8 := dkwX24_init_0 ++ []
theorem dksX24_init_0 : cX24_init.data.toList.drop 0 = dktX24_init_0 := by decide +kernel
theorem dX24_init_0 : decode cX24_init 0 = .ok (.aload_n 0, 1) := dk_42 (dk_at dksX24_init_0 0 rfl rfl)
theorem dX24_init_1 : decode cX24_init 1 = .ok (.invokespecial 1, 3) := dk_183 0 1 (dk_at dksX24_init_0 1 rfl rfl)
theorem dX24_init_4 : decode cX24_init 4 = .ok (.aload_n 0, 1) := dk_42 (dk_at dksX24_init_0 4 rfl rfl)
theorem dX24_init_5 : decode cX24_init 5 = .ok (.iload_n 1, 1) := dk_27 (dk_at dksX24_init_0 5 rfl rfl)
theorem dX24_init_6 : decode cX24_init 6 = .ok (.putfield 7, 3) := dk_181 0 7 (dk_at dksX24_init_0 6 rfl rfl)
theorem dX24_init_9 : decode cX24_init 9 = .ok (.aload_n 0, 1) := dk_42 (dk_at dksX24_init_0 9 rfl rfl)
theorem dX24_init_10 : decode cX24_init 10 = .ok (.iload_n 2, 1) := dk_28 (dk_at dksX24_init_0 10 rfl rfl)
theorem dX24_init_11 : decode cX24_init 11 = .ok (.putfield 13, 3) := dk_181 0 13 (dk_at dksX24_init_0 11 rfl rfl)
theorem dX24_init_14 : decode cX24_init 14 = .ok (.aload_n 0, 1) := dk_42 (dk_at dksX24_init_0 14 rfl rfl)
theorem dX24_init_15 : decode cX24_init 15 = .ok (.iload_n 3, 1) := dk_29 (dk_at dksX24_init_0 15 rfl rfl)
theorem dX24_init_16 : decode cX24_init 16 = .ok (.putfield 16, 3) := dk_181 0 16 (dk_at dksX24_init_0 16 rfl rfl)
theorem dX24_init_19 : decode cX24_init 19 = .ok (.return_, 1) := dk_177 (dk_at dksX24_init_0 19 rfl rfl)
abbrev cX24_run : ByteArray := prog_5_method_2_code
def yX24_run : MethodName := ⟨RX24, "run", "(LBasicMachine;LBasicMachine$Line;)LBasicMachine$Line;"⟩
def dkwX24_run_2 : List UInt8 := [87, 1, 176]
abbrev dktX24_run_2 : List UInt8 := dkwX24_run_2 ++ []
def dkwX24_run_1 : List UInt8 := [183, 0, 27, 83, 43, 180, 0, 19, 42, 180, 0, 7, 50, 42, 180, 0, 13, 42, 180, 0, 16, 182, 0, 28]
abbrev dktX24_run_1 : List UInt8 := dkwX24_run_1 ++ dktX24_run_2
def dkwX24_run_0 : List UInt8 := [43, 180, 0, 19, 42, 180, 0, 7, 50, 199, 0, 19, 43, 180, 0, 19, 42, 180, 0, 7, 187, 0, 25, 89]
abbrev dktX24_run_0 : List UInt8 := dkwX24_run_0 ++ dktX24_run_1
theorem dksX24_run_0 : cX24_run.data.toList.drop 0 = dktX24_run_0 := by decide +kernel
theorem dksX24_run_1 : cX24_run.data.toList.drop 24 = dktX24_run_1 := dk_seg dksX24_run_0 24 rfl rfl
theorem dksX24_run_2 : cX24_run.data.toList.drop 48 = dktX24_run_2 := dk_seg dksX24_run_1 24 rfl rfl
theorem dX24_run_0 : decode cX24_run 0 = .ok (.aload_n 1, 1) := dk_43 (dk_at dksX24_run_0 0 rfl rfl)
theorem dX24_run_1 : decode cX24_run 1 = .ok (.getfield 19, 3) := dk_180 0 19 (dk_at dksX24_run_0 1 rfl rfl)
theorem dX24_run_4 : decode cX24_run 4 = .ok (.aload_n 0, 1) := dk_42 (dk_at dksX24_run_0 4 rfl rfl)
theorem dX24_run_5 : decode cX24_run 5 = .ok (.getfield 7, 3) := dk_180 0 7 (dk_at dksX24_run_0 5 rfl rfl)
theorem dX24_run_8 : decode cX24_run 8 = .ok (.aaload, 1) := dk_50 (dk_at dksX24_run_0 8 rfl rfl)
theorem dX24_run_9 : decode cX24_run 9 = .ok (.ifnonnull 19, 3) := dk_199 0 19 (dk_at dksX24_run_0 9 rfl rfl)
theorem dX24_run_12 : decode cX24_run 12 = .ok (.aload_n 1, 1) := dk_43 (dk_at dksX24_run_0 12 rfl rfl)
theorem dX24_run_13 : decode cX24_run 13 = .ok (.getfield 19, 3) := dk_180 0 19 (dk_at dksX24_run_0 13 rfl rfl)
theorem dX24_run_16 : decode cX24_run 16 = .ok (.aload_n 0, 1) := dk_42 (dk_at dksX24_run_0 16 rfl rfl)
theorem dX24_run_17 : decode cX24_run 17 = .ok (.getfield 7, 3) := dk_180 0 7 (dk_at dksX24_run_0 17 rfl rfl)
theorem dX24_run_20 : decode cX24_run 20 = .ok (.new 25, 3) := dk_187 0 25 (dk_at dksX24_run_0 20 rfl rfl)
theorem dX24_run_23 : decode cX24_run 23 = .ok (.dup, 1) := dk_89 (dk_at dksX24_run_0 23 rfl rfl)
theorem dX24_run_24 : decode cX24_run 24 = .ok (.invokespecial 27, 3) := dk_183 0 27 (dk_at dksX24_run_1 0 rfl rfl)
theorem dX24_run_27 : decode cX24_run 27 = .ok (.aastore, 1) := dk_83 (dk_at dksX24_run_1 3 rfl rfl)
theorem dX24_run_28 : decode cX24_run 28 = .ok (.aload_n 1, 1) := dk_43 (dk_at dksX24_run_1 4 rfl rfl)
theorem dX24_run_29 : decode cX24_run 29 = .ok (.getfield 19, 3) := dk_180 0 19 (dk_at dksX24_run_1 5 rfl rfl)
theorem dX24_run_32 : decode cX24_run 32 = .ok (.aload_n 0, 1) := dk_42 (dk_at dksX24_run_1 8 rfl rfl)
theorem dX24_run_33 : decode cX24_run 33 = .ok (.getfield 7, 3) := dk_180 0 7 (dk_at dksX24_run_1 9 rfl rfl)
theorem dX24_run_36 : decode cX24_run 36 = .ok (.aaload, 1) := dk_50 (dk_at dksX24_run_1 12 rfl rfl)
theorem dX24_run_37 : decode cX24_run 37 = .ok (.aload_n 0, 1) := dk_42 (dk_at dksX24_run_1 13 rfl rfl)
theorem dX24_run_38 : decode cX24_run 38 = .ok (.getfield 13, 3) := dk_180 0 13 (dk_at dksX24_run_1 14 rfl rfl)
theorem dX24_run_41 : decode cX24_run 41 = .ok (.aload_n 0, 1) := dk_42 (dk_at dksX24_run_1 17 rfl rfl)
theorem dX24_run_42 : decode cX24_run 42 = .ok (.getfield 16, 3) := dk_180 0 16 (dk_at dksX24_run_1 18 rfl rfl)
theorem dX24_run_45 : decode cX24_run 45 = .ok (.invokevirtual 28, 3) := dk_182 0 28 (dk_at dksX24_run_1 21 rfl rfl)
theorem dX24_run_48 : decode cX24_run 48 = .ok (.pop, 1) := dk_87 (dk_at dksX24_run_2 0 rfl rfl)
theorem dX24_run_49 : decode cX24_run 49 = .ok (.aconst_null, 1) := dk_1 (dk_at dksX24_run_2 1 rfl rfl)
theorem dX24_run_50 : decode cX24_run 50 = .ok (.areturn, 1) := dk_176 (dk_at dksX24_run_2 2 rfl rfl)
theorem q163 : (Jvm.Cond.initialized "BasicMachine$Dim") ∈ lw_all := lw_g (lw_at lw_m1 42 rfl) rfl
theorem q201 : (Jvm.Cond.fieldLinkNest "BasicMachine$Dim" (19 : Nat) "BasicMachine" "matrices" "[LBasicMachine$Matrix;" "BasicMachine") ∈ lw_tbl := lw_at lw_m1 80 rfl
theorem q1199 : (Jvm.Cond.instantiable "BasicMachine$Dim" (3 : Nat)) ∈ lw_all := lw_g (lw_at lw_m5 118 rfl) rfl
theorem q1201 : (Jvm.Cond.instanceMethod ({ cls := "BasicMachine$Dim", name := "<init>", desc := "(III)V" } : Jvm.MethodName)) ∈ lw_all := lw_g (lw_at lw_m5 120 rfl) rfl
theorem q1202 : (Jvm.Cond.code ({ cls := "BasicMachine$Dim", name := "<init>", desc := "(III)V" } : Jvm.MethodName) prog_5_method_1_code (4 : Nat) (Option.none : Option Jvm.ClassFile.FieldType)) ∈ lw_all := lw_g (lw_at lw_m5 121 rfl) rfl
theorem q1203 : (Jvm.Cond.methodLink "BasicMachine$Dim" (1 : Nat) ({ cls := "java/lang/Record", name := "<init>", desc := "()V" } : Jvm.MethodName)) ∈ lw_all := lw_g (lw_at lw_m5 122 rfl) rfl
theorem q1204 : (Jvm.Cond.fieldLink "BasicMachine$Dim" (7 : Nat) "BasicMachine$Dim" "matrix" "I") ∈ lw_all := lw_g (lw_at lw_m5 123 rfl) rfl
theorem q1205 : (Jvm.Cond.fieldLink "BasicMachine$Dim" (13 : Nat) "BasicMachine$Dim" "rows" "I") ∈ lw_all := lw_g (lw_at lw_m5 124 rfl) rfl
theorem q1206 : (Jvm.Cond.fieldLink "BasicMachine$Dim" (16 : Nat) "BasicMachine$Dim" "columns" "I") ∈ lw_all := lw_g (lw_at lw_m5 125 rfl) rfl
theorem q1207 : (Jvm.Cond.laysFinal "BasicMachine$Dim" "BasicMachine$Dim" "matrix" "I") ∈ lw_all := lw_g (lw_at lw_m5 126 rfl) rfl
theorem q1208 : (Jvm.Cond.soleField "BasicMachine$Dim" "matrix") ∈ lw_all := lw_g (lw_at lw_m5 127 rfl) rfl
theorem q1209 : (Jvm.Cond.laysFinal "BasicMachine$Dim" "BasicMachine$Dim" "rows" "I") ∈ lw_all := lw_g (lw_at lw_m5 128 rfl) rfl
theorem q1210 : (Jvm.Cond.soleField "BasicMachine$Dim" "rows") ∈ lw_all := lw_g (lw_at lw_m5 129 rfl) rfl
theorem q1211 : (Jvm.Cond.laysFinal "BasicMachine$Dim" "BasicMachine$Dim" "columns" "I") ∈ lw_all := lw_g (lw_at lw_m5 130 rfl) rfl
theorem q1212 : (Jvm.Cond.soleField "BasicMachine$Dim" "columns") ∈ lw_all := lw_g (lw_at lw_m5 131 rfl) rfl
theorem q1213 : (Jvm.Cond.superclass "BasicMachine$Dim" "java/lang/Record") ∈ lw_all := lw_g (lw_at lw_m5 132 rfl) rfl
theorem q1369 : (Jvm.Cond.castable "BasicMachine$Dim" "BasicMachine$Statement") ∈ lw_tbl := lw_at lw_m6 48 rfl
theorem q1370 : (Jvm.Cond.selects "BasicMachine$Dim" ({ cls := "BasicMachine$Statement", name := "run", desc := "(LBasicMachine;LBasicMachine$Line;)LBasicMachine$Line;" } : Jvm.MethodName) ({ cls := "BasicMachine$Dim", name := "run", desc := "(LBasicMachine;LBasicMachine$Line;)LBasicMachine$Line;" } : Jvm.MethodName)) ∈ lw_all := lw_g (lw_at lw_m6 49 rfl) rfl
theorem q1371 : (Jvm.Cond.unhidden "BasicMachine$Dim" "run" "(LBasicMachine;LBasicMachine$Line;)LBasicMachine$Line;") ∈ lw_tbl := lw_at lw_m6 50 rfl
theorem q1372 : (Jvm.Cond.instanceMethod ({ cls := "BasicMachine$Dim", name := "run", desc := "(LBasicMachine;LBasicMachine$Line;)LBasicMachine$Line;" } : Jvm.MethodName)) ∈ lw_all := lw_g (lw_at lw_m6 51 rfl) rfl
theorem q1373 : (Jvm.Cond.publicMethod ({ cls := "BasicMachine$Dim", name := "run", desc := "(LBasicMachine;LBasicMachine$Line;)LBasicMachine$Line;" } : Jvm.MethodName)) ∈ lw_tbl := lw_at lw_m6 52 rfl
theorem q1374 : (Jvm.Cond.code ({ cls := "BasicMachine$Dim", name := "run", desc := "(LBasicMachine;LBasicMachine$Line;)LBasicMachine$Line;" } : Jvm.MethodName) prog_5_method_2_code (3 : Nat) (Option.some (Jvm.ClassFile.FieldType.object "BasicMachine$Line"))) ∈ lw_all := lw_g (lw_at lw_m6 53 rfl) rfl
theorem q1375 : (Jvm.Cond.classLink "BasicMachine$Dim" (25 : Nat) "BasicMachine$Matrix") ∈ lw_all := lw_g (lw_at lw_m6 54 rfl) rfl
theorem q1377 : (Jvm.Cond.methodLinkNest "BasicMachine$Dim" (27 : Nat) ({ cls := "BasicMachine$Matrix", name := "<init>", desc := "()V" } : Jvm.MethodName) "BasicMachine") ∈ lw_tbl := lw_at lw_m6 56 rfl
theorem q1397 : (Jvm.Cond.methodLink "BasicMachine$Dim" (28 : Nat) ({ cls := "BasicMachine$Matrix", name := "be", desc := "(II)LBasicMachine$Matrix;" } : Jvm.MethodName)) ∈ lw_all := lw_g (lw_at lw_m6 76 rfl) rfl
theorem q2333 : (Jvm.Cond.castable "BasicMachine$Dim" "java/lang/Object") ∈ lw_tbl := lw_at lw_m10 52 rfl
theorem in_X24 : ∀ w ∈ wsX240, w ∈ lw_all := lw_in wsX240 [1207, 1209, 1211] (by decide +kernel) (by decide +kernel)
/-! BasicMachine$Define -/
set_option maxRecDepth 100000
def RX25 : String := "BasicMachine$Define"
def TX25 : u_T := fun k => match k with
  | 0 => ("BasicMachine$Define", "f", "I", true)
  | 1 => ("BasicMachine$Define", "s", "I", true)
  | _ => ("BasicMachine$Define", "body", "LBasicMachine$Expression;", true)
def tyX25 : Nat → FieldType := fun k => match k with
  | 0 => .int
  | 1 => .int
  | _ => .object "BasicMachine$Expression"
abbrev wsX250 : List Cond := u_ws RX25 TX25 3
theorem nmX25 : ∀ a, a < 3 → ∀ b, b < 3 → a ≠ b → (TX25 a).2.1 ≠ (TX25 b).2.1 := by decide +kernel
theorem tyX25_ok : ∀ k, k < 3 → parseFieldDescriptor (TX25 k).2.2.1 = some (tyX25 k) := by decide +kernel
abbrev cX25_init : ByteArray := prog_4_method_1_code
def yX25_init : MethodName := ⟨RX25, "<init>", "(IILBasicMachine$Expression;)V"⟩
def dkwX25_init_0 : List UInt8 := [42, 183, 0, 1, 42, 27, 181, 0, 7, 42, 28, 181, 0, 13, 42, 45, 181, 0, 16, 177]
abbrev dktX25_init_0 : List UInt8 := dkwX25_init_0 ++ []
theorem dksX25_init_0 : cX25_init.data.toList.drop 0 = dktX25_init_0 := by decide +kernel
theorem dX25_init_0 : decode cX25_init 0 = .ok (.aload_n 0, 1) := dk_42 (dk_at dksX25_init_0 0 rfl rfl)
theorem dX25_init_1 : decode cX25_init 1 = .ok (.invokespecial 1, 3) := dk_183 0 1 (dk_at dksX25_init_0 1 rfl rfl)
theorem dX25_init_4 : decode cX25_init 4 = .ok (.aload_n 0, 1) := dk_42 (dk_at dksX25_init_0 4 rfl rfl)
theorem dX25_init_5 : decode cX25_init 5 = .ok (.iload_n 1, 1) := dk_27 (dk_at dksX25_init_0 5 rfl rfl)
theorem dX25_init_6 : decode cX25_init 6 = .ok (.putfield 7, 3) := dk_181 0 7 (dk_at dksX25_init_0 6 rfl rfl)
theorem dX25_init_9 : decode cX25_init 9 = .ok (.aload_n 0, 1) := dk_42 (dk_at dksX25_init_0 9 rfl rfl)
theorem dX25_init_10 : decode cX25_init 10 = .ok (.iload_n 2, 1) := dk_28 (dk_at dksX25_init_0 10 rfl rfl)
theorem dX25_init_11 : decode cX25_init 11 = .ok (.putfield 13, 3) := dk_181 0 13 (dk_at dksX25_init_0 11 rfl rfl)
theorem dX25_init_14 : decode cX25_init 14 = .ok (.aload_n 0, 1) := dk_42 (dk_at dksX25_init_0 14 rfl rfl)
theorem dX25_init_15 : decode cX25_init 15 = .ok (.aload_n 3, 1) := dk_45 (dk_at dksX25_init_0 15 rfl rfl)
theorem dX25_init_16 : decode cX25_init 16 = .ok (.putfield 16, 3) := dk_181 0 16 (dk_at dksX25_init_0 16 rfl rfl)
theorem dX25_init_19 : decode cX25_init 19 = .ok (.return_, 1) := dk_177 (dk_at dksX25_init_0 19 rfl rfl)
abbrev cX25_run : ByteArray := prog_4_method_2_code
def yX25_run : MethodName := ⟨RX25, "run", "(LBasicMachine;LBasicMachine$Line;)LBasicMachine$Line;"⟩
def dkwX25_run_0 : List UInt8 := [43, 180, 0, 20, 42, 180, 0, 7, 42, 83, 1, 176]
abbrev dktX25_run_0 : List UInt8 := dkwX25_run_0 ++ []
theorem dksX25_run_0 : cX25_run.data.toList.drop 0 = dktX25_run_0 := by decide +kernel
theorem dX25_run_0 : decode cX25_run 0 = .ok (.aload_n 1, 1) := dk_43 (dk_at dksX25_run_0 0 rfl rfl)
theorem dX25_run_1 : decode cX25_run 1 = .ok (.getfield 20, 3) := dk_180 0 20 (dk_at dksX25_run_0 1 rfl rfl)
theorem dX25_run_4 : decode cX25_run 4 = .ok (.aload_n 0, 1) := dk_42 (dk_at dksX25_run_0 4 rfl rfl)
theorem dX25_run_5 : decode cX25_run 5 = .ok (.getfield 7, 3) := dk_180 0 7 (dk_at dksX25_run_0 5 rfl rfl)
theorem dX25_run_8 : decode cX25_run 8 = .ok (.aload_n 0, 1) := dk_42 (dk_at dksX25_run_0 8 rfl rfl)
theorem dX25_run_9 : decode cX25_run 9 = .ok (.aastore, 1) := dk_83 (dk_at dksX25_run_0 9 rfl rfl)
theorem dX25_run_10 : decode cX25_run 10 = .ok (.aconst_null, 1) := dk_1 (dk_at dksX25_run_0 10 rfl rfl)
theorem dX25_run_11 : decode cX25_run 11 = .ok (.areturn, 1) := dk_176 (dk_at dksX25_run_0 11 rfl rfl)
abbrev cX25_s : ByteArray := prog_4_method_7_code
def yX25_s : MethodName := ⟨RX25, "s", "()I"⟩
theorem dX25_s_0 : decode cX25_s 0 = .ok (.aload_n 0, 1) := by decide +kernel
theorem dX25_s_1 : decode cX25_s 1 = .ok (.getfield 13, 3) := by decide +kernel
theorem dX25_s_4 : decode cX25_s 4 = .ok (.ireturn, 1) := by decide +kernel
abbrev cX25_body : ByteArray := prog_4_method_8_code
def yX25_body : MethodName := ⟨RX25, "body", "()LBasicMachine$Expression;"⟩
theorem dX25_body_0 : decode cX25_body 0 = .ok (.aload_n 0, 1) := by decide +kernel
theorem dX25_body_1 : decode cX25_body 1 = .ok (.getfield 16, 3) := by decide +kernel
theorem dX25_body_4 : decode cX25_body 4 = .ok (.areturn, 1) := by decide +kernel
theorem q164 : (Jvm.Cond.initialized "BasicMachine$Define") ∈ lw_all := lw_g (lw_at lw_m1 43 rfl) rfl
theorem q206 : (Jvm.Cond.fieldLinkNest "BasicMachine$Define" (20 : Nat) "BasicMachine" "functions" "[LBasicMachine$Define;" "BasicMachine") ∈ lw_tbl := lw_at lw_m1 85 rfl
theorem q1219 : (Jvm.Cond.instantiable "BasicMachine$Define" (3 : Nat)) ∈ lw_all := lw_g (lw_at lw_m5 138 rfl) rfl
theorem q1221 : (Jvm.Cond.instanceMethod ({ cls := "BasicMachine$Define", name := "<init>", desc := "(IILBasicMachine$Expression;)V" } : Jvm.MethodName)) ∈ lw_all := lw_g (lw_at lw_m5 140 rfl) rfl
theorem q1222 : (Jvm.Cond.code ({ cls := "BasicMachine$Define", name := "<init>", desc := "(IILBasicMachine$Expression;)V" } : Jvm.MethodName) prog_4_method_1_code (4 : Nat) (Option.none : Option Jvm.ClassFile.FieldType)) ∈ lw_all := lw_g (lw_at lw_m5 141 rfl) rfl
theorem q1223 : (Jvm.Cond.methodLink "BasicMachine$Define" (1 : Nat) ({ cls := "java/lang/Record", name := "<init>", desc := "()V" } : Jvm.MethodName)) ∈ lw_all := lw_g (lw_at lw_m5 142 rfl) rfl
theorem q1224 : (Jvm.Cond.fieldLink "BasicMachine$Define" (7 : Nat) "BasicMachine$Define" "f" "I") ∈ lw_all := lw_g (lw_at lw_m5 143 rfl) rfl
theorem q1225 : (Jvm.Cond.fieldLink "BasicMachine$Define" (13 : Nat) "BasicMachine$Define" "s" "I") ∈ lw_all := lw_g (lw_at lw_m5 144 rfl) rfl
theorem q1226 : (Jvm.Cond.fieldLink "BasicMachine$Define" (16 : Nat) "BasicMachine$Define" "body" "LBasicMachine$Expression;") ∈ lw_all := lw_g (lw_at lw_m5 145 rfl) rfl
theorem q1227 : (Jvm.Cond.laysFinal "BasicMachine$Define" "BasicMachine$Define" "f" "I") ∈ lw_all := lw_g (lw_at lw_m5 146 rfl) rfl
theorem q1228 : (Jvm.Cond.soleField "BasicMachine$Define" "f") ∈ lw_all := lw_g (lw_at lw_m5 147 rfl) rfl
theorem q1229 : (Jvm.Cond.laysFinal "BasicMachine$Define" "BasicMachine$Define" "s" "I") ∈ lw_all := lw_g (lw_at lw_m5 148 rfl) rfl
theorem q1230 : (Jvm.Cond.soleField "BasicMachine$Define" "s") ∈ lw_all := lw_g (lw_at lw_m5 149 rfl) rfl
theorem q1231 : (Jvm.Cond.laysFinal "BasicMachine$Define" "BasicMachine$Define" "body" "LBasicMachine$Expression;") ∈ lw_all := lw_g (lw_at lw_m5 150 rfl) rfl
theorem q1232 : (Jvm.Cond.soleField "BasicMachine$Define" "body") ∈ lw_all := lw_g (lw_at lw_m5 151 rfl) rfl
theorem q1233 : (Jvm.Cond.superclass "BasicMachine$Define" "java/lang/Record") ∈ lw_all := lw_g (lw_at lw_m5 152 rfl) rfl
theorem q1363 : (Jvm.Cond.castable "BasicMachine$Define" "BasicMachine$Statement") ∈ lw_tbl := lw_at lw_m6 42 rfl
theorem q1364 : (Jvm.Cond.selects "BasicMachine$Define" ({ cls := "BasicMachine$Statement", name := "run", desc := "(LBasicMachine;LBasicMachine$Line;)LBasicMachine$Line;" } : Jvm.MethodName) ({ cls := "BasicMachine$Define", name := "run", desc := "(LBasicMachine;LBasicMachine$Line;)LBasicMachine$Line;" } : Jvm.MethodName)) ∈ lw_all := lw_g (lw_at lw_m6 43 rfl) rfl
theorem q1365 : (Jvm.Cond.unhidden "BasicMachine$Define" "run" "(LBasicMachine;LBasicMachine$Line;)LBasicMachine$Line;") ∈ lw_tbl := lw_at lw_m6 44 rfl
theorem q1366 : (Jvm.Cond.instanceMethod ({ cls := "BasicMachine$Define", name := "run", desc := "(LBasicMachine;LBasicMachine$Line;)LBasicMachine$Line;" } : Jvm.MethodName)) ∈ lw_all := lw_g (lw_at lw_m6 45 rfl) rfl
theorem q1367 : (Jvm.Cond.publicMethod ({ cls := "BasicMachine$Define", name := "run", desc := "(LBasicMachine;LBasicMachine$Line;)LBasicMachine$Line;" } : Jvm.MethodName)) ∈ lw_tbl := lw_at lw_m6 46 rfl
theorem q1368 : (Jvm.Cond.code ({ cls := "BasicMachine$Define", name := "run", desc := "(LBasicMachine;LBasicMachine$Line;)LBasicMachine$Line;" } : Jvm.MethodName) prog_4_method_2_code (3 : Nat) (Option.some (Jvm.ClassFile.FieldType.object "BasicMachine$Line"))) ∈ lw_all := lw_g (lw_at lw_m6 47 rfl) rfl
theorem q1516 : (Jvm.Cond.instanceMethod ({ cls := "BasicMachine$Define", name := "s", desc := "()I" } : Jvm.MethodName)) ∈ lw_all := lw_g (lw_at lw_m6 195 rfl) rfl
theorem q1517 : (Jvm.Cond.selects "BasicMachine$Define" ({ cls := "BasicMachine$Define", name := "s", desc := "()I" } : Jvm.MethodName) ({ cls := "BasicMachine$Define", name := "s", desc := "()I" } : Jvm.MethodName)) ∈ lw_all := lw_g (lw_at lw_m6 196 rfl) rfl
theorem q1518 : (Jvm.Cond.code ({ cls := "BasicMachine$Define", name := "s", desc := "()I" } : Jvm.MethodName) prog_4_method_7_code (1 : Nat) (Option.some Jvm.ClassFile.FieldType.int)) ∈ lw_all := lw_g (lw_at lw_m6 197 rfl) rfl
theorem q1520 : (Jvm.Cond.instanceMethod ({ cls := "BasicMachine$Define", name := "body", desc := "()LBasicMachine$Expression;" } : Jvm.MethodName)) ∈ lw_all := lw_g (lw_at lw_m6 199 rfl) rfl
theorem q1521 : (Jvm.Cond.selects "BasicMachine$Define" ({ cls := "BasicMachine$Define", name := "body", desc := "()LBasicMachine$Expression;" } : Jvm.MethodName) ({ cls := "BasicMachine$Define", name := "body", desc := "()LBasicMachine$Expression;" } : Jvm.MethodName)) ∈ lw_all := lw_g (lw_at lw_m6 200 rfl) rfl
theorem q1522 : (Jvm.Cond.code ({ cls := "BasicMachine$Define", name := "body", desc := "()LBasicMachine$Expression;" } : Jvm.MethodName) prog_4_method_8_code (1 : Nat) (Option.some (Jvm.ClassFile.FieldType.object "BasicMachine$Expression"))) ∈ lw_all := lw_g (lw_at lw_m6 201 rfl) rfl
theorem q2334 : (Jvm.Cond.castable "BasicMachine$Define" "java/lang/Object") ∈ lw_tbl := lw_at lw_m10 53 rfl
theorem in_X25 : ∀ w ∈ wsX250, w ∈ lw_all := lw_in wsX250 [1227, 1229, 1231] (by decide +kernel) (by decide +kernel)
/-! BasicMachine$Mat -/
set_option maxRecDepth 100000
def RX26 : String := "BasicMachine$Mat"
def TX26 : u_T := fun k => match k with
  | 0 => ("BasicMachine$Mat", "to", "I", true)
  | 1 => ("BasicMachine$Mat", "what", "C", true)
  | 2 => ("BasicMachine$Mat", "a", "I", true)
  | 3 => ("BasicMachine$Mat", "b", "I", true)
  | _ => ("BasicMachine$Mat", "factor", "LBasicMachine$Expression;", true)
def tyX26 : Nat → FieldType := fun k => match k with
  | 0 => .int
  | 1 => .char
  | 2 => .int
  | 3 => .int
  | _ => .object "BasicMachine$Expression"
abbrev wsX260 : List Cond := u_ws RX26 TX26 5
theorem nmX26 : ∀ a, a < 5 → ∀ b, b < 5 → a ≠ b → (TX26 a).2.1 ≠ (TX26 b).2.1 := by decide +kernel
theorem tyX26_ok : ∀ k, k < 5 → parseFieldDescriptor (TX26 k).2.2.1 = some (tyX26 k) := by decide +kernel
abbrev cX26_init : ByteArray := prog_15_method_1_code
def yX26_init : MethodName := ⟨RX26, "<init>", "(ICIILBasicMachine$Expression;)V"⟩
def dkwX26_init_1 : List UInt8 := [181, 0, 20, 42, 25, 5, 181, 0, 23, 177]
abbrev dktX26_init_1 : List UInt8 := dkwX26_init_1 ++ []
def dkwX26_init_0 : List UInt8 := [42, 183, 0, 1, 42, 27, 181, 0, 7, 42, 28, 181, 0, 13, 42, 29, 181, 0, 17, 42, 21, 4]
abbrev dktX26_init_0 : List UInt8 := dkwX26_init_0 ++ dktX26_init_1
theorem dksX26_init_0 : cX26_init.data.toList.drop 0 = dktX26_init_0 := by decide +kernel
theorem dksX26_init_1 : cX26_init.data.toList.drop 22 = dktX26_init_1 := dk_seg dksX26_init_0 22 rfl rfl
theorem dX26_init_0 : decode cX26_init 0 = .ok (.aload_n 0, 1) := dk_42 (dk_at dksX26_init_0 0 rfl rfl)
theorem dX26_init_1 : decode cX26_init 1 = .ok (.invokespecial 1, 3) := dk_183 0 1 (dk_at dksX26_init_0 1 rfl rfl)
theorem dX26_init_4 : decode cX26_init 4 = .ok (.aload_n 0, 1) := dk_42 (dk_at dksX26_init_0 4 rfl rfl)
theorem dX26_init_5 : decode cX26_init 5 = .ok (.iload_n 1, 1) := dk_27 (dk_at dksX26_init_0 5 rfl rfl)
theorem dX26_init_6 : decode cX26_init 6 = .ok (.putfield 7, 3) := dk_181 0 7 (dk_at dksX26_init_0 6 rfl rfl)
theorem dX26_init_9 : decode cX26_init 9 = .ok (.aload_n 0, 1) := dk_42 (dk_at dksX26_init_0 9 rfl rfl)
theorem dX26_init_10 : decode cX26_init 10 = .ok (.iload_n 2, 1) := dk_28 (dk_at dksX26_init_0 10 rfl rfl)
theorem dX26_init_11 : decode cX26_init 11 = .ok (.putfield 13, 3) := dk_181 0 13 (dk_at dksX26_init_0 11 rfl rfl)
theorem dX26_init_14 : decode cX26_init 14 = .ok (.aload_n 0, 1) := dk_42 (dk_at dksX26_init_0 14 rfl rfl)
theorem dX26_init_15 : decode cX26_init 15 = .ok (.iload_n 3, 1) := dk_29 (dk_at dksX26_init_0 15 rfl rfl)
theorem dX26_init_16 : decode cX26_init 16 = .ok (.putfield 17, 3) := dk_181 0 17 (dk_at dksX26_init_0 16 rfl rfl)
theorem dX26_init_19 : decode cX26_init 19 = .ok (.aload_n 0, 1) := dk_42 (dk_at dksX26_init_0 19 rfl rfl)
theorem dX26_init_20 : decode cX26_init 20 = .ok (.iload 4, 2) := dk_21 4 (dk_at dksX26_init_0 20 rfl rfl)
theorem dX26_init_22 : decode cX26_init 22 = .ok (.putfield 20, 3) := dk_181 0 20 (dk_at dksX26_init_1 0 rfl rfl)
theorem dX26_init_25 : decode cX26_init 25 = .ok (.aload_n 0, 1) := dk_42 (dk_at dksX26_init_1 3 rfl rfl)
theorem dX26_init_26 : decode cX26_init 26 = .ok (.aload 5, 2) := dk_25 5 (dk_at dksX26_init_1 4 rfl rfl)
theorem dX26_init_28 : decode cX26_init 28 = .ok (.putfield 23, 3) := dk_181 0 23 (dk_at dksX26_init_1 6 rfl rfl)
theorem dX26_init_31 : decode cX26_init 31 = .ok (.return_, 1) := dk_177 (dk_at dksX26_init_1 9 rfl rfl)
abbrev cX26_run : ByteArray := prog_15_method_2_code
def yX26_run : MethodName := ⟨RX26, "run", "(LBasicMachine;LBasicMachine$Line;)LBasicMachine$Line;"⟩
def dkwX26_run_3 : List UInt8 := [42, 180, 0, 7, 50, 181, 0, 47, 43, 180, 0, 43, 42, 180, 0, 7, 25, 7, 83, 1, 176]
abbrev dktX26_run_3 : List UInt8 := dkwX26_run_3 ++ []
def dkwX26_run_2 : List UInt8 := [185, 0, 33, 2, 0, 57, 5, 42, 43, 45, 25, 4, 24, 5, 182, 0, 39, 58, 7, 43, 43, 180, 0, 43]
abbrev dktX26_run_2 : List UInt8 := dkwX26_run_2 ++ dktX26_run_3
def dkwX26_run_1 : List UInt8 := [180, 0, 20, 182, 0, 27, 58, 4, 42, 180, 0, 23, 199, 0, 7, 15, 167, 0, 13, 42, 180, 0, 23, 43]
abbrev dktX26_run_1 : List UInt8 := dkwX26_run_1 ++ dktX26_run_2
def dkwX26_run_0 : List UInt8 := [43, 42, 180, 0, 17, 182, 0, 27, 78, 42, 180, 0, 20, 156, 0, 7, 45, 167, 0, 11, 43, 42]
abbrev dktX26_run_0 : List UInt8 := dkwX26_run_0 ++ dktX26_run_1
theorem dksX26_run_0 : cX26_run.data.toList.drop 0 = dktX26_run_0 := by decide +kernel
theorem dksX26_run_1 : cX26_run.data.toList.drop 22 = dktX26_run_1 := dk_seg dksX26_run_0 22 rfl rfl
theorem dksX26_run_2 : cX26_run.data.toList.drop 46 = dktX26_run_2 := dk_seg dksX26_run_1 24 rfl rfl
theorem dksX26_run_3 : cX26_run.data.toList.drop 70 = dktX26_run_3 := dk_seg dksX26_run_2 24 rfl rfl
theorem dX26_run_0 : decode cX26_run 0 = .ok (.aload_n 1, 1) := dk_43 (dk_at dksX26_run_0 0 rfl rfl)
theorem dX26_run_1 : decode cX26_run 1 = .ok (.aload_n 0, 1) := dk_42 (dk_at dksX26_run_0 1 rfl rfl)
theorem dX26_run_2 : decode cX26_run 2 = .ok (.getfield 17, 3) := dk_180 0 17 (dk_at dksX26_run_0 2 rfl rfl)
theorem dX26_run_5 : decode cX26_run 5 = .ok (.invokevirtual 27, 3) := dk_182 0 27 (dk_at dksX26_run_0 5 rfl rfl)
theorem dX26_run_8 : decode cX26_run 8 = .ok (.astore_n 3, 1) := dk_78 (dk_at dksX26_run_0 8 rfl rfl)
theorem dX26_run_9 : decode cX26_run 9 = .ok (.aload_n 0, 1) := dk_42 (dk_at dksX26_run_0 9 rfl rfl)
theorem dX26_run_10 : decode cX26_run 10 = .ok (.getfield 20, 3) := dk_180 0 20 (dk_at dksX26_run_0 10 rfl rfl)
theorem dX26_run_13 : decode cX26_run 13 = .ok (.ifCond .ge 7, 3) := dk_156 0 7 (dk_at dksX26_run_0 13 rfl rfl)
theorem dX26_run_16 : decode cX26_run 16 = .ok (.aload_n 3, 1) := dk_45 (dk_at dksX26_run_0 16 rfl rfl)
theorem dX26_run_17 : decode cX26_run 17 = .ok (.goto 11, 3) := dk_167 0 11 (dk_at dksX26_run_0 17 rfl rfl)
theorem dX26_run_20 : decode cX26_run 20 = .ok (.aload_n 1, 1) := dk_43 (dk_at dksX26_run_0 20 rfl rfl)
theorem dX26_run_21 : decode cX26_run 21 = .ok (.aload_n 0, 1) := dk_42 (dk_at dksX26_run_0 21 rfl rfl)
theorem dX26_run_22 : decode cX26_run 22 = .ok (.getfield 20, 3) := dk_180 0 20 (dk_at dksX26_run_1 0 rfl rfl)
theorem dX26_run_25 : decode cX26_run 25 = .ok (.invokevirtual 27, 3) := dk_182 0 27 (dk_at dksX26_run_1 3 rfl rfl)
theorem dX26_run_28 : decode cX26_run 28 = .ok (.astore 4, 2) := dk_58 4 (dk_at dksX26_run_1 6 rfl rfl)
theorem dX26_run_30 : decode cX26_run 30 = .ok (.aload_n 0, 1) := dk_42 (dk_at dksX26_run_1 8 rfl rfl)
theorem dX26_run_31 : decode cX26_run 31 = .ok (.getfield 23, 3) := dk_180 0 23 (dk_at dksX26_run_1 9 rfl rfl)
theorem dX26_run_34 : decode cX26_run 34 = .ok (.ifnonnull 7, 3) := dk_199 0 7 (dk_at dksX26_run_1 12 rfl rfl)
theorem dX26_run_37 : decode cX26_run 37 = .ok (.dconst 1, 1) := dk_15 (dk_at dksX26_run_1 15 rfl rfl)
theorem dX26_run_38 : decode cX26_run 38 = .ok (.goto 13, 3) := dk_167 0 13 (dk_at dksX26_run_1 16 rfl rfl)
theorem dX26_run_41 : decode cX26_run 41 = .ok (.aload_n 0, 1) := dk_42 (dk_at dksX26_run_1 19 rfl rfl)
theorem dX26_run_42 : decode cX26_run 42 = .ok (.getfield 23, 3) := dk_180 0 23 (dk_at dksX26_run_1 20 rfl rfl)
theorem dX26_run_45 : decode cX26_run 45 = .ok (.aload_n 1, 1) := dk_43 (dk_at dksX26_run_1 23 rfl rfl)
theorem dX26_run_46 : decode cX26_run 46 = .ok (.invokeinterface 33 2, 5) := by decide +kernel
theorem dX26_run_51 : decode cX26_run 51 = .ok (.dstore 5, 2) := dk_57 5 (dk_at dksX26_run_2 5 rfl rfl)
theorem dX26_run_53 : decode cX26_run 53 = .ok (.aload_n 0, 1) := dk_42 (dk_at dksX26_run_2 7 rfl rfl)
theorem dX26_run_54 : decode cX26_run 54 = .ok (.aload_n 1, 1) := dk_43 (dk_at dksX26_run_2 8 rfl rfl)
theorem dX26_run_55 : decode cX26_run 55 = .ok (.aload_n 3, 1) := dk_45 (dk_at dksX26_run_2 9 rfl rfl)
theorem dX26_run_56 : decode cX26_run 56 = .ok (.aload 4, 2) := dk_25 4 (dk_at dksX26_run_2 10 rfl rfl)
theorem dX26_run_58 : decode cX26_run 58 = .ok (.dload 5, 2) := dk_24 5 (dk_at dksX26_run_2 12 rfl rfl)
theorem dX26_run_60 : decode cX26_run 60 = .ok (.invokevirtual 39, 3) := dk_182 0 39 (dk_at dksX26_run_2 14 rfl rfl)
theorem dX26_run_63 : decode cX26_run 63 = .ok (.astore 7, 2) := dk_58 7 (dk_at dksX26_run_2 17 rfl rfl)
theorem dX26_run_65 : decode cX26_run 65 = .ok (.aload_n 1, 1) := dk_43 (dk_at dksX26_run_2 19 rfl rfl)
theorem dX26_run_66 : decode cX26_run 66 = .ok (.aload_n 1, 1) := dk_43 (dk_at dksX26_run_2 20 rfl rfl)
theorem dX26_run_67 : decode cX26_run 67 = .ok (.getfield 43, 3) := dk_180 0 43 (dk_at dksX26_run_2 21 rfl rfl)
theorem dX26_run_70 : decode cX26_run 70 = .ok (.aload_n 0, 1) := dk_42 (dk_at dksX26_run_3 0 rfl rfl)
theorem dX26_run_71 : decode cX26_run 71 = .ok (.getfield 7, 3) := dk_180 0 7 (dk_at dksX26_run_3 1 rfl rfl)
theorem dX26_run_74 : decode cX26_run 74 = .ok (.aaload, 1) := dk_50 (dk_at dksX26_run_3 4 rfl rfl)
theorem dX26_run_75 : decode cX26_run 75 = .ok (.putfield 47, 3) := dk_181 0 47 (dk_at dksX26_run_3 5 rfl rfl)
theorem dX26_run_78 : decode cX26_run 78 = .ok (.aload_n 1, 1) := dk_43 (dk_at dksX26_run_3 8 rfl rfl)
theorem dX26_run_79 : decode cX26_run 79 = .ok (.getfield 43, 3) := dk_180 0 43 (dk_at dksX26_run_3 9 rfl rfl)
theorem dX26_run_82 : decode cX26_run 82 = .ok (.aload_n 0, 1) := dk_42 (dk_at dksX26_run_3 12 rfl rfl)
theorem dX26_run_83 : decode cX26_run 83 = .ok (.getfield 7, 3) := dk_180 0 7 (dk_at dksX26_run_3 13 rfl rfl)
theorem dX26_run_86 : decode cX26_run 86 = .ok (.aload 7, 2) := dk_25 7 (dk_at dksX26_run_3 16 rfl rfl)
theorem dX26_run_88 : decode cX26_run 88 = .ok (.aastore, 1) := dk_83 (dk_at dksX26_run_3 18 rfl rfl)
theorem dX26_run_89 : decode cX26_run 89 = .ok (.aconst_null, 1) := dk_1 (dk_at dksX26_run_3 19 rfl rfl)
theorem dX26_run_90 : decode cX26_run 90 = .ok (.areturn, 1) := dk_176 (dk_at dksX26_run_3 20 rfl rfl)
abbrev cX26_worked : ByteArray := prog_15_method_3_code
def yX26_worked : MethodName := ⟨RX26, "worked", "(LBasicMachine;LBasicMachine$Matrix;LBasicMachine$Matrix;D)LBasicMachine$Matrix;"⟩
def dkwX26_worked_9 : List UInt8 := [132, 8, 1, 167, 255, 201, 25, 7, 176]
abbrev dktX26_worked_9 : List UInt8 := dkwX26_worked_9 ++ []
def dkwX26_worked_8 : List UInt8 := [21, 8, 50, 21, 9, 42, 44, 45, 24, 4, 21, 8, 21, 9, 182, 0, 75, 82, 132, 9, 1, 167, 255, 220]
abbrev dktX26_worked_8 : List UInt8 := dkwX26_worked_8 ++ dktX26_worked_9
def dkwX26_worked_7 : List UInt8 := [180, 0, 56, 162, 0, 51, 3, 54, 9, 21, 9, 25, 7, 180, 0, 51, 162, 0, 32, 25, 7, 180, 0, 71]
abbrev dktX26_worked_7 : List UInt8 := dkwX26_worked_7 ++ dktX26_worked_8
def dkwX26_worked_6 : List UInt8 := [45, 180, 0, 51, 167, 0, 7, 44, 180, 0, 51, 182, 0, 67, 58, 7, 3, 54, 8, 21, 8, 25, 7]
abbrev dktX26_worked_6 : List UInt8 := dkwX26_worked_6 ++ dktX26_worked_7
def dkwX26_worked_5 : List UInt8 := [180, 0, 13, 16, 84, 160, 0, 10, 44, 180, 0, 56, 167, 0, 23, 42, 180, 0, 13, 16, 42, 160, 0, 10]
abbrev dktX26_worked_5 : List UInt8 := dkwX26_worked_5 ++ dktX26_worked_6
def dkwX26_worked_4 : List UInt8 := [180, 0, 47, 42, 180, 0, 13, 16, 84, 160, 0, 10, 44, 180, 0, 51, 167, 0, 7, 44, 180, 0, 56, 42]
abbrev dktX26_worked_4 : List UInt8 := dkwX26_worked_4 ++ dktX26_worked_5
def dkwX26_worked_3 : List UInt8 := [183, 0, 65, 191, 43, 180, 0, 47, 199, 0, 14, 43, 187, 0, 52, 89, 183, 0, 66, 181, 0, 47, 43]
abbrev dktX26_worked_3 : List UInt8 := dkwX26_worked_3 ++ dktX26_worked_4
def dkwX26_worked_2 : List UInt8 := [4, 167, 0, 12, 3, 167, 0, 8, 44, 45, 182, 0, 59, 54, 6, 21, 6, 154, 0, 11, 187, 0, 63, 89]
abbrev dktX26_worked_2 : List UInt8 := dkwX26_worked_2 ++ dktX26_worked_3
def dkwX26_worked_1 : List UInt8 := [3, 167, 0, 36, 42, 180, 0, 13, 16, 73, 160, 0, 22, 44, 180, 0, 56, 44, 180, 0, 51, 160, 0, 7]
abbrev dktX26_worked_1 : List UInt8 := dkwX26_worked_1 ++ dktX26_worked_2
def dkwX26_worked_0 : List UInt8 := [42, 180, 0, 13, 16, 42, 160, 0, 22, 44, 180, 0, 51, 45, 180, 0, 56, 160, 0, 7, 4, 167, 0, 40]
abbrev dktX26_worked_0 : List UInt8 := dkwX26_worked_0 ++ dktX26_worked_1
theorem dksX26_worked_0 : cX26_worked.data.toList.drop 0 = dktX26_worked_0 := by decide +kernel
theorem dksX26_worked_1 : cX26_worked.data.toList.drop 24 = dktX26_worked_1 := dk_seg dksX26_worked_0 24 rfl rfl
theorem dksX26_worked_2 : cX26_worked.data.toList.drop 48 = dktX26_worked_2 := dk_seg dksX26_worked_1 24 rfl rfl
theorem dksX26_worked_3 : cX26_worked.data.toList.drop 72 = dktX26_worked_3 := dk_seg dksX26_worked_2 24 rfl rfl
theorem dksX26_worked_4 : cX26_worked.data.toList.drop 95 = dktX26_worked_4 := dk_seg dksX26_worked_3 23 rfl rfl
theorem dksX26_worked_5 : cX26_worked.data.toList.drop 119 = dktX26_worked_5 := dk_seg dksX26_worked_4 24 rfl rfl
theorem dksX26_worked_6 : cX26_worked.data.toList.drop 143 = dktX26_worked_6 := dk_seg dksX26_worked_5 24 rfl rfl
theorem dksX26_worked_7 : cX26_worked.data.toList.drop 166 = dktX26_worked_7 := dk_seg dksX26_worked_6 23 rfl rfl
theorem dksX26_worked_8 : cX26_worked.data.toList.drop 190 = dktX26_worked_8 := dk_seg dksX26_worked_7 24 rfl rfl
theorem dksX26_worked_9 : cX26_worked.data.toList.drop 214 = dktX26_worked_9 := dk_seg dksX26_worked_8 24 rfl rfl
theorem dX26_worked_0 : decode cX26_worked 0 = .ok (.aload_n 0, 1) := dk_42 (dk_at dksX26_worked_0 0 rfl rfl)
theorem dX26_worked_1 : decode cX26_worked 1 = .ok (.getfield 13, 3) := dk_180 0 13 (dk_at dksX26_worked_0 1 rfl rfl)
theorem dX26_worked_4 : decode cX26_worked 4 = .ok (.bipush 42, 2) := dk_16 42 (dk_at dksX26_worked_0 4 rfl rfl)
theorem dX26_worked_6 : decode cX26_worked 6 = .ok (.if_icmp .ne 22, 3) := dk_160 0 22 (dk_at dksX26_worked_0 6 rfl rfl)
theorem dX26_worked_9 : decode cX26_worked 9 = .ok (.aload_n 2, 1) := dk_44 (dk_at dksX26_worked_0 9 rfl rfl)
theorem dX26_worked_10 : decode cX26_worked 10 = .ok (.getfield 51, 3) := dk_180 0 51 (dk_at dksX26_worked_0 10 rfl rfl)
theorem dX26_worked_13 : decode cX26_worked 13 = .ok (.aload_n 3, 1) := dk_45 (dk_at dksX26_worked_0 13 rfl rfl)
theorem dX26_worked_14 : decode cX26_worked 14 = .ok (.getfield 56, 3) := dk_180 0 56 (dk_at dksX26_worked_0 14 rfl rfl)
theorem dX26_worked_17 : decode cX26_worked 17 = .ok (.if_icmp .ne 7, 3) := dk_160 0 7 (dk_at dksX26_worked_0 17 rfl rfl)
theorem dX26_worked_20 : decode cX26_worked 20 = .ok (.iconst 1, 1) := dk_4 (dk_at dksX26_worked_0 20 rfl rfl)
theorem dX26_worked_21 : decode cX26_worked 21 = .ok (.goto 40, 3) := dk_167 0 40 (dk_at dksX26_worked_0 21 rfl rfl)
theorem dX26_worked_24 : decode cX26_worked 24 = .ok (.iconst 0, 1) := dk_3 (dk_at dksX26_worked_1 0 rfl rfl)
theorem dX26_worked_25 : decode cX26_worked 25 = .ok (.goto 36, 3) := dk_167 0 36 (dk_at dksX26_worked_1 1 rfl rfl)
theorem dX26_worked_28 : decode cX26_worked 28 = .ok (.aload_n 0, 1) := dk_42 (dk_at dksX26_worked_1 4 rfl rfl)
theorem dX26_worked_29 : decode cX26_worked 29 = .ok (.getfield 13, 3) := dk_180 0 13 (dk_at dksX26_worked_1 5 rfl rfl)
theorem dX26_worked_32 : decode cX26_worked 32 = .ok (.bipush 73, 2) := dk_16 73 (dk_at dksX26_worked_1 8 rfl rfl)
theorem dX26_worked_34 : decode cX26_worked 34 = .ok (.if_icmp .ne 22, 3) := dk_160 0 22 (dk_at dksX26_worked_1 10 rfl rfl)
theorem dX26_worked_37 : decode cX26_worked 37 = .ok (.aload_n 2, 1) := dk_44 (dk_at dksX26_worked_1 13 rfl rfl)
theorem dX26_worked_38 : decode cX26_worked 38 = .ok (.getfield 56, 3) := dk_180 0 56 (dk_at dksX26_worked_1 14 rfl rfl)
theorem dX26_worked_41 : decode cX26_worked 41 = .ok (.aload_n 2, 1) := dk_44 (dk_at dksX26_worked_1 17 rfl rfl)
theorem dX26_worked_42 : decode cX26_worked 42 = .ok (.getfield 51, 3) := dk_180 0 51 (dk_at dksX26_worked_1 18 rfl rfl)
theorem dX26_worked_45 : decode cX26_worked 45 = .ok (.if_icmp .ne 7, 3) := dk_160 0 7 (dk_at dksX26_worked_1 21 rfl rfl)
theorem dX26_worked_48 : decode cX26_worked 48 = .ok (.iconst 1, 1) := dk_4 (dk_at dksX26_worked_2 0 rfl rfl)
theorem dX26_worked_49 : decode cX26_worked 49 = .ok (.goto 12, 3) := dk_167 0 12 (dk_at dksX26_worked_2 1 rfl rfl)
theorem dX26_worked_52 : decode cX26_worked 52 = .ok (.iconst 0, 1) := dk_3 (dk_at dksX26_worked_2 4 rfl rfl)
theorem dX26_worked_53 : decode cX26_worked 53 = .ok (.goto 8, 3) := dk_167 0 8 (dk_at dksX26_worked_2 5 rfl rfl)
theorem dX26_worked_56 : decode cX26_worked 56 = .ok (.aload_n 2, 1) := dk_44 (dk_at dksX26_worked_2 8 rfl rfl)
theorem dX26_worked_57 : decode cX26_worked 57 = .ok (.aload_n 3, 1) := dk_45 (dk_at dksX26_worked_2 9 rfl rfl)
theorem dX26_worked_58 : decode cX26_worked 58 = .ok (.invokevirtual 59, 3) := dk_182 0 59 (dk_at dksX26_worked_2 10 rfl rfl)
theorem dX26_worked_61 : decode cX26_worked 61 = .ok (.istore 6, 2) := dk_54 6 (dk_at dksX26_worked_2 13 rfl rfl)
theorem dX26_worked_63 : decode cX26_worked 63 = .ok (.iload 6, 2) := dk_21 6 (dk_at dksX26_worked_2 15 rfl rfl)
theorem dX26_worked_65 : decode cX26_worked 65 = .ok (.ifCond .ne 11, 3) := dk_154 0 11 (dk_at dksX26_worked_2 17 rfl rfl)
theorem dX26_worked_68 : decode cX26_worked 68 = .ok (.new 63, 3) := dk_187 0 63 (dk_at dksX26_worked_2 20 rfl rfl)
theorem dX26_worked_71 : decode cX26_worked 71 = .ok (.dup, 1) := dk_89 (dk_at dksX26_worked_2 23 rfl rfl)
theorem dX26_worked_72 : decode cX26_worked 72 = .ok (.invokespecial 65, 3) := dk_183 0 65 (dk_at dksX26_worked_3 0 rfl rfl)
theorem dX26_worked_75 : decode cX26_worked 75 = .ok (.athrow, 1) := dk_191 (dk_at dksX26_worked_3 3 rfl rfl)
theorem dX26_worked_76 : decode cX26_worked 76 = .ok (.aload_n 1, 1) := dk_43 (dk_at dksX26_worked_3 4 rfl rfl)
theorem dX26_worked_77 : decode cX26_worked 77 = .ok (.getfield 47, 3) := dk_180 0 47 (dk_at dksX26_worked_3 5 rfl rfl)
theorem dX26_worked_80 : decode cX26_worked 80 = .ok (.ifnonnull 14, 3) := dk_199 0 14 (dk_at dksX26_worked_3 8 rfl rfl)
theorem dX26_worked_83 : decode cX26_worked 83 = .ok (.aload_n 1, 1) := dk_43 (dk_at dksX26_worked_3 11 rfl rfl)
theorem dX26_worked_84 : decode cX26_worked 84 = .ok (.new 52, 3) := dk_187 0 52 (dk_at dksX26_worked_3 12 rfl rfl)
theorem dX26_worked_87 : decode cX26_worked 87 = .ok (.dup, 1) := dk_89 (dk_at dksX26_worked_3 15 rfl rfl)
theorem dX26_worked_88 : decode cX26_worked 88 = .ok (.invokespecial 66, 3) := dk_183 0 66 (dk_at dksX26_worked_3 16 rfl rfl)
theorem dX26_worked_91 : decode cX26_worked 91 = .ok (.putfield 47, 3) := dk_181 0 47 (dk_at dksX26_worked_3 19 rfl rfl)
theorem dX26_worked_94 : decode cX26_worked 94 = .ok (.aload_n 1, 1) := dk_43 (dk_at dksX26_worked_3 22 rfl rfl)
theorem dX26_worked_95 : decode cX26_worked 95 = .ok (.getfield 47, 3) := dk_180 0 47 (dk_at dksX26_worked_4 0 rfl rfl)
theorem dX26_worked_98 : decode cX26_worked 98 = .ok (.aload_n 0, 1) := dk_42 (dk_at dksX26_worked_4 3 rfl rfl)
theorem dX26_worked_99 : decode cX26_worked 99 = .ok (.getfield 13, 3) := dk_180 0 13 (dk_at dksX26_worked_4 4 rfl rfl)
theorem dX26_worked_102 : decode cX26_worked 102 = .ok (.bipush 84, 2) := dk_16 84 (dk_at dksX26_worked_4 7 rfl rfl)
theorem dX26_worked_104 : decode cX26_worked 104 = .ok (.if_icmp .ne 10, 3) := dk_160 0 10 (dk_at dksX26_worked_4 9 rfl rfl)
theorem dX26_worked_107 : decode cX26_worked 107 = .ok (.aload_n 2, 1) := dk_44 (dk_at dksX26_worked_4 12 rfl rfl)
theorem dX26_worked_108 : decode cX26_worked 108 = .ok (.getfield 51, 3) := dk_180 0 51 (dk_at dksX26_worked_4 13 rfl rfl)
theorem dX26_worked_111 : decode cX26_worked 111 = .ok (.goto 7, 3) := dk_167 0 7 (dk_at dksX26_worked_4 16 rfl rfl)
theorem dX26_worked_114 : decode cX26_worked 114 = .ok (.aload_n 2, 1) := dk_44 (dk_at dksX26_worked_4 19 rfl rfl)
theorem dX26_worked_115 : decode cX26_worked 115 = .ok (.getfield 56, 3) := dk_180 0 56 (dk_at dksX26_worked_4 20 rfl rfl)
theorem dX26_worked_118 : decode cX26_worked 118 = .ok (.aload_n 0, 1) := dk_42 (dk_at dksX26_worked_4 23 rfl rfl)
theorem dX26_worked_119 : decode cX26_worked 119 = .ok (.getfield 13, 3) := dk_180 0 13 (dk_at dksX26_worked_5 0 rfl rfl)
theorem dX26_worked_122 : decode cX26_worked 122 = .ok (.bipush 84, 2) := dk_16 84 (dk_at dksX26_worked_5 3 rfl rfl)
theorem dX26_worked_124 : decode cX26_worked 124 = .ok (.if_icmp .ne 10, 3) := dk_160 0 10 (dk_at dksX26_worked_5 5 rfl rfl)
theorem dX26_worked_127 : decode cX26_worked 127 = .ok (.aload_n 2, 1) := dk_44 (dk_at dksX26_worked_5 8 rfl rfl)
theorem dX26_worked_128 : decode cX26_worked 128 = .ok (.getfield 56, 3) := dk_180 0 56 (dk_at dksX26_worked_5 9 rfl rfl)
theorem dX26_worked_131 : decode cX26_worked 131 = .ok (.goto 23, 3) := dk_167 0 23 (dk_at dksX26_worked_5 12 rfl rfl)
theorem dX26_worked_134 : decode cX26_worked 134 = .ok (.aload_n 0, 1) := dk_42 (dk_at dksX26_worked_5 15 rfl rfl)
theorem dX26_worked_135 : decode cX26_worked 135 = .ok (.getfield 13, 3) := dk_180 0 13 (dk_at dksX26_worked_5 16 rfl rfl)
theorem dX26_worked_138 : decode cX26_worked 138 = .ok (.bipush 42, 2) := dk_16 42 (dk_at dksX26_worked_5 19 rfl rfl)
theorem dX26_worked_140 : decode cX26_worked 140 = .ok (.if_icmp .ne 10, 3) := dk_160 0 10 (dk_at dksX26_worked_5 21 rfl rfl)
theorem dX26_worked_143 : decode cX26_worked 143 = .ok (.aload_n 3, 1) := dk_45 (dk_at dksX26_worked_6 0 rfl rfl)
theorem dX26_worked_144 : decode cX26_worked 144 = .ok (.getfield 51, 3) := dk_180 0 51 (dk_at dksX26_worked_6 1 rfl rfl)
theorem dX26_worked_147 : decode cX26_worked 147 = .ok (.goto 7, 3) := dk_167 0 7 (dk_at dksX26_worked_6 4 rfl rfl)
theorem dX26_worked_150 : decode cX26_worked 150 = .ok (.aload_n 2, 1) := dk_44 (dk_at dksX26_worked_6 7 rfl rfl)
theorem dX26_worked_151 : decode cX26_worked 151 = .ok (.getfield 51, 3) := dk_180 0 51 (dk_at dksX26_worked_6 8 rfl rfl)
theorem dX26_worked_154 : decode cX26_worked 154 = .ok (.invokevirtual 67, 3) := dk_182 0 67 (dk_at dksX26_worked_6 11 rfl rfl)
theorem dX26_worked_157 : decode cX26_worked 157 = .ok (.astore 7, 2) := dk_58 7 (dk_at dksX26_worked_6 14 rfl rfl)
theorem dX26_worked_159 : decode cX26_worked 159 = .ok (.iconst 0, 1) := dk_3 (dk_at dksX26_worked_6 16 rfl rfl)
theorem dX26_worked_160 : decode cX26_worked 160 = .ok (.istore 8, 2) := dk_54 8 (dk_at dksX26_worked_6 17 rfl rfl)
theorem dX26_worked_162 : decode cX26_worked 162 = .ok (.iload 8, 2) := dk_21 8 (dk_at dksX26_worked_6 19 rfl rfl)
theorem dX26_worked_164 : decode cX26_worked 164 = .ok (.aload 7, 2) := dk_25 7 (dk_at dksX26_worked_6 21 rfl rfl)
theorem dX26_worked_166 : decode cX26_worked 166 = .ok (.getfield 56, 3) := dk_180 0 56 (dk_at dksX26_worked_7 0 rfl rfl)
theorem dX26_worked_169 : decode cX26_worked 169 = .ok (.if_icmp .ge 51, 3) := dk_162 0 51 (dk_at dksX26_worked_7 3 rfl rfl)
theorem dX26_worked_172 : decode cX26_worked 172 = .ok (.iconst 0, 1) := dk_3 (dk_at dksX26_worked_7 6 rfl rfl)
theorem dX26_worked_173 : decode cX26_worked 173 = .ok (.istore 9, 2) := dk_54 9 (dk_at dksX26_worked_7 7 rfl rfl)
theorem dX26_worked_175 : decode cX26_worked 175 = .ok (.iload 9, 2) := dk_21 9 (dk_at dksX26_worked_7 9 rfl rfl)
theorem dX26_worked_177 : decode cX26_worked 177 = .ok (.aload 7, 2) := dk_25 7 (dk_at dksX26_worked_7 11 rfl rfl)
theorem dX26_worked_179 : decode cX26_worked 179 = .ok (.getfield 51, 3) := dk_180 0 51 (dk_at dksX26_worked_7 13 rfl rfl)
theorem dX26_worked_182 : decode cX26_worked 182 = .ok (.if_icmp .ge 32, 3) := dk_162 0 32 (dk_at dksX26_worked_7 16 rfl rfl)
theorem dX26_worked_185 : decode cX26_worked 185 = .ok (.aload 7, 2) := dk_25 7 (dk_at dksX26_worked_7 19 rfl rfl)
theorem dX26_worked_187 : decode cX26_worked 187 = .ok (.getfield 71, 3) := dk_180 0 71 (dk_at dksX26_worked_7 21 rfl rfl)
theorem dX26_worked_190 : decode cX26_worked 190 = .ok (.iload 8, 2) := dk_21 8 (dk_at dksX26_worked_8 0 rfl rfl)
theorem dX26_worked_192 : decode cX26_worked 192 = .ok (.aaload, 1) := dk_50 (dk_at dksX26_worked_8 2 rfl rfl)
theorem dX26_worked_193 : decode cX26_worked 193 = .ok (.iload 9, 2) := dk_21 9 (dk_at dksX26_worked_8 3 rfl rfl)
theorem dX26_worked_195 : decode cX26_worked 195 = .ok (.aload_n 0, 1) := dk_42 (dk_at dksX26_worked_8 5 rfl rfl)
theorem dX26_worked_196 : decode cX26_worked 196 = .ok (.aload_n 2, 1) := dk_44 (dk_at dksX26_worked_8 6 rfl rfl)
theorem dX26_worked_197 : decode cX26_worked 197 = .ok (.aload_n 3, 1) := dk_45 (dk_at dksX26_worked_8 7 rfl rfl)
theorem dX26_worked_198 : decode cX26_worked 198 = .ok (.dload 4, 2) := dk_24 4 (dk_at dksX26_worked_8 8 rfl rfl)
theorem dX26_worked_200 : decode cX26_worked 200 = .ok (.iload 8, 2) := dk_21 8 (dk_at dksX26_worked_8 10 rfl rfl)
theorem dX26_worked_202 : decode cX26_worked 202 = .ok (.iload 9, 2) := dk_21 9 (dk_at dksX26_worked_8 12 rfl rfl)
theorem dX26_worked_204 : decode cX26_worked 204 = .ok (.invokevirtual 75, 3) := dk_182 0 75 (dk_at dksX26_worked_8 14 rfl rfl)
theorem dX26_worked_207 : decode cX26_worked 207 = .ok (.dastore, 1) := dk_82 (dk_at dksX26_worked_8 17 rfl rfl)
theorem dX26_worked_208 : decode cX26_worked 208 = .ok (.iinc 9 1, 3) := dk_132 9 1 (dk_at dksX26_worked_8 18 rfl rfl)
theorem dX26_worked_211 : decode cX26_worked 211 = .ok (.goto (-36), 3) := dk_167 255 220 (dk_at dksX26_worked_8 21 rfl rfl)
theorem dX26_worked_214 : decode cX26_worked 214 = .ok (.iinc 8 1, 3) := dk_132 8 1 (dk_at dksX26_worked_9 0 rfl rfl)
theorem dX26_worked_217 : decode cX26_worked 217 = .ok (.goto (-55), 3) := dk_167 255 201 (dk_at dksX26_worked_9 3 rfl rfl)
theorem dX26_worked_220 : decode cX26_worked 220 = .ok (.aload 7, 2) := dk_25 7 (dk_at dksX26_worked_9 6 rfl rfl)
theorem dX26_worked_222 : decode cX26_worked 222 = .ok (.areturn, 1) := dk_176 (dk_at dksX26_worked_9 8 rfl rfl)
abbrev cX26_cell : ByteArray := prog_15_method_4_code
def yX26_cell : MethodName := ⟨RX26, "cell", "(LBasicMachine$Matrix;LBasicMachine$Matrix;DII)D"⟩
def dkwX26_cell_9 : List UInt8 := [184, 0, 79, 57, 7, 132, 9, 1, 167, 255, 212, 24, 7, 175]
abbrev dktX26_cell_9 : List UInt8 := dkwX26_cell_9 ++ []
def dkwX26_cell_8 : List UInt8 := [180, 0, 71, 21, 5, 50, 21, 9, 49, 44, 180, 0, 71, 21, 9, 50, 21, 6, 49, 107, 184, 0, 79, 99]
abbrev dktX26_cell_8 : List UInt8 := dkwX26_cell_8 ++ dktX26_cell_9
def dkwX26_cell_7 : List UInt8 := [21, 6, 49, 107, 184, 0, 79, 57, 7, 4, 54, 9, 21, 9, 43, 180, 0, 51, 162, 0, 41, 24, 7, 43]
abbrev dktX26_cell_7 : List UInt8 := dkwX26_cell_7 ++ dktX26_cell_8
def dkwX26_cell_6 : List UInt8 := [50, 21, 6, 49, 107, 184, 0, 79, 175, 43, 180, 0, 71, 21, 5, 50, 3, 49, 44, 180, 0, 71, 3, 50]
abbrev dktX26_cell_6 : List UInt8 := dkwX26_cell_6 ++ dktX26_cell_7
def dkwX26_cell_5 : List UInt8 := [49, 103, 184, 0, 79, 175, 43, 180, 0, 71, 21, 6, 50, 21, 5, 49, 175, 41, 43, 180, 0, 71, 21, 5]
abbrev dktX26_cell_5 : List UInt8 := dkwX26_cell_5 ++ dktX26_cell_6
def dkwX26_cell_4 : List UInt8 := [99, 184, 0, 79, 175, 43, 180, 0, 71, 21, 5, 50, 21, 6, 49, 44, 180, 0, 71, 21, 5, 50, 21, 6]
abbrev dktX26_cell_4 : List UInt8 := dkwX26_cell_4 ++ dktX26_cell_5
def dkwX26_cell_3 : List UInt8 := [21, 6, 49, 175, 43, 180, 0, 71, 21, 5, 50, 21, 6, 49, 44, 180, 0, 71, 21, 5, 50, 21, 6, 49]
abbrev dktX26_cell_3 : List UInt8 := dkwX26_cell_3 ++ dktX26_cell_4
def dkwX26_cell_2 : List UInt8 := [14, 175, 15, 175, 21, 5, 21, 6, 160, 0, 7, 15, 167, 0, 4, 14, 175, 43, 180, 0, 71, 21, 5, 50]
abbrev dktX26_cell_2 : List UInt8 := dkwX26_cell_2 ++ dktX26_cell_3
def dkwX26_cell_1 : List UInt8 := [171, 0, 0, 0, 0, 0, 0, 181, 0, 0, 0, 8, 0, 0, 0, 43, 0, 0, 0, 104, 0, 0, 0, 45, 0, 0, 0, 129, 0, 0, 0, 61, 0, 0, 0, 93, 0, 0, 0, 67, 0, 0, 0, 78, 0, 0, 0, 73, 0, 0, 0, 80, 0, 0, 0, 83, 0, 0, 0, 165, 0, 0, 0, 84, 0, 0, 0, 154, 0, 0, 0, 90, 0, 0, 0, 76]
abbrev dktX26_cell_1 : List UInt8 := dkwX26_cell_1 ++ dktX26_cell_2
def dkwX26_cell_0 : List UInt8 := [42, 180, 0, 13]
abbrev dktX26_cell_0 : List UInt8 := dkwX26_cell_0 ++ dktX26_cell_1
theorem dksX26_cell_0 : cX26_cell.data.toList.drop 0 = dktX26_cell_0 := by decide +kernel
theorem dksX26_cell_1 : cX26_cell.data.toList.drop 4 = dktX26_cell_1 := dk_seg dksX26_cell_0 4 rfl rfl
theorem dksX26_cell_2 : cX26_cell.data.toList.drop 80 = dktX26_cell_2 := dk_seg dksX26_cell_1 76 rfl rfl
theorem dksX26_cell_3 : cX26_cell.data.toList.drop 104 = dktX26_cell_3 := dk_seg dksX26_cell_2 24 rfl rfl
theorem dksX26_cell_4 : cX26_cell.data.toList.drop 128 = dktX26_cell_4 := dk_seg dksX26_cell_3 24 rfl rfl
theorem dksX26_cell_5 : cX26_cell.data.toList.drop 152 = dktX26_cell_5 := dk_seg dksX26_cell_4 24 rfl rfl
theorem dksX26_cell_6 : cX26_cell.data.toList.drop 176 = dktX26_cell_6 := dk_seg dksX26_cell_5 24 rfl rfl
theorem dksX26_cell_7 : cX26_cell.data.toList.drop 200 = dktX26_cell_7 := dk_seg dksX26_cell_6 24 rfl rfl
theorem dksX26_cell_8 : cX26_cell.data.toList.drop 224 = dktX26_cell_8 := dk_seg dksX26_cell_7 24 rfl rfl
theorem dksX26_cell_9 : cX26_cell.data.toList.drop 248 = dktX26_cell_9 := dk_seg dksX26_cell_8 24 rfl rfl
theorem dX26_cell_0 : decode cX26_cell 0 = .ok (.aload_n 0, 1) := dk_42 (dk_at dksX26_cell_0 0 rfl rfl)
theorem dX26_cell_1 : decode cX26_cell 1 = .ok (.getfield 13, 3) := dk_180 0 13 (dk_at dksX26_cell_0 1 rfl rfl)
theorem dX26_cell_4 : decode cX26_cell 4 = .ok (.lookupswitch 181 #[(43, 104), (45, 129), (61, 93), (67, 78), (73, 80), (83, 165), (84, 154), (90, 76)], 76) := by decide +kernel
theorem dX26_cell_80 : decode cX26_cell 80 = .ok (.dconst 0, 1) := dk_14 (dk_at dksX26_cell_2 0 rfl rfl)
theorem dX26_cell_81 : decode cX26_cell 81 = .ok (.dreturn, 1) := dk_175 (dk_at dksX26_cell_2 1 rfl rfl)
theorem dX26_cell_82 : decode cX26_cell 82 = .ok (.dconst 1, 1) := dk_15 (dk_at dksX26_cell_2 2 rfl rfl)
theorem dX26_cell_83 : decode cX26_cell 83 = .ok (.dreturn, 1) := dk_175 (dk_at dksX26_cell_2 3 rfl rfl)
theorem dX26_cell_84 : decode cX26_cell 84 = .ok (.iload 5, 2) := dk_21 5 (dk_at dksX26_cell_2 4 rfl rfl)
theorem dX26_cell_86 : decode cX26_cell 86 = .ok (.iload 6, 2) := dk_21 6 (dk_at dksX26_cell_2 6 rfl rfl)
theorem dX26_cell_88 : decode cX26_cell 88 = .ok (.if_icmp .ne 7, 3) := dk_160 0 7 (dk_at dksX26_cell_2 8 rfl rfl)
theorem dX26_cell_91 : decode cX26_cell 91 = .ok (.dconst 1, 1) := dk_15 (dk_at dksX26_cell_2 11 rfl rfl)
theorem dX26_cell_92 : decode cX26_cell 92 = .ok (.goto 4, 3) := dk_167 0 4 (dk_at dksX26_cell_2 12 rfl rfl)
theorem dX26_cell_95 : decode cX26_cell 95 = .ok (.dconst 0, 1) := dk_14 (dk_at dksX26_cell_2 15 rfl rfl)
theorem dX26_cell_96 : decode cX26_cell 96 = .ok (.dreturn, 1) := dk_175 (dk_at dksX26_cell_2 16 rfl rfl)
theorem dX26_cell_97 : decode cX26_cell 97 = .ok (.aload_n 1, 1) := dk_43 (dk_at dksX26_cell_2 17 rfl rfl)
theorem dX26_cell_98 : decode cX26_cell 98 = .ok (.getfield 71, 3) := dk_180 0 71 (dk_at dksX26_cell_2 18 rfl rfl)
theorem dX26_cell_101 : decode cX26_cell 101 = .ok (.iload 5, 2) := dk_21 5 (dk_at dksX26_cell_2 21 rfl rfl)
theorem dX26_cell_103 : decode cX26_cell 103 = .ok (.aaload, 1) := dk_50 (dk_at dksX26_cell_2 23 rfl rfl)
theorem dX26_cell_104 : decode cX26_cell 104 = .ok (.iload 6, 2) := dk_21 6 (dk_at dksX26_cell_3 0 rfl rfl)
theorem dX26_cell_106 : decode cX26_cell 106 = .ok (.daload, 1) := dk_49 (dk_at dksX26_cell_3 2 rfl rfl)
theorem dX26_cell_107 : decode cX26_cell 107 = .ok (.dreturn, 1) := dk_175 (dk_at dksX26_cell_3 3 rfl rfl)
theorem dX26_cell_108 : decode cX26_cell 108 = .ok (.aload_n 1, 1) := dk_43 (dk_at dksX26_cell_3 4 rfl rfl)
theorem dX26_cell_109 : decode cX26_cell 109 = .ok (.getfield 71, 3) := dk_180 0 71 (dk_at dksX26_cell_3 5 rfl rfl)
theorem dX26_cell_112 : decode cX26_cell 112 = .ok (.iload 5, 2) := dk_21 5 (dk_at dksX26_cell_3 8 rfl rfl)
theorem dX26_cell_114 : decode cX26_cell 114 = .ok (.aaload, 1) := dk_50 (dk_at dksX26_cell_3 10 rfl rfl)
theorem dX26_cell_115 : decode cX26_cell 115 = .ok (.iload 6, 2) := dk_21 6 (dk_at dksX26_cell_3 11 rfl rfl)
theorem dX26_cell_117 : decode cX26_cell 117 = .ok (.daload, 1) := dk_49 (dk_at dksX26_cell_3 13 rfl rfl)
theorem dX26_cell_118 : decode cX26_cell 118 = .ok (.aload_n 2, 1) := dk_44 (dk_at dksX26_cell_3 14 rfl rfl)
theorem dX26_cell_119 : decode cX26_cell 119 = .ok (.getfield 71, 3) := dk_180 0 71 (dk_at dksX26_cell_3 15 rfl rfl)
theorem dX26_cell_122 : decode cX26_cell 122 = .ok (.iload 5, 2) := dk_21 5 (dk_at dksX26_cell_3 18 rfl rfl)
theorem dX26_cell_124 : decode cX26_cell 124 = .ok (.aaload, 1) := dk_50 (dk_at dksX26_cell_3 20 rfl rfl)
theorem dX26_cell_125 : decode cX26_cell 125 = .ok (.iload 6, 2) := dk_21 6 (dk_at dksX26_cell_3 21 rfl rfl)
theorem dX26_cell_127 : decode cX26_cell 127 = .ok (.daload, 1) := dk_49 (dk_at dksX26_cell_3 23 rfl rfl)
theorem dX26_cell_128 : decode cX26_cell 128 = .ok (.dadd, 1) := dk_99 (dk_at dksX26_cell_4 0 rfl rfl)
theorem dX26_cell_129 : decode cX26_cell 129 = .ok (.invokestatic 79, 3) := dk_184 0 79 (dk_at dksX26_cell_4 1 rfl rfl)
theorem dX26_cell_132 : decode cX26_cell 132 = .ok (.dreturn, 1) := dk_175 (dk_at dksX26_cell_4 4 rfl rfl)
theorem dX26_cell_133 : decode cX26_cell 133 = .ok (.aload_n 1, 1) := dk_43 (dk_at dksX26_cell_4 5 rfl rfl)
theorem dX26_cell_134 : decode cX26_cell 134 = .ok (.getfield 71, 3) := dk_180 0 71 (dk_at dksX26_cell_4 6 rfl rfl)
theorem dX26_cell_137 : decode cX26_cell 137 = .ok (.iload 5, 2) := dk_21 5 (dk_at dksX26_cell_4 9 rfl rfl)
theorem dX26_cell_139 : decode cX26_cell 139 = .ok (.aaload, 1) := dk_50 (dk_at dksX26_cell_4 11 rfl rfl)
theorem dX26_cell_140 : decode cX26_cell 140 = .ok (.iload 6, 2) := dk_21 6 (dk_at dksX26_cell_4 12 rfl rfl)
theorem dX26_cell_142 : decode cX26_cell 142 = .ok (.daload, 1) := dk_49 (dk_at dksX26_cell_4 14 rfl rfl)
theorem dX26_cell_143 : decode cX26_cell 143 = .ok (.aload_n 2, 1) := dk_44 (dk_at dksX26_cell_4 15 rfl rfl)
theorem dX26_cell_144 : decode cX26_cell 144 = .ok (.getfield 71, 3) := dk_180 0 71 (dk_at dksX26_cell_4 16 rfl rfl)
theorem dX26_cell_147 : decode cX26_cell 147 = .ok (.iload 5, 2) := dk_21 5 (dk_at dksX26_cell_4 19 rfl rfl)
theorem dX26_cell_149 : decode cX26_cell 149 = .ok (.aaload, 1) := dk_50 (dk_at dksX26_cell_4 21 rfl rfl)
theorem dX26_cell_150 : decode cX26_cell 150 = .ok (.iload 6, 2) := dk_21 6 (dk_at dksX26_cell_4 22 rfl rfl)
theorem dX26_cell_152 : decode cX26_cell 152 = .ok (.daload, 1) := dk_49 (dk_at dksX26_cell_5 0 rfl rfl)
theorem dX26_cell_153 : decode cX26_cell 153 = .ok (.dsub, 1) := dk_103 (dk_at dksX26_cell_5 1 rfl rfl)
theorem dX26_cell_154 : decode cX26_cell 154 = .ok (.invokestatic 79, 3) := dk_184 0 79 (dk_at dksX26_cell_5 2 rfl rfl)
theorem dX26_cell_157 : decode cX26_cell 157 = .ok (.dreturn, 1) := dk_175 (dk_at dksX26_cell_5 5 rfl rfl)
theorem dX26_cell_158 : decode cX26_cell 158 = .ok (.aload_n 1, 1) := dk_43 (dk_at dksX26_cell_5 6 rfl rfl)
theorem dX26_cell_159 : decode cX26_cell 159 = .ok (.getfield 71, 3) := dk_180 0 71 (dk_at dksX26_cell_5 7 rfl rfl)
theorem dX26_cell_162 : decode cX26_cell 162 = .ok (.iload 6, 2) := dk_21 6 (dk_at dksX26_cell_5 10 rfl rfl)
theorem dX26_cell_164 : decode cX26_cell 164 = .ok (.aaload, 1) := dk_50 (dk_at dksX26_cell_5 12 rfl rfl)
theorem dX26_cell_165 : decode cX26_cell 165 = .ok (.iload 5, 2) := dk_21 5 (dk_at dksX26_cell_5 13 rfl rfl)
theorem dX26_cell_167 : decode cX26_cell 167 = .ok (.daload, 1) := dk_49 (dk_at dksX26_cell_5 15 rfl rfl)
theorem dX26_cell_168 : decode cX26_cell 168 = .ok (.dreturn, 1) := dk_175 (dk_at dksX26_cell_5 16 rfl rfl)
theorem dX26_cell_169 : decode cX26_cell 169 = .ok (.dload_n 3, 1) := dk_41 (dk_at dksX26_cell_5 17 rfl rfl)
theorem dX26_cell_170 : decode cX26_cell 170 = .ok (.aload_n 1, 1) := dk_43 (dk_at dksX26_cell_5 18 rfl rfl)
theorem dX26_cell_171 : decode cX26_cell 171 = .ok (.getfield 71, 3) := dk_180 0 71 (dk_at dksX26_cell_5 19 rfl rfl)
theorem dX26_cell_174 : decode cX26_cell 174 = .ok (.iload 5, 2) := dk_21 5 (dk_at dksX26_cell_5 22 rfl rfl)
theorem dX26_cell_176 : decode cX26_cell 176 = .ok (.aaload, 1) := dk_50 (dk_at dksX26_cell_6 0 rfl rfl)
theorem dX26_cell_177 : decode cX26_cell 177 = .ok (.iload 6, 2) := dk_21 6 (dk_at dksX26_cell_6 1 rfl rfl)
theorem dX26_cell_179 : decode cX26_cell 179 = .ok (.daload, 1) := dk_49 (dk_at dksX26_cell_6 3 rfl rfl)
theorem dX26_cell_180 : decode cX26_cell 180 = .ok (.dmul, 1) := dk_107 (dk_at dksX26_cell_6 4 rfl rfl)
theorem dX26_cell_181 : decode cX26_cell 181 = .ok (.invokestatic 79, 3) := dk_184 0 79 (dk_at dksX26_cell_6 5 rfl rfl)
theorem dX26_cell_184 : decode cX26_cell 184 = .ok (.dreturn, 1) := dk_175 (dk_at dksX26_cell_6 8 rfl rfl)
theorem dX26_cell_185 : decode cX26_cell 185 = .ok (.aload_n 1, 1) := dk_43 (dk_at dksX26_cell_6 9 rfl rfl)
theorem dX26_cell_186 : decode cX26_cell 186 = .ok (.getfield 71, 3) := dk_180 0 71 (dk_at dksX26_cell_6 10 rfl rfl)
theorem dX26_cell_189 : decode cX26_cell 189 = .ok (.iload 5, 2) := dk_21 5 (dk_at dksX26_cell_6 13 rfl rfl)
theorem dX26_cell_191 : decode cX26_cell 191 = .ok (.aaload, 1) := dk_50 (dk_at dksX26_cell_6 15 rfl rfl)
theorem dX26_cell_192 : decode cX26_cell 192 = .ok (.iconst 0, 1) := dk_3 (dk_at dksX26_cell_6 16 rfl rfl)
theorem dX26_cell_193 : decode cX26_cell 193 = .ok (.daload, 1) := dk_49 (dk_at dksX26_cell_6 17 rfl rfl)
theorem dX26_cell_194 : decode cX26_cell 194 = .ok (.aload_n 2, 1) := dk_44 (dk_at dksX26_cell_6 18 rfl rfl)
theorem dX26_cell_195 : decode cX26_cell 195 = .ok (.getfield 71, 3) := dk_180 0 71 (dk_at dksX26_cell_6 19 rfl rfl)
theorem dX26_cell_198 : decode cX26_cell 198 = .ok (.iconst 0, 1) := dk_3 (dk_at dksX26_cell_6 22 rfl rfl)
theorem dX26_cell_199 : decode cX26_cell 199 = .ok (.aaload, 1) := dk_50 (dk_at dksX26_cell_6 23 rfl rfl)
theorem dX26_cell_200 : decode cX26_cell 200 = .ok (.iload 6, 2) := dk_21 6 (dk_at dksX26_cell_7 0 rfl rfl)
theorem dX26_cell_202 : decode cX26_cell 202 = .ok (.daload, 1) := dk_49 (dk_at dksX26_cell_7 2 rfl rfl)
theorem dX26_cell_203 : decode cX26_cell 203 = .ok (.dmul, 1) := dk_107 (dk_at dksX26_cell_7 3 rfl rfl)
theorem dX26_cell_204 : decode cX26_cell 204 = .ok (.invokestatic 79, 3) := dk_184 0 79 (dk_at dksX26_cell_7 4 rfl rfl)
theorem dX26_cell_207 : decode cX26_cell 207 = .ok (.dstore 7, 2) := dk_57 7 (dk_at dksX26_cell_7 7 rfl rfl)
theorem dX26_cell_209 : decode cX26_cell 209 = .ok (.iconst 1, 1) := dk_4 (dk_at dksX26_cell_7 9 rfl rfl)
theorem dX26_cell_210 : decode cX26_cell 210 = .ok (.istore 9, 2) := dk_54 9 (dk_at dksX26_cell_7 10 rfl rfl)
theorem dX26_cell_212 : decode cX26_cell 212 = .ok (.iload 9, 2) := dk_21 9 (dk_at dksX26_cell_7 12 rfl rfl)
theorem dX26_cell_214 : decode cX26_cell 214 = .ok (.aload_n 1, 1) := dk_43 (dk_at dksX26_cell_7 14 rfl rfl)
theorem dX26_cell_215 : decode cX26_cell 215 = .ok (.getfield 51, 3) := dk_180 0 51 (dk_at dksX26_cell_7 15 rfl rfl)
theorem dX26_cell_218 : decode cX26_cell 218 = .ok (.if_icmp .ge 41, 3) := dk_162 0 41 (dk_at dksX26_cell_7 18 rfl rfl)
theorem dX26_cell_221 : decode cX26_cell 221 = .ok (.dload 7, 2) := dk_24 7 (dk_at dksX26_cell_7 21 rfl rfl)
theorem dX26_cell_223 : decode cX26_cell 223 = .ok (.aload_n 1, 1) := dk_43 (dk_at dksX26_cell_7 23 rfl rfl)
theorem dX26_cell_224 : decode cX26_cell 224 = .ok (.getfield 71, 3) := dk_180 0 71 (dk_at dksX26_cell_8 0 rfl rfl)
theorem dX26_cell_227 : decode cX26_cell 227 = .ok (.iload 5, 2) := dk_21 5 (dk_at dksX26_cell_8 3 rfl rfl)
theorem dX26_cell_229 : decode cX26_cell 229 = .ok (.aaload, 1) := dk_50 (dk_at dksX26_cell_8 5 rfl rfl)
theorem dX26_cell_230 : decode cX26_cell 230 = .ok (.iload 9, 2) := dk_21 9 (dk_at dksX26_cell_8 6 rfl rfl)
theorem dX26_cell_232 : decode cX26_cell 232 = .ok (.daload, 1) := dk_49 (dk_at dksX26_cell_8 8 rfl rfl)
theorem dX26_cell_233 : decode cX26_cell 233 = .ok (.aload_n 2, 1) := dk_44 (dk_at dksX26_cell_8 9 rfl rfl)
theorem dX26_cell_234 : decode cX26_cell 234 = .ok (.getfield 71, 3) := dk_180 0 71 (dk_at dksX26_cell_8 10 rfl rfl)
theorem dX26_cell_237 : decode cX26_cell 237 = .ok (.iload 9, 2) := dk_21 9 (dk_at dksX26_cell_8 13 rfl rfl)
theorem dX26_cell_239 : decode cX26_cell 239 = .ok (.aaload, 1) := dk_50 (dk_at dksX26_cell_8 15 rfl rfl)
theorem dX26_cell_240 : decode cX26_cell 240 = .ok (.iload 6, 2) := dk_21 6 (dk_at dksX26_cell_8 16 rfl rfl)
theorem dX26_cell_242 : decode cX26_cell 242 = .ok (.daload, 1) := dk_49 (dk_at dksX26_cell_8 18 rfl rfl)
theorem dX26_cell_243 : decode cX26_cell 243 = .ok (.dmul, 1) := dk_107 (dk_at dksX26_cell_8 19 rfl rfl)
theorem dX26_cell_244 : decode cX26_cell 244 = .ok (.invokestatic 79, 3) := dk_184 0 79 (dk_at dksX26_cell_8 20 rfl rfl)
theorem dX26_cell_247 : decode cX26_cell 247 = .ok (.dadd, 1) := dk_99 (dk_at dksX26_cell_8 23 rfl rfl)
theorem dX26_cell_248 : decode cX26_cell 248 = .ok (.invokestatic 79, 3) := dk_184 0 79 (dk_at dksX26_cell_9 0 rfl rfl)
theorem dX26_cell_251 : decode cX26_cell 251 = .ok (.dstore 7, 2) := dk_57 7 (dk_at dksX26_cell_9 3 rfl rfl)
theorem dX26_cell_253 : decode cX26_cell 253 = .ok (.iinc 9 1, 3) := dk_132 9 1 (dk_at dksX26_cell_9 5 rfl rfl)
theorem dX26_cell_256 : decode cX26_cell 256 = .ok (.goto (-44), 3) := dk_167 255 212 (dk_at dksX26_cell_9 8 rfl rfl)
theorem dX26_cell_259 : decode cX26_cell 259 = .ok (.dload 7, 2) := dk_24 7 (dk_at dksX26_cell_9 11 rfl rfl)
theorem dX26_cell_261 : decode cX26_cell 261 = .ok (.dreturn, 1) := dk_175 (dk_at dksX26_cell_9 13 rfl rfl)
theorem q165 : (Jvm.Cond.initialized "BasicMachine$Mat") ∈ lw_all := lw_g (lw_at lw_m1 44 rfl) rfl
theorem q202 : (Jvm.Cond.fieldLinkNest "BasicMachine$Mat" (43 : Nat) "BasicMachine" "matrices" "[LBasicMachine$Matrix;" "BasicMachine") ∈ lw_tbl := lw_at lw_m1 81 rfl
theorem q205 : (Jvm.Cond.fieldLinkNest "BasicMachine$Mat" (47 : Nat) "BasicMachine" "spare" "LBasicMachine$Matrix;" "BasicMachine") ∈ lw_tbl := lw_at lw_m1 84 rfl
theorem q1242 : (Jvm.Cond.instantiable "BasicMachine$Mat" (5 : Nat)) ∈ lw_all := lw_g (lw_at lw_m5 161 rfl) rfl
theorem q1244 : (Jvm.Cond.instanceMethod ({ cls := "BasicMachine$Mat", name := "<init>", desc := "(ICIILBasicMachine$Expression;)V" } : Jvm.MethodName)) ∈ lw_all := lw_g (lw_at lw_m5 163 rfl) rfl
theorem q1245 : (Jvm.Cond.code ({ cls := "BasicMachine$Mat", name := "<init>", desc := "(ICIILBasicMachine$Expression;)V" } : Jvm.MethodName) prog_15_method_1_code (6 : Nat) (Option.none : Option Jvm.ClassFile.FieldType)) ∈ lw_all := lw_g (lw_at lw_m5 164 rfl) rfl
theorem q1246 : (Jvm.Cond.methodLink "BasicMachine$Mat" (1 : Nat) ({ cls := "java/lang/Record", name := "<init>", desc := "()V" } : Jvm.MethodName)) ∈ lw_all := lw_g (lw_at lw_m5 165 rfl) rfl
theorem q1247 : (Jvm.Cond.fieldLink "BasicMachine$Mat" (7 : Nat) "BasicMachine$Mat" "to" "I") ∈ lw_all := lw_g (lw_at lw_m5 166 rfl) rfl
theorem q1248 : (Jvm.Cond.fieldLink "BasicMachine$Mat" (13 : Nat) "BasicMachine$Mat" "what" "C") ∈ lw_all := lw_g (lw_at lw_m5 167 rfl) rfl
theorem q1249 : (Jvm.Cond.fieldLink "BasicMachine$Mat" (17 : Nat) "BasicMachine$Mat" "a" "I") ∈ lw_all := lw_g (lw_at lw_m5 168 rfl) rfl
theorem q1250 : (Jvm.Cond.fieldLink "BasicMachine$Mat" (20 : Nat) "BasicMachine$Mat" "b" "I") ∈ lw_all := lw_g (lw_at lw_m5 169 rfl) rfl
theorem q1251 : (Jvm.Cond.fieldLink "BasicMachine$Mat" (23 : Nat) "BasicMachine$Mat" "factor" "LBasicMachine$Expression;") ∈ lw_all := lw_g (lw_at lw_m5 170 rfl) rfl
theorem q1252 : (Jvm.Cond.laysFinal "BasicMachine$Mat" "BasicMachine$Mat" "to" "I") ∈ lw_all := lw_g (lw_at lw_m5 171 rfl) rfl
theorem q1253 : (Jvm.Cond.soleField "BasicMachine$Mat" "to") ∈ lw_all := lw_g (lw_at lw_m5 172 rfl) rfl
theorem q1254 : (Jvm.Cond.laysFinal "BasicMachine$Mat" "BasicMachine$Mat" "what" "C") ∈ lw_all := lw_g (lw_at lw_m5 173 rfl) rfl
theorem q1255 : (Jvm.Cond.soleField "BasicMachine$Mat" "what") ∈ lw_all := lw_g (lw_at lw_m5 174 rfl) rfl
theorem q1256 : (Jvm.Cond.laysFinal "BasicMachine$Mat" "BasicMachine$Mat" "a" "I") ∈ lw_all := lw_g (lw_at lw_m5 175 rfl) rfl
theorem q1257 : (Jvm.Cond.soleField "BasicMachine$Mat" "a") ∈ lw_all := lw_g (lw_at lw_m5 176 rfl) rfl
theorem q1258 : (Jvm.Cond.laysFinal "BasicMachine$Mat" "BasicMachine$Mat" "b" "I") ∈ lw_all := lw_g (lw_at lw_m5 177 rfl) rfl
theorem q1259 : (Jvm.Cond.soleField "BasicMachine$Mat" "b") ∈ lw_all := lw_g (lw_at lw_m5 178 rfl) rfl
theorem q1260 : (Jvm.Cond.laysFinal "BasicMachine$Mat" "BasicMachine$Mat" "factor" "LBasicMachine$Expression;") ∈ lw_all := lw_g (lw_at lw_m5 179 rfl) rfl
theorem q1261 : (Jvm.Cond.soleField "BasicMachine$Mat" "factor") ∈ lw_all := lw_g (lw_at lw_m5 180 rfl) rfl
theorem q1262 : (Jvm.Cond.superclass "BasicMachine$Mat" "java/lang/Record") ∈ lw_all := lw_g (lw_at lw_m5 181 rfl) rfl
theorem q1385 : (Jvm.Cond.fieldLink "BasicMachine$Mat" (71 : Nat) "BasicMachine$Matrix" "cells" "[[D") ∈ lw_all := lw_g (lw_at lw_m6 64 rfl) rfl
theorem q1387 : (Jvm.Cond.fieldLink "BasicMachine$Mat" (56 : Nat) "BasicMachine$Matrix" "rows" "I") ∈ lw_all := lw_g (lw_at lw_m6 66 rfl) rfl
theorem q1389 : (Jvm.Cond.fieldLink "BasicMachine$Mat" (51 : Nat) "BasicMachine$Matrix" "columns" "I") ∈ lw_all := lw_g (lw_at lw_m6 68 rfl) rfl
theorem q1638 : (Jvm.Cond.castable "BasicMachine$Mat" "BasicMachine$Statement") ∈ lw_tbl := lw_at lw_m7 77 rfl
theorem q1639 : (Jvm.Cond.selects "BasicMachine$Mat" ({ cls := "BasicMachine$Statement", name := "run", desc := "(LBasicMachine;LBasicMachine$Line;)LBasicMachine$Line;" } : Jvm.MethodName) ({ cls := "BasicMachine$Mat", name := "run", desc := "(LBasicMachine;LBasicMachine$Line;)LBasicMachine$Line;" } : Jvm.MethodName)) ∈ lw_all := lw_g (lw_at lw_m7 78 rfl) rfl
theorem q1640 : (Jvm.Cond.unhidden "BasicMachine$Mat" "run" "(LBasicMachine;LBasicMachine$Line;)LBasicMachine$Line;") ∈ lw_tbl := lw_at lw_m7 79 rfl
theorem q1641 : (Jvm.Cond.instanceMethod ({ cls := "BasicMachine$Mat", name := "run", desc := "(LBasicMachine;LBasicMachine$Line;)LBasicMachine$Line;" } : Jvm.MethodName)) ∈ lw_all := lw_g (lw_at lw_m7 80 rfl) rfl
theorem q1642 : (Jvm.Cond.publicMethod ({ cls := "BasicMachine$Mat", name := "run", desc := "(LBasicMachine;LBasicMachine$Line;)LBasicMachine$Line;" } : Jvm.MethodName)) ∈ lw_tbl := lw_at lw_m7 81 rfl
theorem q1643 : (Jvm.Cond.code ({ cls := "BasicMachine$Mat", name := "run", desc := "(LBasicMachine;LBasicMachine$Line;)LBasicMachine$Line;" } : Jvm.MethodName) prog_15_method_2_code (8 : Nat) (Option.some (Jvm.ClassFile.FieldType.object "BasicMachine$Line"))) ∈ lw_all := lw_g (lw_at lw_m7 82 rfl) rfl
theorem q1644 : (Jvm.Cond.methodLinkNest "BasicMachine$Mat" (27 : Nat) ({ cls := "BasicMachine", name := "known", desc := "(I)LBasicMachine$Matrix;" } : Jvm.MethodName) "BasicMachine") ∈ lw_tbl := lw_at lw_m7 83 rfl
theorem q1662 : (Jvm.Cond.interfaceEntry "BasicMachine$Mat" (33 : Nat)) ∈ lw_tbl := lw_at lw_m7 101 rfl
theorem q1663 : (Jvm.Cond.methodLink "BasicMachine$Mat" (33 : Nat) ({ cls := "BasicMachine$Expression", name := "value", desc := "(LBasicMachine;)D" } : Jvm.MethodName)) ∈ lw_all := lw_g (lw_at lw_m7 102 rfl) rfl
theorem q1664 : (Jvm.Cond.methodLink "BasicMachine$Mat" (39 : Nat) ({ cls := "BasicMachine$Mat", name := "worked", desc := "(LBasicMachine;LBasicMachine$Matrix;LBasicMachine$Matrix;D)LBasicMachine$Matrix;" } : Jvm.MethodName)) ∈ lw_all := lw_g (lw_at lw_m7 103 rfl) rfl
theorem q1665 : (Jvm.Cond.privateMethod ({ cls := "BasicMachine$Mat", name := "worked", desc := "(LBasicMachine;LBasicMachine$Matrix;LBasicMachine$Matrix;D)LBasicMachine$Matrix;" } : Jvm.MethodName)) ∈ lw_tbl := lw_at lw_m7 104 rfl
theorem q1666 : (Jvm.Cond.instanceMethod ({ cls := "BasicMachine$Mat", name := "worked", desc := "(LBasicMachine;LBasicMachine$Matrix;LBasicMachine$Matrix;D)LBasicMachine$Matrix;" } : Jvm.MethodName)) ∈ lw_all := lw_g (lw_at lw_m7 105 rfl) rfl
theorem q1667 : (Jvm.Cond.code ({ cls := "BasicMachine$Mat", name := "worked", desc := "(LBasicMachine;LBasicMachine$Matrix;LBasicMachine$Matrix;D)LBasicMachine$Matrix;" } : Jvm.MethodName) prog_15_method_3_code (10 : Nat) (Option.some (Jvm.ClassFile.FieldType.object "BasicMachine$Matrix"))) ∈ lw_all := lw_g (lw_at lw_m7 106 rfl) rfl
theorem q1668 : (Jvm.Cond.methodLink "BasicMachine$Mat" (59 : Nat) ({ cls := "BasicMachine$Matrix", name := "sameSize", desc := "(LBasicMachine$Matrix;)Z" } : Jvm.MethodName)) ∈ lw_all := lw_g (lw_at lw_m7 107 rfl) rfl
theorem q1672 : (Jvm.Cond.classLink "BasicMachine$Mat" (63 : Nat) "java/lang/UnsupportedOperationException") ∈ lw_all := lw_g (lw_at lw_m7 111 rfl) rfl
theorem q1673 : (Jvm.Cond.methodLink "BasicMachine$Mat" (65 : Nat) ({ cls := "java/lang/UnsupportedOperationException", name := "<init>", desc := "()V" } : Jvm.MethodName)) ∈ lw_all := lw_g (lw_at lw_m7 112 rfl) rfl
theorem q1674 : (Jvm.Cond.classLink "BasicMachine$Mat" (52 : Nat) "BasicMachine$Matrix") ∈ lw_all := lw_g (lw_at lw_m7 113 rfl) rfl
theorem q1675 : (Jvm.Cond.methodLinkNest "BasicMachine$Mat" (66 : Nat) ({ cls := "BasicMachine$Matrix", name := "<init>", desc := "()V" } : Jvm.MethodName) "BasicMachine") ∈ lw_tbl := lw_at lw_m7 114 rfl
theorem q1676 : (Jvm.Cond.methodLink "BasicMachine$Mat" (67 : Nat) ({ cls := "BasicMachine$Matrix", name := "be", desc := "(II)LBasicMachine$Matrix;" } : Jvm.MethodName)) ∈ lw_all := lw_g (lw_at lw_m7 115 rfl) rfl
theorem q1677 : (Jvm.Cond.methodLink "BasicMachine$Mat" (75 : Nat) ({ cls := "BasicMachine$Mat", name := "cell", desc := "(LBasicMachine$Matrix;LBasicMachine$Matrix;DII)D" } : Jvm.MethodName)) ∈ lw_all := lw_g (lw_at lw_m7 116 rfl) rfl
theorem q1678 : (Jvm.Cond.privateMethod ({ cls := "BasicMachine$Mat", name := "cell", desc := "(LBasicMachine$Matrix;LBasicMachine$Matrix;DII)D" } : Jvm.MethodName)) ∈ lw_tbl := lw_at lw_m7 117 rfl
theorem q1679 : (Jvm.Cond.instanceMethod ({ cls := "BasicMachine$Mat", name := "cell", desc := "(LBasicMachine$Matrix;LBasicMachine$Matrix;DII)D" } : Jvm.MethodName)) ∈ lw_all := lw_g (lw_at lw_m7 118 rfl) rfl
theorem q1680 : (Jvm.Cond.code ({ cls := "BasicMachine$Mat", name := "cell", desc := "(LBasicMachine$Matrix;LBasicMachine$Matrix;DII)D" } : Jvm.MethodName) prog_15_method_4_code (10 : Nat) (Option.some Jvm.ClassFile.FieldType.double)) ∈ lw_all := lw_g (lw_at lw_m7 119 rfl) rfl
theorem q1681 : (Jvm.Cond.methodLinkNest "BasicMachine$Mat" (79 : Nat) ({ cls := "BasicMachine", name := "checked", desc := "(D)D" } : Jvm.MethodName) "BasicMachine") ∈ lw_tbl := lw_at lw_m7 120 rfl
theorem q2335 : (Jvm.Cond.castable "BasicMachine$Mat" "java/lang/Object") ∈ lw_tbl := lw_at lw_m10 54 rfl
theorem in_X26 : ∀ w ∈ wsX260, w ∈ lw_all := lw_in wsX260 [1252, 1254, 1256, 1258, 1260] (by decide +kernel) (by decide +kernel)
/-! BasicMachine$Nothing -/
set_option maxRecDepth 100000
def RX27 : String := "BasicMachine$Nothing"
def TX27 : u_T := fun k => match k with
  | _ => ("BasicMachine$Nothing", "ends", "Z", true)
def tyX27 : Nat → FieldType := fun k => match k with
  | _ => .boolean
abbrev wsX270 : List Cond := u_ws RX27 TX27 1
theorem nmX27 : ∀ a, a < 1 → ∀ b, b < 1 → a ≠ b → (TX27 a).2.1 ≠ (TX27 b).2.1 := by decide +kernel
theorem tyX27_ok : ∀ k, k < 1 → parseFieldDescriptor (TX27 k).2.2.1 = some (tyX27 k) := by decide +kernel
abbrev cX27_init : ByteArray := prog_18_method_1_code
def yX27_init : MethodName := ⟨RX27, "<init>", "(Z)V"⟩
def dkwX27_init_0 : List UInt8 := [42, 183, 0, 1, 42, 27, 181, 0, 7, 177]
abbrev dktX27_init_0 : List UInt8 := dkwX27_init_0 ++ []
theorem dksX27_init_0 : cX27_init.data.toList.drop 0 = dktX27_init_0 := by decide +kernel
theorem dX27_init_0 : decode cX27_init 0 = .ok (.aload_n 0, 1) := dk_42 (dk_at dksX27_init_0 0 rfl rfl)
theorem dX27_init_1 : decode cX27_init 1 = .ok (.invokespecial 1, 3) := dk_183 0 1 (dk_at dksX27_init_0 1 rfl rfl)
theorem dX27_init_4 : decode cX27_init 4 = .ok (.aload_n 0, 1) := dk_42 (dk_at dksX27_init_0 4 rfl rfl)
theorem dX27_init_5 : decode cX27_init 5 = .ok (.iload_n 1, 1) := dk_27 (dk_at dksX27_init_0 5 rfl rfl)
theorem dX27_init_6 : decode cX27_init 6 = .ok (.putfield 7, 3) := dk_181 0 7 (dk_at dksX27_init_0 6 rfl rfl)
theorem dX27_init_9 : decode cX27_init 9 = .ok (.return_, 1) := dk_177 (dk_at dksX27_init_0 9 rfl rfl)
abbrev cX27_run : ByteArray := prog_18_method_2_code
def yX27_run : MethodName := ⟨RX27, "run", "(LBasicMachine;LBasicMachine$Line;)LBasicMachine$Line;"⟩
def dkwX27_run_0 : List UInt8 := [42, 180, 0, 7, 153, 0, 8, 43, 4, 181, 0, 13, 1, 176]
abbrev dktX27_run_0 : List UInt8 := dkwX27_run_0 ++ []
theorem dksX27_run_0 : cX27_run.data.toList.drop 0 = dktX27_run_0 := by decide +kernel
theorem dX27_run_0 : decode cX27_run 0 = .ok (.aload_n 0, 1) := dk_42 (dk_at dksX27_run_0 0 rfl rfl)
theorem dX27_run_1 : decode cX27_run 1 = .ok (.getfield 7, 3) := dk_180 0 7 (dk_at dksX27_run_0 1 rfl rfl)
theorem dX27_run_4 : decode cX27_run 4 = .ok (.ifCond .eq 8, 3) := dk_153 0 8 (dk_at dksX27_run_0 4 rfl rfl)
theorem dX27_run_7 : decode cX27_run 7 = .ok (.aload_n 1, 1) := dk_43 (dk_at dksX27_run_0 7 rfl rfl)
theorem dX27_run_8 : decode cX27_run 8 = .ok (.iconst 1, 1) := dk_4 (dk_at dksX27_run_0 8 rfl rfl)
theorem dX27_run_9 : decode cX27_run 9 = .ok (.putfield 13, 3) := dk_181 0 13 (dk_at dksX27_run_0 9 rfl rfl)
theorem dX27_run_12 : decode cX27_run 12 = .ok (.aconst_null, 1) := dk_1 (dk_at dksX27_run_0 12 rfl rfl)
theorem dX27_run_13 : decode cX27_run 13 = .ok (.areturn, 1) := dk_176 (dk_at dksX27_run_0 13 rfl rfl)
theorem q166 : (Jvm.Cond.initialized "BasicMachine$Nothing") ∈ lw_all := lw_g (lw_at lw_m1 45 rfl) rfl
theorem q234 : (Jvm.Cond.fieldLinkNest "BasicMachine$Nothing" (13 : Nat) "BasicMachine" "over" "Z" "BasicMachine") ∈ lw_tbl := lw_at lw_m1 113 rfl
theorem q1265 : (Jvm.Cond.instantiable "BasicMachine$Nothing" (1 : Nat)) ∈ lw_all := lw_g (lw_at lw_m5 184 rfl) rfl
theorem q1267 : (Jvm.Cond.instanceMethod ({ cls := "BasicMachine$Nothing", name := "<init>", desc := "(Z)V" } : Jvm.MethodName)) ∈ lw_all := lw_g (lw_at lw_m5 186 rfl) rfl
theorem q1268 : (Jvm.Cond.code ({ cls := "BasicMachine$Nothing", name := "<init>", desc := "(Z)V" } : Jvm.MethodName) prog_18_method_1_code (2 : Nat) (Option.none : Option Jvm.ClassFile.FieldType)) ∈ lw_all := lw_g (lw_at lw_m5 187 rfl) rfl
theorem q1269 : (Jvm.Cond.methodLink "BasicMachine$Nothing" (1 : Nat) ({ cls := "java/lang/Record", name := "<init>", desc := "()V" } : Jvm.MethodName)) ∈ lw_all := lw_g (lw_at lw_m5 188 rfl) rfl
theorem q1270 : (Jvm.Cond.fieldLink "BasicMachine$Nothing" (7 : Nat) "BasicMachine$Nothing" "ends" "Z") ∈ lw_all := lw_g (lw_at lw_m5 189 rfl) rfl
theorem q1271 : (Jvm.Cond.laysFinal "BasicMachine$Nothing" "BasicMachine$Nothing" "ends" "Z") ∈ lw_all := lw_g (lw_at lw_m5 190 rfl) rfl
theorem q1272 : (Jvm.Cond.soleField "BasicMachine$Nothing" "ends") ∈ lw_all := lw_g (lw_at lw_m5 191 rfl) rfl
theorem q1273 : (Jvm.Cond.superclass "BasicMachine$Nothing" "java/lang/Record") ∈ lw_all := lw_g (lw_at lw_m5 192 rfl) rfl
theorem q1706 : (Jvm.Cond.castable "BasicMachine$Nothing" "BasicMachine$Statement") ∈ lw_tbl := lw_at lw_m7 145 rfl
theorem q1707 : (Jvm.Cond.selects "BasicMachine$Nothing" ({ cls := "BasicMachine$Statement", name := "run", desc := "(LBasicMachine;LBasicMachine$Line;)LBasicMachine$Line;" } : Jvm.MethodName) ({ cls := "BasicMachine$Nothing", name := "run", desc := "(LBasicMachine;LBasicMachine$Line;)LBasicMachine$Line;" } : Jvm.MethodName)) ∈ lw_all := lw_g (lw_at lw_m7 146 rfl) rfl
theorem q1708 : (Jvm.Cond.unhidden "BasicMachine$Nothing" "run" "(LBasicMachine;LBasicMachine$Line;)LBasicMachine$Line;") ∈ lw_tbl := lw_at lw_m7 147 rfl
theorem q1709 : (Jvm.Cond.instanceMethod ({ cls := "BasicMachine$Nothing", name := "run", desc := "(LBasicMachine;LBasicMachine$Line;)LBasicMachine$Line;" } : Jvm.MethodName)) ∈ lw_all := lw_g (lw_at lw_m7 148 rfl) rfl
theorem q1710 : (Jvm.Cond.publicMethod ({ cls := "BasicMachine$Nothing", name := "run", desc := "(LBasicMachine;LBasicMachine$Line;)LBasicMachine$Line;" } : Jvm.MethodName)) ∈ lw_tbl := lw_at lw_m7 149 rfl
theorem q1711 : (Jvm.Cond.code ({ cls := "BasicMachine$Nothing", name := "run", desc := "(LBasicMachine;LBasicMachine$Line;)LBasicMachine$Line;" } : Jvm.MethodName) prog_18_method_2_code (3 : Nat) (Option.some (Jvm.ClassFile.FieldType.object "BasicMachine$Line"))) ∈ lw_all := lw_g (lw_at lw_m7 150 rfl) rfl
theorem q2336 : (Jvm.Cond.castable "BasicMachine$Nothing" "java/lang/Object") ∈ lw_tbl := lw_at lw_m10 55 rfl
theorem in_X27 : ∀ w ∈ wsX270, w ∈ lw_all := lw_in wsX270 [1271] (by decide +kernel) (by decide +kernel)
/-! BasicMachine$Matrix -/
set_option maxRecDepth 100000
def RX28 : String := "BasicMachine$Matrix"
def TX28 : u_T := fun k => match k with
  | 0 => ("BasicMachine$Matrix", "cells", "[[D", true)
  | 1 => ("BasicMachine$Matrix", "rows", "I", false)
  | _ => ("BasicMachine$Matrix", "columns", "I", false)
def tyX28 : Nat → FieldType := fun k => match k with
  | 0 => .array (.array .double)
  | 1 => .int
  | _ => .int
abbrev wsX280 : List Cond := u_ws RX28 TX28 3
theorem nmX28 : ∀ a, a < 3 → ∀ b, b < 3 → a ≠ b → (TX28 a).2.1 ≠ (TX28 b).2.1 := by decide +kernel
theorem tyX28_ok : ∀ k, k < 3 → parseFieldDescriptor (TX28 k).2.2.1 = some (tyX28 k) := by decide +kernel
abbrev cX28_init : ByteArray := prog_16_method_1_code
def yX28_init : MethodName := ⟨RX28, "<init>", "()V"⟩
def dkwX28_init_0 : List UInt8 := [42, 183, 0, 1, 42, 16, 6, 16, 6, 197, 0, 7, 2, 181, 0, 9, 177]
abbrev dktX28_init_0 : List UInt8 := dkwX28_init_0 ++ []
theorem dksX28_init_0 : cX28_init.data.toList.drop 0 = dktX28_init_0 := by decide +kernel
theorem dX28_init_0 : decode cX28_init 0 = .ok (.aload_n 0, 1) := dk_42 (dk_at dksX28_init_0 0 rfl rfl)
theorem dX28_init_1 : decode cX28_init 1 = .ok (.invokespecial 1, 3) := dk_183 0 1 (dk_at dksX28_init_0 1 rfl rfl)
theorem dX28_init_4 : decode cX28_init 4 = .ok (.aload_n 0, 1) := dk_42 (dk_at dksX28_init_0 4 rfl rfl)
theorem dX28_init_5 : decode cX28_init 5 = .ok (.bipush 6, 2) := dk_16 6 (dk_at dksX28_init_0 5 rfl rfl)
theorem dX28_init_7 : decode cX28_init 7 = .ok (.bipush 6, 2) := dk_16 6 (dk_at dksX28_init_0 7 rfl rfl)
theorem dX28_init_9 : decode cX28_init 9 = .ok (.multianewarray 7 2, 4) := by decide +kernel
theorem dX28_init_13 : decode cX28_init 13 = .ok (.putfield 9, 3) := dk_181 0 9 (dk_at dksX28_init_0 13 rfl rfl)
theorem dX28_init_16 : decode cX28_init 16 = .ok (.return_, 1) := dk_177 (dk_at dksX28_init_0 16 rfl rfl)
abbrev cX28_be : ByteArray := prog_16_method_2_code
def yX28_be : MethodName := ⟨RX28, "be", "(II)LBasicMachine$Matrix;"⟩
def dkwX28_be_2 : List UInt8 := [167, 255, 223, 42, 176]
abbrev dktX28_be_2 : List UInt8 := dkwX28_be_2 ++ []
def dkwX28_be_1 : List UInt8 := [162, 0, 19, 42, 180, 0, 9, 29, 50, 21, 4, 14, 82, 132, 4, 1, 167, 255, 237, 132, 3, 1]
abbrev dktX28_be_1 : List UInt8 := dkwX28_be_1 ++ dktX28_be_2
def dkwX28_be_0 : List UInt8 := [42, 27, 181, 0, 14, 42, 28, 181, 0, 18, 3, 62, 29, 27, 162, 0, 34, 3, 54, 4, 21, 4, 28]
abbrev dktX28_be_0 : List UInt8 := dkwX28_be_0 ++ dktX28_be_1
theorem dksX28_be_0 : cX28_be.data.toList.drop 0 = dktX28_be_0 := by decide +kernel
theorem dksX28_be_1 : cX28_be.data.toList.drop 23 = dktX28_be_1 := dk_seg dksX28_be_0 23 rfl rfl
theorem dksX28_be_2 : cX28_be.data.toList.drop 45 = dktX28_be_2 := dk_seg dksX28_be_1 22 rfl rfl
theorem dX28_be_0 : decode cX28_be 0 = .ok (.aload_n 0, 1) := dk_42 (dk_at dksX28_be_0 0 rfl rfl)
theorem dX28_be_1 : decode cX28_be 1 = .ok (.iload_n 1, 1) := dk_27 (dk_at dksX28_be_0 1 rfl rfl)
theorem dX28_be_2 : decode cX28_be 2 = .ok (.putfield 14, 3) := dk_181 0 14 (dk_at dksX28_be_0 2 rfl rfl)
theorem dX28_be_5 : decode cX28_be 5 = .ok (.aload_n 0, 1) := dk_42 (dk_at dksX28_be_0 5 rfl rfl)
theorem dX28_be_6 : decode cX28_be 6 = .ok (.iload_n 2, 1) := dk_28 (dk_at dksX28_be_0 6 rfl rfl)
theorem dX28_be_7 : decode cX28_be 7 = .ok (.putfield 18, 3) := dk_181 0 18 (dk_at dksX28_be_0 7 rfl rfl)
theorem dX28_be_10 : decode cX28_be 10 = .ok (.iconst 0, 1) := dk_3 (dk_at dksX28_be_0 10 rfl rfl)
theorem dX28_be_11 : decode cX28_be 11 = .ok (.istore_n 3, 1) := dk_62 (dk_at dksX28_be_0 11 rfl rfl)
theorem dX28_be_12 : decode cX28_be 12 = .ok (.iload_n 3, 1) := dk_29 (dk_at dksX28_be_0 12 rfl rfl)
theorem dX28_be_13 : decode cX28_be 13 = .ok (.iload_n 1, 1) := dk_27 (dk_at dksX28_be_0 13 rfl rfl)
theorem dX28_be_14 : decode cX28_be 14 = .ok (.if_icmp .ge 34, 3) := dk_162 0 34 (dk_at dksX28_be_0 14 rfl rfl)
theorem dX28_be_17 : decode cX28_be 17 = .ok (.iconst 0, 1) := dk_3 (dk_at dksX28_be_0 17 rfl rfl)
theorem dX28_be_18 : decode cX28_be 18 = .ok (.istore 4, 2) := dk_54 4 (dk_at dksX28_be_0 18 rfl rfl)
theorem dX28_be_20 : decode cX28_be 20 = .ok (.iload 4, 2) := dk_21 4 (dk_at dksX28_be_0 20 rfl rfl)
theorem dX28_be_22 : decode cX28_be 22 = .ok (.iload_n 2, 1) := dk_28 (dk_at dksX28_be_0 22 rfl rfl)
theorem dX28_be_23 : decode cX28_be 23 = .ok (.if_icmp .ge 19, 3) := dk_162 0 19 (dk_at dksX28_be_1 0 rfl rfl)
theorem dX28_be_26 : decode cX28_be 26 = .ok (.aload_n 0, 1) := dk_42 (dk_at dksX28_be_1 3 rfl rfl)
theorem dX28_be_27 : decode cX28_be 27 = .ok (.getfield 9, 3) := dk_180 0 9 (dk_at dksX28_be_1 4 rfl rfl)
theorem dX28_be_30 : decode cX28_be 30 = .ok (.iload_n 3, 1) := dk_29 (dk_at dksX28_be_1 7 rfl rfl)
theorem dX28_be_31 : decode cX28_be 31 = .ok (.aaload, 1) := dk_50 (dk_at dksX28_be_1 8 rfl rfl)
theorem dX28_be_32 : decode cX28_be 32 = .ok (.iload 4, 2) := dk_21 4 (dk_at dksX28_be_1 9 rfl rfl)
theorem dX28_be_34 : decode cX28_be 34 = .ok (.dconst 0, 1) := dk_14 (dk_at dksX28_be_1 11 rfl rfl)
theorem dX28_be_35 : decode cX28_be 35 = .ok (.dastore, 1) := dk_82 (dk_at dksX28_be_1 12 rfl rfl)
theorem dX28_be_36 : decode cX28_be 36 = .ok (.iinc 4 1, 3) := dk_132 4 1 (dk_at dksX28_be_1 13 rfl rfl)
theorem dX28_be_39 : decode cX28_be 39 = .ok (.goto (-19), 3) := dk_167 255 237 (dk_at dksX28_be_1 16 rfl rfl)
theorem dX28_be_42 : decode cX28_be 42 = .ok (.iinc 3 1, 3) := dk_132 3 1 (dk_at dksX28_be_1 19 rfl rfl)
theorem dX28_be_45 : decode cX28_be 45 = .ok (.goto (-33), 3) := dk_167 255 223 (dk_at dksX28_be_2 0 rfl rfl)
theorem dX28_be_48 : decode cX28_be 48 = .ok (.aload_n 0, 1) := dk_42 (dk_at dksX28_be_2 3 rfl rfl)
theorem dX28_be_49 : decode cX28_be 49 = .ok (.areturn, 1) := dk_176 (dk_at dksX28_be_2 4 rfl rfl)
abbrev cX28_at : ByteArray := prog_16_method_4_code
def yX28_at : MethodName := ⟨RX28, "at", "(JJ)D"⟩
def dkwX28_at_0 : List UInt8 := [42, 31, 33, 182, 0, 24, 42, 180, 0, 9, 31, 136, 4, 100, 50, 33, 136, 4, 100, 49, 175]
abbrev dktX28_at_0 : List UInt8 := dkwX28_at_0 ++ []
theorem dksX28_at_0 : cX28_at.data.toList.drop 0 = dktX28_at_0 := by decide +kernel
theorem dX28_at_0 : decode cX28_at 0 = .ok (.aload_n 0, 1) := dk_42 (dk_at dksX28_at_0 0 rfl rfl)
theorem dX28_at_1 : decode cX28_at 1 = .ok (.lload_n 1, 1) := dk_31 (dk_at dksX28_at_0 1 rfl rfl)
theorem dX28_at_2 : decode cX28_at 2 = .ok (.lload_n 3, 1) := dk_33 (dk_at dksX28_at_0 2 rfl rfl)
theorem dX28_at_3 : decode cX28_at 3 = .ok (.invokevirtual 24, 3) := dk_182 0 24 (dk_at dksX28_at_0 3 rfl rfl)
theorem dX28_at_6 : decode cX28_at 6 = .ok (.aload_n 0, 1) := dk_42 (dk_at dksX28_at_0 6 rfl rfl)
theorem dX28_at_7 : decode cX28_at 7 = .ok (.getfield 9, 3) := dk_180 0 9 (dk_at dksX28_at_0 7 rfl rfl)
theorem dX28_at_10 : decode cX28_at 10 = .ok (.lload_n 1, 1) := dk_31 (dk_at dksX28_at_0 10 rfl rfl)
theorem dX28_at_11 : decode cX28_at 11 = .ok (.l2i, 1) := dk_136 (dk_at dksX28_at_0 11 rfl rfl)
theorem dX28_at_12 : decode cX28_at 12 = .ok (.iconst 1, 1) := dk_4 (dk_at dksX28_at_0 12 rfl rfl)
theorem dX28_at_13 : decode cX28_at 13 = .ok (.isub, 1) := dk_100 (dk_at dksX28_at_0 13 rfl rfl)
theorem dX28_at_14 : decode cX28_at 14 = .ok (.aaload, 1) := dk_50 (dk_at dksX28_at_0 14 rfl rfl)
theorem dX28_at_15 : decode cX28_at 15 = .ok (.lload_n 3, 1) := dk_33 (dk_at dksX28_at_0 15 rfl rfl)
theorem dX28_at_16 : decode cX28_at 16 = .ok (.l2i, 1) := dk_136 (dk_at dksX28_at_0 16 rfl rfl)
theorem dX28_at_17 : decode cX28_at 17 = .ok (.iconst 1, 1) := dk_4 (dk_at dksX28_at_0 17 rfl rfl)
theorem dX28_at_18 : decode cX28_at 18 = .ok (.isub, 1) := dk_100 (dk_at dksX28_at_0 18 rfl rfl)
theorem dX28_at_19 : decode cX28_at 19 = .ok (.daload, 1) := dk_49 (dk_at dksX28_at_0 19 rfl rfl)
theorem dX28_at_20 : decode cX28_at 20 = .ok (.dreturn, 1) := dk_175 (dk_at dksX28_at_0 20 rfl rfl)
abbrev cX28_check : ByteArray := prog_16_method_3_code
def yX28_check : MethodName := ⟨RX28, "check", "(JJ)V"⟩
def dkwX28_check_1 : List UInt8 := [180, 0, 18, 133, 148, 158, 0, 11, 187, 0, 21, 89, 183, 0, 23, 191, 177]
abbrev dktX28_check_1 : List UInt8 := dkwX28_check_1 ++ []
def dkwX28_check_0 : List UInt8 := [31, 10, 148, 155, 0, 29, 31, 42, 180, 0, 14, 133, 148, 157, 0, 19, 33, 10, 148, 155, 0, 13, 33, 42]
abbrev dktX28_check_0 : List UInt8 := dkwX28_check_0 ++ dktX28_check_1
theorem dksX28_check_0 : cX28_check.data.toList.drop 0 = dktX28_check_0 := by decide +kernel
theorem dksX28_check_1 : cX28_check.data.toList.drop 24 = dktX28_check_1 := dk_seg dksX28_check_0 24 rfl rfl
theorem dX28_check_0 : decode cX28_check 0 = .ok (.lload_n 1, 1) := dk_31 (dk_at dksX28_check_0 0 rfl rfl)
theorem dX28_check_1 : decode cX28_check 1 = .ok (.lconst 1, 1) := dk_10 (dk_at dksX28_check_0 1 rfl rfl)
theorem dX28_check_2 : decode cX28_check 2 = .ok (.lcmp, 1) := dk_148 (dk_at dksX28_check_0 2 rfl rfl)
theorem dX28_check_3 : decode cX28_check 3 = .ok (.ifCond .lt 29, 3) := dk_155 0 29 (dk_at dksX28_check_0 3 rfl rfl)
theorem dX28_check_6 : decode cX28_check 6 = .ok (.lload_n 1, 1) := dk_31 (dk_at dksX28_check_0 6 rfl rfl)
theorem dX28_check_7 : decode cX28_check 7 = .ok (.aload_n 0, 1) := dk_42 (dk_at dksX28_check_0 7 rfl rfl)
theorem dX28_check_8 : decode cX28_check 8 = .ok (.getfield 14, 3) := dk_180 0 14 (dk_at dksX28_check_0 8 rfl rfl)
theorem dX28_check_11 : decode cX28_check 11 = .ok (.i2l, 1) := dk_133 (dk_at dksX28_check_0 11 rfl rfl)
theorem dX28_check_12 : decode cX28_check 12 = .ok (.lcmp, 1) := dk_148 (dk_at dksX28_check_0 12 rfl rfl)
theorem dX28_check_13 : decode cX28_check 13 = .ok (.ifCond .gt 19, 3) := dk_157 0 19 (dk_at dksX28_check_0 13 rfl rfl)
theorem dX28_check_16 : decode cX28_check 16 = .ok (.lload_n 3, 1) := dk_33 (dk_at dksX28_check_0 16 rfl rfl)
theorem dX28_check_17 : decode cX28_check 17 = .ok (.lconst 1, 1) := dk_10 (dk_at dksX28_check_0 17 rfl rfl)
theorem dX28_check_18 : decode cX28_check 18 = .ok (.lcmp, 1) := dk_148 (dk_at dksX28_check_0 18 rfl rfl)
theorem dX28_check_19 : decode cX28_check 19 = .ok (.ifCond .lt 13, 3) := dk_155 0 13 (dk_at dksX28_check_0 19 rfl rfl)
theorem dX28_check_22 : decode cX28_check 22 = .ok (.lload_n 3, 1) := dk_33 (dk_at dksX28_check_0 22 rfl rfl)
theorem dX28_check_23 : decode cX28_check 23 = .ok (.aload_n 0, 1) := dk_42 (dk_at dksX28_check_0 23 rfl rfl)
theorem dX28_check_24 : decode cX28_check 24 = .ok (.getfield 18, 3) := dk_180 0 18 (dk_at dksX28_check_1 0 rfl rfl)
theorem dX28_check_27 : decode cX28_check 27 = .ok (.i2l, 1) := dk_133 (dk_at dksX28_check_1 3 rfl rfl)
theorem dX28_check_28 : decode cX28_check 28 = .ok (.lcmp, 1) := dk_148 (dk_at dksX28_check_1 4 rfl rfl)
theorem dX28_check_29 : decode cX28_check 29 = .ok (.ifCond .le 11, 3) := dk_158 0 11 (dk_at dksX28_check_1 5 rfl rfl)
theorem dX28_check_32 : decode cX28_check 32 = .ok (.new 21, 3) := dk_187 0 21 (dk_at dksX28_check_1 8 rfl rfl)
theorem dX28_check_35 : decode cX28_check 35 = .ok (.dup, 1) := dk_89 (dk_at dksX28_check_1 11 rfl rfl)
theorem dX28_check_36 : decode cX28_check 36 = .ok (.invokespecial 23, 3) := dk_183 0 23 (dk_at dksX28_check_1 12 rfl rfl)
theorem dX28_check_39 : decode cX28_check 39 = .ok (.athrow, 1) := dk_191 (dk_at dksX28_check_1 15 rfl rfl)
theorem dX28_check_40 : decode cX28_check 40 = .ok (.return_, 1) := dk_177 (dk_at dksX28_check_1 16 rfl rfl)
abbrev cX28_sameSize : ByteArray := prog_16_method_5_code
def yX28_sameSize : MethodName := ⟨RX28, "sameSize", "(LBasicMachine$Matrix;)Z"⟩
def dkwX28_sameSize_1 : List UInt8 := [167, 0, 4, 3, 172]
abbrev dktX28_sameSize_1 : List UInt8 := dkwX28_sameSize_1 ++ []
def dkwX28_sameSize_0 : List UInt8 := [42, 180, 0, 14, 43, 180, 0, 14, 160, 0, 18, 42, 180, 0, 18, 43, 180, 0, 18, 160, 0, 7, 4]
abbrev dktX28_sameSize_0 : List UInt8 := dkwX28_sameSize_0 ++ dktX28_sameSize_1
theorem dksX28_sameSize_0 : cX28_sameSize.data.toList.drop 0 = dktX28_sameSize_0 := by decide +kernel
theorem dksX28_sameSize_1 : cX28_sameSize.data.toList.drop 23 = dktX28_sameSize_1 := dk_seg dksX28_sameSize_0 23 rfl rfl
theorem dX28_sameSize_0 : decode cX28_sameSize 0 = .ok (.aload_n 0, 1) := dk_42 (dk_at dksX28_sameSize_0 0 rfl rfl)
theorem dX28_sameSize_1 : decode cX28_sameSize 1 = .ok (.getfield 14, 3) := dk_180 0 14 (dk_at dksX28_sameSize_0 1 rfl rfl)
theorem dX28_sameSize_4 : decode cX28_sameSize 4 = .ok (.aload_n 1, 1) := dk_43 (dk_at dksX28_sameSize_0 4 rfl rfl)
theorem dX28_sameSize_5 : decode cX28_sameSize 5 = .ok (.getfield 14, 3) := dk_180 0 14 (dk_at dksX28_sameSize_0 5 rfl rfl)
theorem dX28_sameSize_8 : decode cX28_sameSize 8 = .ok (.if_icmp .ne 18, 3) := dk_160 0 18 (dk_at dksX28_sameSize_0 8 rfl rfl)
theorem dX28_sameSize_11 : decode cX28_sameSize 11 = .ok (.aload_n 0, 1) := dk_42 (dk_at dksX28_sameSize_0 11 rfl rfl)
theorem dX28_sameSize_12 : decode cX28_sameSize 12 = .ok (.getfield 18, 3) := dk_180 0 18 (dk_at dksX28_sameSize_0 12 rfl rfl)
theorem dX28_sameSize_15 : decode cX28_sameSize 15 = .ok (.aload_n 1, 1) := dk_43 (dk_at dksX28_sameSize_0 15 rfl rfl)
theorem dX28_sameSize_16 : decode cX28_sameSize 16 = .ok (.getfield 18, 3) := dk_180 0 18 (dk_at dksX28_sameSize_0 16 rfl rfl)
theorem dX28_sameSize_19 : decode cX28_sameSize 19 = .ok (.if_icmp .ne 7, 3) := dk_160 0 7 (dk_at dksX28_sameSize_0 19 rfl rfl)
theorem dX28_sameSize_22 : decode cX28_sameSize 22 = .ok (.iconst 1, 1) := dk_4 (dk_at dksX28_sameSize_0 22 rfl rfl)
theorem dX28_sameSize_23 : decode cX28_sameSize 23 = .ok (.goto 4, 3) := dk_167 0 4 (dk_at dksX28_sameSize_1 0 rfl rfl)
theorem dX28_sameSize_26 : decode cX28_sameSize 26 = .ok (.iconst 0, 1) := dk_3 (dk_at dksX28_sameSize_1 3 rfl rfl)
theorem dX28_sameSize_27 : decode cX28_sameSize 27 = .ok (.ireturn, 1) := dk_172 (dk_at dksX28_sameSize_1 4 rfl rfl)
theorem q171 : (Jvm.Cond.initialized "BasicMachine$Matrix") ∈ lw_all := lw_g (lw_at lw_m1 50 rfl) rfl
theorem q1376 : (Jvm.Cond.instantiable "BasicMachine$Matrix" (3 : Nat)) ∈ lw_all := lw_g (lw_at lw_m6 55 rfl) rfl
theorem q1378 : (Jvm.Cond.instanceMethod ({ cls := "BasicMachine$Matrix", name := "<init>", desc := "()V" } : Jvm.MethodName)) ∈ lw_all := lw_g (lw_at lw_m6 57 rfl) rfl
theorem q1379 : (Jvm.Cond.code ({ cls := "BasicMachine$Matrix", name := "<init>", desc := "()V" } : Jvm.MethodName) prog_16_method_1_code (1 : Nat) (Option.none : Option Jvm.ClassFile.FieldType)) ∈ lw_all := lw_g (lw_at lw_m6 58 rfl) rfl
theorem q1380 : (Jvm.Cond.methodLink "BasicMachine$Matrix" (1 : Nat) ({ cls := "java/lang/Object", name := "<init>", desc := "()V" } : Jvm.MethodName)) ∈ lw_all := lw_g (lw_at lw_m6 59 rfl) rfl
theorem q1381 : (Jvm.Cond.classLink "BasicMachine$Matrix" (7 : Nat) "[[D") ∈ lw_all := lw_g (lw_at lw_m6 60 rfl) rfl
theorem q1383 : (Jvm.Cond.fieldLink "BasicMachine$Matrix" (9 : Nat) "BasicMachine$Matrix" "cells" "[[D") ∈ lw_all := lw_g (lw_at lw_m6 62 rfl) rfl
theorem q1386 : (Jvm.Cond.fieldLink "BasicMachine$Matrix" (14 : Nat) "BasicMachine$Matrix" "rows" "I") ∈ lw_all := lw_g (lw_at lw_m6 65 rfl) rfl
theorem q1388 : (Jvm.Cond.fieldLink "BasicMachine$Matrix" (18 : Nat) "BasicMachine$Matrix" "columns" "I") ∈ lw_all := lw_g (lw_at lw_m6 67 rfl) rfl
theorem q1390 : (Jvm.Cond.laysFinal "BasicMachine$Matrix" "BasicMachine$Matrix" "cells" "[[D") ∈ lw_all := lw_g (lw_at lw_m6 69 rfl) rfl
theorem q1391 : (Jvm.Cond.soleField "BasicMachine$Matrix" "cells") ∈ lw_all := lw_g (lw_at lw_m6 70 rfl) rfl
theorem q1392 : (Jvm.Cond.lays "BasicMachine$Matrix" "BasicMachine$Matrix" "rows" "I") ∈ lw_all := lw_g (lw_at lw_m6 71 rfl) rfl
theorem q1393 : (Jvm.Cond.soleField "BasicMachine$Matrix" "rows") ∈ lw_all := lw_g (lw_at lw_m6 72 rfl) rfl
theorem q1394 : (Jvm.Cond.lays "BasicMachine$Matrix" "BasicMachine$Matrix" "columns" "I") ∈ lw_all := lw_g (lw_at lw_m6 73 rfl) rfl
theorem q1395 : (Jvm.Cond.soleField "BasicMachine$Matrix" "columns") ∈ lw_all := lw_g (lw_at lw_m6 74 rfl) rfl
theorem q1396 : (Jvm.Cond.superclass "BasicMachine$Matrix" "java/lang/Object") ∈ lw_all := lw_g (lw_at lw_m6 75 rfl) rfl
theorem q1398 : (Jvm.Cond.instanceMethod ({ cls := "BasicMachine$Matrix", name := "be", desc := "(II)LBasicMachine$Matrix;" } : Jvm.MethodName)) ∈ lw_all := lw_g (lw_at lw_m6 77 rfl) rfl
theorem q1399 : (Jvm.Cond.selects "BasicMachine$Matrix" ({ cls := "BasicMachine$Matrix", name := "be", desc := "(II)LBasicMachine$Matrix;" } : Jvm.MethodName) ({ cls := "BasicMachine$Matrix", name := "be", desc := "(II)LBasicMachine$Matrix;" } : Jvm.MethodName)) ∈ lw_all := lw_g (lw_at lw_m6 78 rfl) rfl
theorem q1400 : (Jvm.Cond.code ({ cls := "BasicMachine$Matrix", name := "be", desc := "(II)LBasicMachine$Matrix;" } : Jvm.MethodName) prog_16_method_2_code (5 : Nat) (Option.some (Jvm.ClassFile.FieldType.object "BasicMachine$Matrix"))) ∈ lw_all := lw_g (lw_at lw_m6 79 rfl) rfl
theorem q1504 : (Jvm.Cond.instanceMethod ({ cls := "BasicMachine$Matrix", name := "at", desc := "(JJ)D" } : Jvm.MethodName)) ∈ lw_all := lw_g (lw_at lw_m6 183 rfl) rfl
theorem q1505 : (Jvm.Cond.selects "BasicMachine$Matrix" ({ cls := "BasicMachine$Matrix", name := "at", desc := "(JJ)D" } : Jvm.MethodName) ({ cls := "BasicMachine$Matrix", name := "at", desc := "(JJ)D" } : Jvm.MethodName)) ∈ lw_all := lw_g (lw_at lw_m6 184 rfl) rfl
theorem q1506 : (Jvm.Cond.code ({ cls := "BasicMachine$Matrix", name := "at", desc := "(JJ)D" } : Jvm.MethodName) prog_16_method_4_code (5 : Nat) (Option.some Jvm.ClassFile.FieldType.double)) ∈ lw_all := lw_g (lw_at lw_m6 185 rfl) rfl
theorem q1507 : (Jvm.Cond.methodLink "BasicMachine$Matrix" (24 : Nat) ({ cls := "BasicMachine$Matrix", name := "check", desc := "(JJ)V" } : Jvm.MethodName)) ∈ lw_all := lw_g (lw_at lw_m6 186 rfl) rfl
theorem q1508 : (Jvm.Cond.privateMethod ({ cls := "BasicMachine$Matrix", name := "check", desc := "(JJ)V" } : Jvm.MethodName)) ∈ lw_tbl := lw_at lw_m6 187 rfl
theorem q1509 : (Jvm.Cond.instanceMethod ({ cls := "BasicMachine$Matrix", name := "check", desc := "(JJ)V" } : Jvm.MethodName)) ∈ lw_all := lw_g (lw_at lw_m6 188 rfl) rfl
theorem q1510 : (Jvm.Cond.code ({ cls := "BasicMachine$Matrix", name := "check", desc := "(JJ)V" } : Jvm.MethodName) prog_16_method_3_code (5 : Nat) (Option.none : Option Jvm.ClassFile.FieldType)) ∈ lw_all := lw_g (lw_at lw_m6 189 rfl) rfl
theorem q1511 : (Jvm.Cond.classLink "BasicMachine$Matrix" (21 : Nat) "java/lang/IndexOutOfBoundsException") ∈ lw_all := lw_g (lw_at lw_m6 190 rfl) rfl
theorem q1512 : (Jvm.Cond.methodLink "BasicMachine$Matrix" (23 : Nat) ({ cls := "java/lang/IndexOutOfBoundsException", name := "<init>", desc := "()V" } : Jvm.MethodName)) ∈ lw_all := lw_g (lw_at lw_m6 191 rfl) rfl
theorem q1669 : (Jvm.Cond.instanceMethod ({ cls := "BasicMachine$Matrix", name := "sameSize", desc := "(LBasicMachine$Matrix;)Z" } : Jvm.MethodName)) ∈ lw_all := lw_g (lw_at lw_m7 108 rfl) rfl
theorem q1670 : (Jvm.Cond.selects "BasicMachine$Matrix" ({ cls := "BasicMachine$Matrix", name := "sameSize", desc := "(LBasicMachine$Matrix;)Z" } : Jvm.MethodName) ({ cls := "BasicMachine$Matrix", name := "sameSize", desc := "(LBasicMachine$Matrix;)Z" } : Jvm.MethodName)) ∈ lw_all := lw_g (lw_at lw_m7 109 rfl) rfl
theorem q1671 : (Jvm.Cond.code ({ cls := "BasicMachine$Matrix", name := "sameSize", desc := "(LBasicMachine$Matrix;)Z" } : Jvm.MethodName) prog_16_method_5_code (2 : Nat) (Option.some Jvm.ClassFile.FieldType.boolean)) ∈ lw_all := lw_g (lw_at lw_m7 110 rfl) rfl
theorem q2340 : (Jvm.Cond.castable "BasicMachine$Matrix" "java/lang/Object") ∈ lw_tbl := lw_at lw_m10 59 rfl
theorem in_X28 : ∀ w ∈ wsX280, w ∈ lw_all := lw_in wsX280 [1390, 1392, 1394] (by decide +kernel) (by decide +kernel)
/-! BasicMachine$Loop -/
set_option maxRecDepth 100000
def RX29 : String := "BasicMachine$Loop"
def TX29 : u_T := fun k => match k with
  | 0 => ("BasicMachine$Loop", "s", "I", true)
  | 1 => ("BasicMachine$Loop", "limit", "D", true)
  | 2 => ("BasicMachine$Loop", "step", "D", true)
  | _ => ("BasicMachine$Loop", "from", "LBasicMachine$Line;", true)
def tyX29 : Nat → FieldType := fun k => match k with
  | 0 => .int
  | 1 => .double
  | 2 => .double
  | _ => .object "BasicMachine$Line"
abbrev wsX290 : List Cond := u_ws RX29 TX29 4
theorem nmX29 : ∀ a, a < 4 → ∀ b, b < 4 → a ≠ b → (TX29 a).2.1 ≠ (TX29 b).2.1 := by decide +kernel
theorem tyX29_ok : ∀ k, k < 4 → parseFieldDescriptor (TX29 k).2.2.1 = some (tyX29 k) := by decide +kernel
abbrev cX29_s : ByteArray := prog_14_method_6_code
def yX29_s : MethodName := ⟨RX29, "s", "()I"⟩
theorem dX29_s_0 : decode cX29_s 0 = .ok (.aload_n 0, 1) := by decide +kernel
theorem dX29_s_1 : decode cX29_s 1 = .ok (.getfield 7, 3) := by decide +kernel
theorem dX29_s_4 : decode cX29_s 4 = .ok (.ireturn, 1) := by decide +kernel
abbrev cX29_over : ByteArray := prog_14_method_2_code
def yX29_over : MethodName := ⟨RX29, "over", "(DDD)Z"⟩
def dkwX29_over_1 : List UInt8 := [158, 0, 7, 4, 167, 0, 4, 3, 172]
abbrev dktX29_over_1 : List UInt8 := dkwX29_over_1 ++ []
def dkwX29_over_0 : List UInt8 := [24, 4, 14, 152, 156, 0, 17, 38, 40, 152, 156, 0, 7, 4, 167, 0, 18, 3, 167, 0, 14, 38, 40, 151]
abbrev dktX29_over_0 : List UInt8 := dkwX29_over_0 ++ dktX29_over_1
theorem dksX29_over_0 : cX29_over.data.toList.drop 0 = dktX29_over_0 := by decide +kernel
theorem dksX29_over_1 : cX29_over.data.toList.drop 24 = dktX29_over_1 := dk_seg dksX29_over_0 24 rfl rfl
theorem dX29_over_0 : decode cX29_over 0 = .ok (.dload 4, 2) := dk_24 4 (dk_at dksX29_over_0 0 rfl rfl)
theorem dX29_over_2 : decode cX29_over 2 = .ok (.dconst 0, 1) := dk_14 (dk_at dksX29_over_0 2 rfl rfl)
theorem dX29_over_3 : decode cX29_over 3 = .ok (.dcmp .g, 1) := dk_152 (dk_at dksX29_over_0 3 rfl rfl)
theorem dX29_over_4 : decode cX29_over 4 = .ok (.ifCond .ge 17, 3) := dk_156 0 17 (dk_at dksX29_over_0 4 rfl rfl)
theorem dX29_over_7 : decode cX29_over 7 = .ok (.dload_n 0, 1) := dk_38 (dk_at dksX29_over_0 7 rfl rfl)
theorem dX29_over_8 : decode cX29_over 8 = .ok (.dload_n 2, 1) := dk_40 (dk_at dksX29_over_0 8 rfl rfl)
theorem dX29_over_9 : decode cX29_over 9 = .ok (.dcmp .g, 1) := dk_152 (dk_at dksX29_over_0 9 rfl rfl)
theorem dX29_over_10 : decode cX29_over 10 = .ok (.ifCond .ge 7, 3) := dk_156 0 7 (dk_at dksX29_over_0 10 rfl rfl)
theorem dX29_over_13 : decode cX29_over 13 = .ok (.iconst 1, 1) := dk_4 (dk_at dksX29_over_0 13 rfl rfl)
theorem dX29_over_14 : decode cX29_over 14 = .ok (.goto 18, 3) := dk_167 0 18 (dk_at dksX29_over_0 14 rfl rfl)
theorem dX29_over_17 : decode cX29_over 17 = .ok (.iconst 0, 1) := dk_3 (dk_at dksX29_over_0 17 rfl rfl)
theorem dX29_over_18 : decode cX29_over 18 = .ok (.goto 14, 3) := dk_167 0 14 (dk_at dksX29_over_0 18 rfl rfl)
theorem dX29_over_21 : decode cX29_over 21 = .ok (.dload_n 0, 1) := dk_38 (dk_at dksX29_over_0 21 rfl rfl)
theorem dX29_over_22 : decode cX29_over 22 = .ok (.dload_n 2, 1) := dk_40 (dk_at dksX29_over_0 22 rfl rfl)
theorem dX29_over_23 : decode cX29_over 23 = .ok (.dcmp .l, 1) := dk_151 (dk_at dksX29_over_0 23 rfl rfl)
theorem dX29_over_24 : decode cX29_over 24 = .ok (.ifCond .le 7, 3) := dk_158 0 7 (dk_at dksX29_over_1 0 rfl rfl)
theorem dX29_over_27 : decode cX29_over 27 = .ok (.iconst 1, 1) := dk_4 (dk_at dksX29_over_1 3 rfl rfl)
theorem dX29_over_28 : decode cX29_over 28 = .ok (.goto 4, 3) := dk_167 0 4 (dk_at dksX29_over_1 4 rfl rfl)
theorem dX29_over_31 : decode cX29_over 31 = .ok (.iconst 0, 1) := dk_3 (dk_at dksX29_over_1 7 rfl rfl)
theorem dX29_over_32 : decode cX29_over 32 = .ok (.ireturn, 1) := dk_172 (dk_at dksX29_over_1 8 rfl rfl)
abbrev cX29_init : ByteArray := prog_14_method_1_code
def yX29_init : MethodName := ⟨RX29, "<init>", "(IDDLBasicMachine$Line;)V"⟩
def dkwX29_init_1 : List UInt8 := [181, 0, 20, 177]
abbrev dktX29_init_1 : List UInt8 := dkwX29_init_1 ++ []
def dkwX29_init_0 : List UInt8 := [42, 183, 0, 1, 42, 27, 181, 0, 7, 42, 40, 181, 0, 13, 42, 24, 4, 181, 0, 17, 42, 25, 6]
abbrev dktX29_init_0 : List UInt8 := dkwX29_init_0 ++ dktX29_init_1
theorem dksX29_init_0 : cX29_init.data.toList.drop 0 = dktX29_init_0 := by decide +kernel
theorem dksX29_init_1 : cX29_init.data.toList.drop 23 = dktX29_init_1 := dk_seg dksX29_init_0 23 rfl rfl
theorem dX29_init_0 : decode cX29_init 0 = .ok (.aload_n 0, 1) := dk_42 (dk_at dksX29_init_0 0 rfl rfl)
theorem dX29_init_1 : decode cX29_init 1 = .ok (.invokespecial 1, 3) := dk_183 0 1 (dk_at dksX29_init_0 1 rfl rfl)
theorem dX29_init_4 : decode cX29_init 4 = .ok (.aload_n 0, 1) := dk_42 (dk_at dksX29_init_0 4 rfl rfl)
theorem dX29_init_5 : decode cX29_init 5 = .ok (.iload_n 1, 1) := dk_27 (dk_at dksX29_init_0 5 rfl rfl)
theorem dX29_init_6 : decode cX29_init 6 = .ok (.putfield 7, 3) := dk_181 0 7 (dk_at dksX29_init_0 6 rfl rfl)
theorem dX29_init_9 : decode cX29_init 9 = .ok (.aload_n 0, 1) := dk_42 (dk_at dksX29_init_0 9 rfl rfl)
theorem dX29_init_10 : decode cX29_init 10 = .ok (.dload_n 2, 1) := dk_40 (dk_at dksX29_init_0 10 rfl rfl)
theorem dX29_init_11 : decode cX29_init 11 = .ok (.putfield 13, 3) := dk_181 0 13 (dk_at dksX29_init_0 11 rfl rfl)
theorem dX29_init_14 : decode cX29_init 14 = .ok (.aload_n 0, 1) := dk_42 (dk_at dksX29_init_0 14 rfl rfl)
theorem dX29_init_15 : decode cX29_init 15 = .ok (.dload 4, 2) := dk_24 4 (dk_at dksX29_init_0 15 rfl rfl)
theorem dX29_init_17 : decode cX29_init 17 = .ok (.putfield 17, 3) := dk_181 0 17 (dk_at dksX29_init_0 17 rfl rfl)
theorem dX29_init_20 : decode cX29_init 20 = .ok (.aload_n 0, 1) := dk_42 (dk_at dksX29_init_0 20 rfl rfl)
theorem dX29_init_21 : decode cX29_init 21 = .ok (.aload 6, 2) := dk_25 6 (dk_at dksX29_init_0 21 rfl rfl)
theorem dX29_init_23 : decode cX29_init 23 = .ok (.putfield 20, 3) := dk_181 0 20 (dk_at dksX29_init_1 0 rfl rfl)
theorem dX29_init_26 : decode cX29_init 26 = .ok (.return_, 1) := dk_177 (dk_at dksX29_init_1 3 rfl rfl)
abbrev cX29_step : ByteArray := prog_14_method_8_code
def yX29_step : MethodName := ⟨RX29, "step", "()D"⟩
theorem dX29_step_0 : decode cX29_step 0 = .ok (.aload_n 0, 1) := by decide +kernel
theorem dX29_step_1 : decode cX29_step 1 = .ok (.getfield 17, 3) := by decide +kernel
theorem dX29_step_4 : decode cX29_step 4 = .ok (.dreturn, 1) := by decide +kernel
abbrev cX29_limit : ByteArray := prog_14_method_7_code
def yX29_limit : MethodName := ⟨RX29, "limit", "()D"⟩
theorem dX29_limit_0 : decode cX29_limit 0 = .ok (.aload_n 0, 1) := by decide +kernel
theorem dX29_limit_1 : decode cX29_limit 1 = .ok (.getfield 13, 3) := by decide +kernel
theorem dX29_limit_4 : decode cX29_limit 4 = .ok (.dreturn, 1) := by decide +kernel
abbrev cX29_from : ByteArray := prog_14_method_9_code
def yX29_from : MethodName := ⟨RX29, "from", "()LBasicMachine$Line;"⟩
theorem dX29_from_0 : decode cX29_from 0 = .ok (.aload_n 0, 1) := by decide +kernel
theorem dX29_from_1 : decode cX29_from 1 = .ok (.getfield 20, 3) := by decide +kernel
theorem dX29_from_4 : decode cX29_from 4 = .ok (.areturn, 1) := by decide +kernel
theorem q172 : (Jvm.Cond.initialized "BasicMachine$Loop") ∈ lw_all := lw_g (lw_at lw_m1 51 rfl) rfl
theorem q1532 : (Jvm.Cond.instanceMethod ({ cls := "BasicMachine$Loop", name := "s", desc := "()I" } : Jvm.MethodName)) ∈ lw_all := lw_g (lw_at lw_m6 211 rfl) rfl
theorem q1533 : (Jvm.Cond.selects "BasicMachine$Loop" ({ cls := "BasicMachine$Loop", name := "s", desc := "()I" } : Jvm.MethodName) ({ cls := "BasicMachine$Loop", name := "s", desc := "()I" } : Jvm.MethodName)) ∈ lw_all := lw_g (lw_at lw_m6 212 rfl) rfl
theorem q1534 : (Jvm.Cond.code ({ cls := "BasicMachine$Loop", name := "s", desc := "()I" } : Jvm.MethodName) prog_14_method_6_code (1 : Nat) (Option.some Jvm.ClassFile.FieldType.int)) ∈ lw_all := lw_g (lw_at lw_m6 213 rfl) rfl
theorem q1536 : (Jvm.Cond.static ({ cls := "BasicMachine$Loop", name := "over", desc := "(DDD)Z" } : Jvm.MethodName)) ∈ lw_all := lw_g (lw_at lw_m6 215 rfl) rfl
theorem q1537 : (Jvm.Cond.code ({ cls := "BasicMachine$Loop", name := "over", desc := "(DDD)Z" } : Jvm.MethodName) prog_14_method_2_code (6 : Nat) (Option.some Jvm.ClassFile.FieldType.boolean)) ∈ lw_all := lw_g (lw_at lw_m6 216 rfl) rfl
theorem q1554 : (Jvm.Cond.instantiable "BasicMachine$Loop" (4 : Nat)) ∈ lw_all := lw_g (lw_at lw_m6 233 rfl) rfl
theorem q1556 : (Jvm.Cond.instanceMethod ({ cls := "BasicMachine$Loop", name := "<init>", desc := "(IDDLBasicMachine$Line;)V" } : Jvm.MethodName)) ∈ lw_all := lw_g (lw_at lw_m6 235 rfl) rfl
theorem q1557 : (Jvm.Cond.code ({ cls := "BasicMachine$Loop", name := "<init>", desc := "(IDDLBasicMachine$Line;)V" } : Jvm.MethodName) prog_14_method_1_code (7 : Nat) (Option.none : Option Jvm.ClassFile.FieldType)) ∈ lw_all := lw_g (lw_at lw_m6 236 rfl) rfl
theorem q1558 : (Jvm.Cond.methodLink "BasicMachine$Loop" (1 : Nat) ({ cls := "java/lang/Record", name := "<init>", desc := "()V" } : Jvm.MethodName)) ∈ lw_all := lw_g (lw_at lw_m6 237 rfl) rfl
theorem q1559 : (Jvm.Cond.fieldLink "BasicMachine$Loop" (7 : Nat) "BasicMachine$Loop" "s" "I") ∈ lw_all := lw_g (lw_at lw_m6 238 rfl) rfl
theorem q1560 : (Jvm.Cond.fieldLink "BasicMachine$Loop" (13 : Nat) "BasicMachine$Loop" "limit" "D") ∈ lw_all := lw_g (lw_at lw_m6 239 rfl) rfl
theorem q1561 : (Jvm.Cond.fieldLink "BasicMachine$Loop" (17 : Nat) "BasicMachine$Loop" "step" "D") ∈ lw_all := lw_g (lw_at lw_m7 0 rfl) rfl
theorem q1562 : (Jvm.Cond.fieldLink "BasicMachine$Loop" (20 : Nat) "BasicMachine$Loop" "from" "LBasicMachine$Line;") ∈ lw_all := lw_g (lw_at lw_m7 1 rfl) rfl
theorem q1563 : (Jvm.Cond.laysFinal "BasicMachine$Loop" "BasicMachine$Loop" "s" "I") ∈ lw_all := lw_g (lw_at lw_m7 2 rfl) rfl
theorem q1564 : (Jvm.Cond.soleField "BasicMachine$Loop" "s") ∈ lw_all := lw_g (lw_at lw_m7 3 rfl) rfl
theorem q1565 : (Jvm.Cond.laysFinal "BasicMachine$Loop" "BasicMachine$Loop" "limit" "D") ∈ lw_all := lw_g (lw_at lw_m7 4 rfl) rfl
theorem q1566 : (Jvm.Cond.soleField "BasicMachine$Loop" "limit") ∈ lw_all := lw_g (lw_at lw_m7 5 rfl) rfl
theorem q1567 : (Jvm.Cond.laysFinal "BasicMachine$Loop" "BasicMachine$Loop" "step" "D") ∈ lw_all := lw_g (lw_at lw_m7 6 rfl) rfl
theorem q1568 : (Jvm.Cond.soleField "BasicMachine$Loop" "step") ∈ lw_all := lw_g (lw_at lw_m7 7 rfl) rfl
theorem q1569 : (Jvm.Cond.laysFinal "BasicMachine$Loop" "BasicMachine$Loop" "from" "LBasicMachine$Line;") ∈ lw_all := lw_g (lw_at lw_m7 8 rfl) rfl
theorem q1570 : (Jvm.Cond.soleField "BasicMachine$Loop" "from") ∈ lw_all := lw_g (lw_at lw_m7 9 rfl) rfl
theorem q1571 : (Jvm.Cond.superclass "BasicMachine$Loop" "java/lang/Record") ∈ lw_all := lw_g (lw_at lw_m7 10 rfl) rfl
theorem q1692 : (Jvm.Cond.instanceMethod ({ cls := "BasicMachine$Loop", name := "step", desc := "()D" } : Jvm.MethodName)) ∈ lw_all := lw_g (lw_at lw_m7 131 rfl) rfl
theorem q1693 : (Jvm.Cond.selects "BasicMachine$Loop" ({ cls := "BasicMachine$Loop", name := "step", desc := "()D" } : Jvm.MethodName) ({ cls := "BasicMachine$Loop", name := "step", desc := "()D" } : Jvm.MethodName)) ∈ lw_all := lw_g (lw_at lw_m7 132 rfl) rfl
theorem q1694 : (Jvm.Cond.code ({ cls := "BasicMachine$Loop", name := "step", desc := "()D" } : Jvm.MethodName) prog_14_method_8_code (1 : Nat) (Option.some Jvm.ClassFile.FieldType.double)) ∈ lw_all := lw_g (lw_at lw_m7 133 rfl) rfl
theorem q1697 : (Jvm.Cond.instanceMethod ({ cls := "BasicMachine$Loop", name := "limit", desc := "()D" } : Jvm.MethodName)) ∈ lw_all := lw_g (lw_at lw_m7 136 rfl) rfl
theorem q1698 : (Jvm.Cond.selects "BasicMachine$Loop" ({ cls := "BasicMachine$Loop", name := "limit", desc := "()D" } : Jvm.MethodName) ({ cls := "BasicMachine$Loop", name := "limit", desc := "()D" } : Jvm.MethodName)) ∈ lw_all := lw_g (lw_at lw_m7 137 rfl) rfl
theorem q1699 : (Jvm.Cond.code ({ cls := "BasicMachine$Loop", name := "limit", desc := "()D" } : Jvm.MethodName) prog_14_method_7_code (1 : Nat) (Option.some Jvm.ClassFile.FieldType.double)) ∈ lw_all := lw_g (lw_at lw_m7 138 rfl) rfl
theorem q1702 : (Jvm.Cond.instanceMethod ({ cls := "BasicMachine$Loop", name := "from", desc := "()LBasicMachine$Line;" } : Jvm.MethodName)) ∈ lw_all := lw_g (lw_at lw_m7 141 rfl) rfl
theorem q1703 : (Jvm.Cond.selects "BasicMachine$Loop" ({ cls := "BasicMachine$Loop", name := "from", desc := "()LBasicMachine$Line;" } : Jvm.MethodName) ({ cls := "BasicMachine$Loop", name := "from", desc := "()LBasicMachine$Line;" } : Jvm.MethodName)) ∈ lw_all := lw_g (lw_at lw_m7 142 rfl) rfl
theorem q1704 : (Jvm.Cond.code ({ cls := "BasicMachine$Loop", name := "from", desc := "()LBasicMachine$Line;" } : Jvm.MethodName) prog_14_method_9_code (1 : Nat) (Option.some (Jvm.ClassFile.FieldType.object "BasicMachine$Line"))) ∈ lw_all := lw_g (lw_at lw_m7 143 rfl) rfl
theorem q2342 : (Jvm.Cond.castable "BasicMachine$Loop" "java/lang/Object") ∈ lw_tbl := lw_at lw_m10 61 rfl
theorem in_X29 : ∀ w ∈ wsX290, w ∈ lw_all := lw_in wsX290 [1563, 1565, 1567, 1569] (by decide +kernel) (by decide +kernel)
