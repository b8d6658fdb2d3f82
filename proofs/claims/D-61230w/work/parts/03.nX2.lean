/-! BasicMachineModel -/
set_option maxRecDepth 100000
def RX2 : String := "BasicMachineModel"
def TX2 : u_T := fun k => match k with
  | 0 => ("BasicMachineModel", "code", "I", false)
  | 1 => ("BasicMachineModel", "typed", "I", false)
  | 2 => ("BasicMachineModel", "size", "I", false)
  | 3 => ("BasicMachineModel", "error", "I", false)
  | 4 => ("BasicMachineModel", "p", "I", false)
  | 5 => ("BasicMachineModel", "open", "I", false)
  | 6 => ("BasicMachineModel", "codes", "I", false)
  | 7 => ("BasicMachineModel", "bad", "Z", false)
  | 8 => ("BasicMachineModel", "line", "[C", true)
  | 9 => ("BasicMachineModel", "text", "[C", true)
  | 10 => ("BasicMachineModel", "number", "[I", true)
  | 11 => ("BasicMachineModel", "sort", "[I", true)
  | 12 => ("BasicMachineModel", "arg", "[I", true)
  | 13 => ("BasicMachineModel", "expr", "[I", true)
  | 14 => ("BasicMachineModel", "made", "[I", true)
  | 15 => ("BasicMachineModel", "wait", "[I", true)
  | 16 => ("BasicMachineModel", "steps", "I", false)
  | 17 => ("BasicMachineModel", "last", "I", false)
  | 18 => ("BasicMachineModel", "prints", "I", false)
  | 19 => ("BasicMachineModel", "reads", "I", false)
  | 20 => ("BasicMachineModel", "data", "I", false)
  | 21 => ("BasicMachineModel", "left", "I", false)
  | 22 => ("BasicMachineModel", "subs", "I", false)
  | 23 => ("BasicMachineModel", "loops", "I", false)
  | 24 => ("BasicMachineModel", "calls", "I", false)
  | 25 => ("BasicMachineModel", "top", "I", false)
  | 26 => ("BasicMachineModel", "threw", "I", false)
  | 27 => ("BasicMachineModel", "fail", "I", false)
  | 28 => ("BasicMachineModel", "print", "[D", true)
  | 29 => ("BasicMachineModel", "variable", "[D", true)
  | 30 => ("BasicMachineModel", "value", "[D", true)
  | 31 => ("BasicMachineModel", "read", "[D", true)
  | 32 => ("BasicMachineModel", "limit", "[D", true)
  | 33 => ("BasicMachineModel", "by", "[D", true)
  | 34 => ("BasicMachineModel", "saved", "[D", true)
  | 35 => ("BasicMachineModel", "cell", "[D", true)
  | 36 => ("BasicMachineModel", "fresh", "[D", true)
  | 37 => ("BasicMachineModel", "fn", "[I", true)
  | 38 => ("BasicMachineModel", "rows", "[I", true)
  | 39 => ("BasicMachineModel", "columns", "[I", true)
  | 40 => ("BasicMachineModel", "back", "[I", true)
  | 41 => ("BasicMachineModel", "loopOf", "[I", true)
  | 42 => ("BasicMachineModel", "loopAt", "[I", true)
  | 43 => ("BasicMachineModel", "callAt", "[I", true)
  | _ => ("BasicMachineModel", "callOf", "[I", true)
def tyX2 : Nat → FieldType := fun k => match k with
  | 0 => .int
  | 1 => .int
  | 2 => .int
  | 3 => .int
  | 4 => .int
  | 5 => .int
  | 6 => .int
  | 7 => .boolean
  | 8 => .array .char
  | 9 => .array .char
  | 10 => .array .int
  | 11 => .array .int
  | 12 => .array .int
  | 13 => .array .int
  | 14 => .array .int
  | 15 => .array .int
  | 16 => .int
  | 17 => .int
  | 18 => .int
  | 19 => .int
  | 20 => .int
  | 21 => .int
  | 22 => .int
  | 23 => .int
  | 24 => .int
  | 25 => .int
  | 26 => .int
  | 27 => .int
  | 28 => .array .double
  | 29 => .array .double
  | 30 => .array .double
  | 31 => .array .double
  | 32 => .array .double
  | 33 => .array .double
  | 34 => .array .double
  | 35 => .array .double
  | 36 => .array .double
  | 37 => .array .int
  | 38 => .array .int
  | 39 => .array .int
  | 40 => .array .int
  | 41 => .array .int
  | 42 => .array .int
  | 43 => .array .int
  | _ => .array .int
abbrev wsX20 : List Cond := u_ws RX2 TX2 45
set_option maxRecDepth 100000 in
theorem nmX2 : ∀ a, a < 45 → ∀ b, b < 45 → a ≠ b → (TX2 a).2.1 ≠ (TX2 b).2.1 := by decide +kernel
set_option maxRecDepth 100000 in
theorem tyX2_ok : ∀ k, k < 45 → parseFieldDescriptor (TX2 k).2.2.1 = some (tyX2 k) := by decide +kernel
abbrev cX2_init : ByteArray := prog_32_method_1_code
def yX2_init : MethodName := ⟨RX2, "<init>", "()V"⟩
def dkwX2_init_13 : List UInt8 := [181, 0, 146, 177]
abbrev dktX2_init_13 : List UInt8 := dkwX2_init_13 ++ []
def dkwX2_init_12 : List UInt8 := [181, 0, 137, 42, 16, 6, 188, 10, 181, 0, 140, 42, 7, 188, 10, 181, 0, 143, 42, 7, 188, 10]
abbrev dktX2_init_12 : List UInt8 := dkwX2_init_12 ++ dktX2_init_13
def dkwX2_init_11 : List UInt8 := [181, 0, 128, 42, 6, 188, 10, 181, 0, 131, 42, 16, 8, 188, 10, 181, 0, 134, 42, 16, 6, 188, 10]
abbrev dktX2_init_11 : List UInt8 := dkwX2_init_11 ++ dktX2_init_12
def dkwX2_init_10 : List UInt8 := [181, 0, 119, 42, 16, 36, 188, 7, 181, 0, 122, 42, 6, 188, 10, 181, 0, 125, 42, 6, 188, 10]
abbrev dktX2_init_10 : List UInt8 := dkwX2_init_10 ++ dktX2_init_11
def dkwX2_init_9 : List UInt8 := [181, 0, 110, 42, 16, 6, 188, 7, 181, 0, 113, 42, 7, 188, 7, 181, 0, 116, 42, 16, 108, 188, 7]
abbrev dktX2_init_9 : List UInt8 := dkwX2_init_9 ++ dktX2_init_10
def dkwX2_init_8 : List UInt8 := [17, 0, 200, 188, 7, 181, 0, 104, 42, 17, 0, 144, 188, 7, 181, 0, 107, 42, 16, 6, 188, 7]
abbrev dktX2_init_8 : List UInt8 := dkwX2_init_8 ++ dktX2_init_9
def dkwX2_init_7 : List UInt8 := [42, 3, 181, 0, 94, 42, 16, 40, 188, 7, 181, 0, 97, 42, 16, 26, 188, 7, 181, 0, 101, 42]
abbrev dktX2_init_7 : List UInt8 := dkwX2_init_7 ++ dktX2_init_8
def dkwX2_init_6 : List UInt8 := [3, 181, 0, 79, 42, 3, 181, 0, 82, 42, 3, 181, 0, 85, 42, 3, 181, 0, 88, 42, 3, 181, 0, 91]
abbrev dktX2_init_6 : List UInt8 := dkwX2_init_6 ++ dktX2_init_7
def dkwX2_init_5 : List UInt8 := [181, 0, 64, 42, 3, 181, 0, 67, 42, 3, 181, 0, 70, 42, 3, 181, 0, 73, 42, 3, 181, 0, 76, 42]
abbrev dktX2_init_5 : List UInt8 := dkwX2_init_5 ++ dktX2_init_6
def dkwX2_init_4 : List UInt8 := [17, 15, 160, 188, 10, 181, 0, 55, 42, 16, 64, 188, 10, 181, 0, 58, 42, 3, 181, 0, 61, 42, 2]
abbrev dktX2_init_4 : List UInt8 := dkwX2_init_4 ++ dktX2_init_5
def dkwX2_init_3 : List UInt8 := [188, 10, 181, 0, 46, 42, 17, 0, 200, 188, 10, 181, 0, 49, 42, 16, 100, 188, 10, 181, 0, 52, 42]
abbrev dktX2_init_3 : List UInt8 := dkwX2_init_3 ++ dktX2_init_4
def dkwX2_init_2 : List UInt8 := [188, 5, 181, 0, 35, 42, 16, 60, 188, 5, 181, 0, 39, 42, 16, 25, 188, 10, 181, 0, 42, 42, 16, 25]
abbrev dktX2_init_2 : List UInt8 := dkwX2_init_2 ++ dktX2_init_3
def dkwX2_init_1 : List UInt8 := [42, 3, 181, 0, 22, 42, 3, 181, 0, 25, 42, 3, 181, 0, 28, 42, 3, 181, 0, 31, 42, 16, 60]
abbrev dktX2_init_1 : List UInt8 := dkwX2_init_1 ++ dktX2_init_2
def dkwX2_init_0 : List UInt8 := [42, 183, 0, 1, 42, 3, 181, 0, 7, 42, 3, 181, 0, 13, 42, 3, 181, 0, 16, 42, 2, 181, 0, 19]
abbrev dktX2_init_0 : List UInt8 := dkwX2_init_0 ++ dktX2_init_1
theorem dksX2_init_0 : cX2_init.data.toList.drop 0 = dktX2_init_0 := by decide +kernel
theorem dksX2_init_1 : cX2_init.data.toList.drop 24 = dktX2_init_1 := dk_seg dksX2_init_0 24 rfl rfl
theorem dksX2_init_2 : cX2_init.data.toList.drop 47 = dktX2_init_2 := dk_seg dksX2_init_1 23 rfl rfl
theorem dksX2_init_3 : cX2_init.data.toList.drop 71 = dktX2_init_3 := dk_seg dksX2_init_2 24 rfl rfl
theorem dksX2_init_4 : cX2_init.data.toList.drop 94 = dktX2_init_4 := dk_seg dksX2_init_3 23 rfl rfl
theorem dksX2_init_5 : cX2_init.data.toList.drop 117 = dktX2_init_5 := dk_seg dksX2_init_4 23 rfl rfl
theorem dksX2_init_6 : cX2_init.data.toList.drop 141 = dktX2_init_6 := dk_seg dksX2_init_5 24 rfl rfl
theorem dksX2_init_7 : cX2_init.data.toList.drop 165 = dktX2_init_7 := dk_seg dksX2_init_6 24 rfl rfl
theorem dksX2_init_8 : cX2_init.data.toList.drop 187 = dktX2_init_8 := dk_seg dksX2_init_7 22 rfl rfl
theorem dksX2_init_9 : cX2_init.data.toList.drop 209 = dktX2_init_9 := dk_seg dksX2_init_8 22 rfl rfl
theorem dksX2_init_10 : cX2_init.data.toList.drop 232 = dktX2_init_10 := dk_seg dksX2_init_9 23 rfl rfl
theorem dksX2_init_11 : cX2_init.data.toList.drop 254 = dktX2_init_11 := dk_seg dksX2_init_10 22 rfl rfl
theorem dksX2_init_12 : cX2_init.data.toList.drop 277 = dktX2_init_12 := dk_seg dksX2_init_11 23 rfl rfl
theorem dksX2_init_13 : cX2_init.data.toList.drop 299 = dktX2_init_13 := dk_seg dksX2_init_12 22 rfl rfl
theorem dX2_init_0 : decode cX2_init 0 = .ok (.aload_n 0, 1) := dk_42 (dk_at dksX2_init_0 0 rfl rfl)
theorem dX2_init_1 : decode cX2_init 1 = .ok (.invokespecial 1, 3) := dk_183 0 1 (dk_at dksX2_init_0 1 rfl rfl)
theorem dX2_init_4 : decode cX2_init 4 = .ok (.aload_n 0, 1) := dk_42 (dk_at dksX2_init_0 4 rfl rfl)
theorem dX2_init_5 : decode cX2_init 5 = .ok (.iconst 0, 1) := dk_3 (dk_at dksX2_init_0 5 rfl rfl)
theorem dX2_init_6 : decode cX2_init 6 = .ok (.putfield 7, 3) := dk_181 0 7 (dk_at dksX2_init_0 6 rfl rfl)
theorem dX2_init_9 : decode cX2_init 9 = .ok (.aload_n 0, 1) := dk_42 (dk_at dksX2_init_0 9 rfl rfl)
theorem dX2_init_10 : decode cX2_init 10 = .ok (.iconst 0, 1) := dk_3 (dk_at dksX2_init_0 10 rfl rfl)
theorem dX2_init_11 : decode cX2_init 11 = .ok (.putfield 13, 3) := dk_181 0 13 (dk_at dksX2_init_0 11 rfl rfl)
theorem dX2_init_14 : decode cX2_init 14 = .ok (.aload_n 0, 1) := dk_42 (dk_at dksX2_init_0 14 rfl rfl)
theorem dX2_init_15 : decode cX2_init 15 = .ok (.iconst 0, 1) := dk_3 (dk_at dksX2_init_0 15 rfl rfl)
theorem dX2_init_16 : decode cX2_init 16 = .ok (.putfield 16, 3) := dk_181 0 16 (dk_at dksX2_init_0 16 rfl rfl)
theorem dX2_init_19 : decode cX2_init 19 = .ok (.aload_n 0, 1) := dk_42 (dk_at dksX2_init_0 19 rfl rfl)
theorem dX2_init_20 : decode cX2_init 20 = .ok (.iconst (-1), 1) := dk_2 (dk_at dksX2_init_0 20 rfl rfl)
theorem dX2_init_21 : decode cX2_init 21 = .ok (.putfield 19, 3) := dk_181 0 19 (dk_at dksX2_init_0 21 rfl rfl)
theorem dX2_init_24 : decode cX2_init 24 = .ok (.aload_n 0, 1) := dk_42 (dk_at dksX2_init_1 0 rfl rfl)
theorem dX2_init_25 : decode cX2_init 25 = .ok (.iconst 0, 1) := dk_3 (dk_at dksX2_init_1 1 rfl rfl)
theorem dX2_init_26 : decode cX2_init 26 = .ok (.putfield 22, 3) := dk_181 0 22 (dk_at dksX2_init_1 2 rfl rfl)
theorem dX2_init_29 : decode cX2_init 29 = .ok (.aload_n 0, 1) := dk_42 (dk_at dksX2_init_1 5 rfl rfl)
theorem dX2_init_30 : decode cX2_init 30 = .ok (.iconst 0, 1) := dk_3 (dk_at dksX2_init_1 6 rfl rfl)
theorem dX2_init_31 : decode cX2_init 31 = .ok (.putfield 25, 3) := dk_181 0 25 (dk_at dksX2_init_1 7 rfl rfl)
theorem dX2_init_34 : decode cX2_init 34 = .ok (.aload_n 0, 1) := dk_42 (dk_at dksX2_init_1 10 rfl rfl)
theorem dX2_init_35 : decode cX2_init 35 = .ok (.iconst 0, 1) := dk_3 (dk_at dksX2_init_1 11 rfl rfl)
theorem dX2_init_36 : decode cX2_init 36 = .ok (.putfield 28, 3) := dk_181 0 28 (dk_at dksX2_init_1 12 rfl rfl)
theorem dX2_init_39 : decode cX2_init 39 = .ok (.aload_n 0, 1) := dk_42 (dk_at dksX2_init_1 15 rfl rfl)
theorem dX2_init_40 : decode cX2_init 40 = .ok (.iconst 0, 1) := dk_3 (dk_at dksX2_init_1 16 rfl rfl)
theorem dX2_init_41 : decode cX2_init 41 = .ok (.putfield 31, 3) := dk_181 0 31 (dk_at dksX2_init_1 17 rfl rfl)
theorem dX2_init_44 : decode cX2_init 44 = .ok (.aload_n 0, 1) := dk_42 (dk_at dksX2_init_1 20 rfl rfl)
theorem dX2_init_45 : decode cX2_init 45 = .ok (.bipush 60, 2) := dk_16 60 (dk_at dksX2_init_1 21 rfl rfl)
theorem dX2_init_47 : decode cX2_init 47 = .ok (.newarray .char, 2) := dk_188_5 (dk_at dksX2_init_2 0 rfl rfl)
theorem dX2_init_49 : decode cX2_init 49 = .ok (.putfield 35, 3) := dk_181 0 35 (dk_at dksX2_init_2 2 rfl rfl)
theorem dX2_init_52 : decode cX2_init 52 = .ok (.aload_n 0, 1) := dk_42 (dk_at dksX2_init_2 5 rfl rfl)
theorem dX2_init_53 : decode cX2_init 53 = .ok (.bipush 60, 2) := dk_16 60 (dk_at dksX2_init_2 6 rfl rfl)
theorem dX2_init_55 : decode cX2_init 55 = .ok (.newarray .char, 2) := dk_188_5 (dk_at dksX2_init_2 8 rfl rfl)
theorem dX2_init_57 : decode cX2_init 57 = .ok (.putfield 39, 3) := dk_181 0 39 (dk_at dksX2_init_2 10 rfl rfl)
theorem dX2_init_60 : decode cX2_init 60 = .ok (.aload_n 0, 1) := dk_42 (dk_at dksX2_init_2 13 rfl rfl)
theorem dX2_init_61 : decode cX2_init 61 = .ok (.bipush 25, 2) := dk_16 25 (dk_at dksX2_init_2 14 rfl rfl)
theorem dX2_init_63 : decode cX2_init 63 = .ok (.newarray .int, 2) := dk_188_10 (dk_at dksX2_init_2 16 rfl rfl)
theorem dX2_init_65 : decode cX2_init 65 = .ok (.putfield 42, 3) := dk_181 0 42 (dk_at dksX2_init_2 18 rfl rfl)
theorem dX2_init_68 : decode cX2_init 68 = .ok (.aload_n 0, 1) := dk_42 (dk_at dksX2_init_2 21 rfl rfl)
theorem dX2_init_69 : decode cX2_init 69 = .ok (.bipush 25, 2) := dk_16 25 (dk_at dksX2_init_2 22 rfl rfl)
theorem dX2_init_71 : decode cX2_init 71 = .ok (.newarray .int, 2) := dk_188_10 (dk_at dksX2_init_3 0 rfl rfl)
theorem dX2_init_73 : decode cX2_init 73 = .ok (.putfield 46, 3) := dk_181 0 46 (dk_at dksX2_init_3 2 rfl rfl)
theorem dX2_init_76 : decode cX2_init 76 = .ok (.aload_n 0, 1) := dk_42 (dk_at dksX2_init_3 5 rfl rfl)
theorem dX2_init_77 : decode cX2_init 77 = .ok (.sipush 200, 3) := dk_17 0 200 (dk_at dksX2_init_3 6 rfl rfl)
theorem dX2_init_80 : decode cX2_init 80 = .ok (.newarray .int, 2) := dk_188_10 (dk_at dksX2_init_3 9 rfl rfl)
theorem dX2_init_82 : decode cX2_init 82 = .ok (.putfield 49, 3) := dk_181 0 49 (dk_at dksX2_init_3 11 rfl rfl)
theorem dX2_init_85 : decode cX2_init 85 = .ok (.aload_n 0, 1) := dk_42 (dk_at dksX2_init_3 14 rfl rfl)
theorem dX2_init_86 : decode cX2_init 86 = .ok (.bipush 100, 2) := dk_16 100 (dk_at dksX2_init_3 15 rfl rfl)
theorem dX2_init_88 : decode cX2_init 88 = .ok (.newarray .int, 2) := dk_188_10 (dk_at dksX2_init_3 17 rfl rfl)
theorem dX2_init_90 : decode cX2_init 90 = .ok (.putfield 52, 3) := dk_181 0 52 (dk_at dksX2_init_3 19 rfl rfl)
theorem dX2_init_93 : decode cX2_init 93 = .ok (.aload_n 0, 1) := dk_42 (dk_at dksX2_init_3 22 rfl rfl)
theorem dX2_init_94 : decode cX2_init 94 = .ok (.sipush 4000, 3) := dk_17 15 160 (dk_at dksX2_init_4 0 rfl rfl)
theorem dX2_init_97 : decode cX2_init 97 = .ok (.newarray .int, 2) := dk_188_10 (dk_at dksX2_init_4 3 rfl rfl)
theorem dX2_init_99 : decode cX2_init 99 = .ok (.putfield 55, 3) := dk_181 0 55 (dk_at dksX2_init_4 5 rfl rfl)
theorem dX2_init_102 : decode cX2_init 102 = .ok (.aload_n 0, 1) := dk_42 (dk_at dksX2_init_4 8 rfl rfl)
theorem dX2_init_103 : decode cX2_init 103 = .ok (.bipush 64, 2) := dk_16 64 (dk_at dksX2_init_4 9 rfl rfl)
theorem dX2_init_105 : decode cX2_init 105 = .ok (.newarray .int, 2) := dk_188_10 (dk_at dksX2_init_4 11 rfl rfl)
theorem dX2_init_107 : decode cX2_init 107 = .ok (.putfield 58, 3) := dk_181 0 58 (dk_at dksX2_init_4 13 rfl rfl)
theorem dX2_init_110 : decode cX2_init 110 = .ok (.aload_n 0, 1) := dk_42 (dk_at dksX2_init_4 16 rfl rfl)
theorem dX2_init_111 : decode cX2_init 111 = .ok (.iconst 0, 1) := dk_3 (dk_at dksX2_init_4 17 rfl rfl)
theorem dX2_init_112 : decode cX2_init 112 = .ok (.putfield 61, 3) := dk_181 0 61 (dk_at dksX2_init_4 18 rfl rfl)
theorem dX2_init_115 : decode cX2_init 115 = .ok (.aload_n 0, 1) := dk_42 (dk_at dksX2_init_4 21 rfl rfl)
theorem dX2_init_116 : decode cX2_init 116 = .ok (.iconst (-1), 1) := dk_2 (dk_at dksX2_init_4 22 rfl rfl)
theorem dX2_init_117 : decode cX2_init 117 = .ok (.putfield 64, 3) := dk_181 0 64 (dk_at dksX2_init_5 0 rfl rfl)
theorem dX2_init_120 : decode cX2_init 120 = .ok (.aload_n 0, 1) := dk_42 (dk_at dksX2_init_5 3 rfl rfl)
theorem dX2_init_121 : decode cX2_init 121 = .ok (.iconst 0, 1) := dk_3 (dk_at dksX2_init_5 4 rfl rfl)
theorem dX2_init_122 : decode cX2_init 122 = .ok (.putfield 67, 3) := dk_181 0 67 (dk_at dksX2_init_5 5 rfl rfl)
theorem dX2_init_125 : decode cX2_init 125 = .ok (.aload_n 0, 1) := dk_42 (dk_at dksX2_init_5 8 rfl rfl)
theorem dX2_init_126 : decode cX2_init 126 = .ok (.iconst 0, 1) := dk_3 (dk_at dksX2_init_5 9 rfl rfl)
theorem dX2_init_127 : decode cX2_init 127 = .ok (.putfield 70, 3) := dk_181 0 70 (dk_at dksX2_init_5 10 rfl rfl)
theorem dX2_init_130 : decode cX2_init 130 = .ok (.aload_n 0, 1) := dk_42 (dk_at dksX2_init_5 13 rfl rfl)
theorem dX2_init_131 : decode cX2_init 131 = .ok (.iconst 0, 1) := dk_3 (dk_at dksX2_init_5 14 rfl rfl)
theorem dX2_init_132 : decode cX2_init 132 = .ok (.putfield 73, 3) := dk_181 0 73 (dk_at dksX2_init_5 15 rfl rfl)
theorem dX2_init_135 : decode cX2_init 135 = .ok (.aload_n 0, 1) := dk_42 (dk_at dksX2_init_5 18 rfl rfl)
theorem dX2_init_136 : decode cX2_init 136 = .ok (.iconst 0, 1) := dk_3 (dk_at dksX2_init_5 19 rfl rfl)
theorem dX2_init_137 : decode cX2_init 137 = .ok (.putfield 76, 3) := dk_181 0 76 (dk_at dksX2_init_5 20 rfl rfl)
theorem dX2_init_140 : decode cX2_init 140 = .ok (.aload_n 0, 1) := dk_42 (dk_at dksX2_init_5 23 rfl rfl)
theorem dX2_init_141 : decode cX2_init 141 = .ok (.iconst 0, 1) := dk_3 (dk_at dksX2_init_6 0 rfl rfl)
theorem dX2_init_142 : decode cX2_init 142 = .ok (.putfield 79, 3) := dk_181 0 79 (dk_at dksX2_init_6 1 rfl rfl)
theorem dX2_init_145 : decode cX2_init 145 = .ok (.aload_n 0, 1) := dk_42 (dk_at dksX2_init_6 4 rfl rfl)
theorem dX2_init_146 : decode cX2_init 146 = .ok (.iconst 0, 1) := dk_3 (dk_at dksX2_init_6 5 rfl rfl)
theorem dX2_init_147 : decode cX2_init 147 = .ok (.putfield 82, 3) := dk_181 0 82 (dk_at dksX2_init_6 6 rfl rfl)
theorem dX2_init_150 : decode cX2_init 150 = .ok (.aload_n 0, 1) := dk_42 (dk_at dksX2_init_6 9 rfl rfl)
theorem dX2_init_151 : decode cX2_init 151 = .ok (.iconst 0, 1) := dk_3 (dk_at dksX2_init_6 10 rfl rfl)
theorem dX2_init_152 : decode cX2_init 152 = .ok (.putfield 85, 3) := dk_181 0 85 (dk_at dksX2_init_6 11 rfl rfl)
theorem dX2_init_155 : decode cX2_init 155 = .ok (.aload_n 0, 1) := dk_42 (dk_at dksX2_init_6 14 rfl rfl)
theorem dX2_init_156 : decode cX2_init 156 = .ok (.iconst 0, 1) := dk_3 (dk_at dksX2_init_6 15 rfl rfl)
theorem dX2_init_157 : decode cX2_init 157 = .ok (.putfield 88, 3) := dk_181 0 88 (dk_at dksX2_init_6 16 rfl rfl)
theorem dX2_init_160 : decode cX2_init 160 = .ok (.aload_n 0, 1) := dk_42 (dk_at dksX2_init_6 19 rfl rfl)
theorem dX2_init_161 : decode cX2_init 161 = .ok (.iconst 0, 1) := dk_3 (dk_at dksX2_init_6 20 rfl rfl)
theorem dX2_init_162 : decode cX2_init 162 = .ok (.putfield 91, 3) := dk_181 0 91 (dk_at dksX2_init_6 21 rfl rfl)
theorem dX2_init_165 : decode cX2_init 165 = .ok (.aload_n 0, 1) := dk_42 (dk_at dksX2_init_7 0 rfl rfl)
theorem dX2_init_166 : decode cX2_init 166 = .ok (.iconst 0, 1) := dk_3 (dk_at dksX2_init_7 1 rfl rfl)
theorem dX2_init_167 : decode cX2_init 167 = .ok (.putfield 94, 3) := dk_181 0 94 (dk_at dksX2_init_7 2 rfl rfl)
theorem dX2_init_170 : decode cX2_init 170 = .ok (.aload_n 0, 1) := dk_42 (dk_at dksX2_init_7 5 rfl rfl)
theorem dX2_init_171 : decode cX2_init 171 = .ok (.bipush 40, 2) := dk_16 40 (dk_at dksX2_init_7 6 rfl rfl)
theorem dX2_init_173 : decode cX2_init 173 = .ok (.newarray .double, 2) := dk_188_7 (dk_at dksX2_init_7 8 rfl rfl)
theorem dX2_init_175 : decode cX2_init 175 = .ok (.putfield 97, 3) := dk_181 0 97 (dk_at dksX2_init_7 10 rfl rfl)
theorem dX2_init_178 : decode cX2_init 178 = .ok (.aload_n 0, 1) := dk_42 (dk_at dksX2_init_7 13 rfl rfl)
theorem dX2_init_179 : decode cX2_init 179 = .ok (.bipush 26, 2) := dk_16 26 (dk_at dksX2_init_7 14 rfl rfl)
theorem dX2_init_181 : decode cX2_init 181 = .ok (.newarray .double, 2) := dk_188_7 (dk_at dksX2_init_7 16 rfl rfl)
theorem dX2_init_183 : decode cX2_init 183 = .ok (.putfield 101, 3) := dk_181 0 101 (dk_at dksX2_init_7 18 rfl rfl)
theorem dX2_init_186 : decode cX2_init 186 = .ok (.aload_n 0, 1) := dk_42 (dk_at dksX2_init_7 21 rfl rfl)
theorem dX2_init_187 : decode cX2_init 187 = .ok (.sipush 200, 3) := dk_17 0 200 (dk_at dksX2_init_8 0 rfl rfl)
theorem dX2_init_190 : decode cX2_init 190 = .ok (.newarray .double, 2) := dk_188_7 (dk_at dksX2_init_8 3 rfl rfl)
theorem dX2_init_192 : decode cX2_init 192 = .ok (.putfield 104, 3) := dk_181 0 104 (dk_at dksX2_init_8 5 rfl rfl)
theorem dX2_init_195 : decode cX2_init 195 = .ok (.aload_n 0, 1) := dk_42 (dk_at dksX2_init_8 8 rfl rfl)
theorem dX2_init_196 : decode cX2_init 196 = .ok (.sipush 144, 3) := dk_17 0 144 (dk_at dksX2_init_8 9 rfl rfl)
theorem dX2_init_199 : decode cX2_init 199 = .ok (.newarray .double, 2) := dk_188_7 (dk_at dksX2_init_8 12 rfl rfl)
theorem dX2_init_201 : decode cX2_init 201 = .ok (.putfield 107, 3) := dk_181 0 107 (dk_at dksX2_init_8 14 rfl rfl)
theorem dX2_init_204 : decode cX2_init 204 = .ok (.aload_n 0, 1) := dk_42 (dk_at dksX2_init_8 17 rfl rfl)
theorem dX2_init_205 : decode cX2_init 205 = .ok (.bipush 6, 2) := dk_16 6 (dk_at dksX2_init_8 18 rfl rfl)
theorem dX2_init_207 : decode cX2_init 207 = .ok (.newarray .double, 2) := dk_188_7 (dk_at dksX2_init_8 20 rfl rfl)
theorem dX2_init_209 : decode cX2_init 209 = .ok (.putfield 110, 3) := dk_181 0 110 (dk_at dksX2_init_9 0 rfl rfl)
theorem dX2_init_212 : decode cX2_init 212 = .ok (.aload_n 0, 1) := dk_42 (dk_at dksX2_init_9 3 rfl rfl)
theorem dX2_init_213 : decode cX2_init 213 = .ok (.bipush 6, 2) := dk_16 6 (dk_at dksX2_init_9 4 rfl rfl)
theorem dX2_init_215 : decode cX2_init 215 = .ok (.newarray .double, 2) := dk_188_7 (dk_at dksX2_init_9 6 rfl rfl)
theorem dX2_init_217 : decode cX2_init 217 = .ok (.putfield 113, 3) := dk_181 0 113 (dk_at dksX2_init_9 8 rfl rfl)
theorem dX2_init_220 : decode cX2_init 220 = .ok (.aload_n 0, 1) := dk_42 (dk_at dksX2_init_9 11 rfl rfl)
theorem dX2_init_221 : decode cX2_init 221 = .ok (.iconst 4, 1) := dk_7 (dk_at dksX2_init_9 12 rfl rfl)
theorem dX2_init_222 : decode cX2_init 222 = .ok (.newarray .double, 2) := dk_188_7 (dk_at dksX2_init_9 13 rfl rfl)
theorem dX2_init_224 : decode cX2_init 224 = .ok (.putfield 116, 3) := dk_181 0 116 (dk_at dksX2_init_9 15 rfl rfl)
theorem dX2_init_227 : decode cX2_init 227 = .ok (.aload_n 0, 1) := dk_42 (dk_at dksX2_init_9 18 rfl rfl)
theorem dX2_init_228 : decode cX2_init 228 = .ok (.bipush 108, 2) := dk_16 108 (dk_at dksX2_init_9 19 rfl rfl)
theorem dX2_init_230 : decode cX2_init 230 = .ok (.newarray .double, 2) := dk_188_7 (dk_at dksX2_init_9 21 rfl rfl)
theorem dX2_init_232 : decode cX2_init 232 = .ok (.putfield 119, 3) := dk_181 0 119 (dk_at dksX2_init_10 0 rfl rfl)
theorem dX2_init_235 : decode cX2_init 235 = .ok (.aload_n 0, 1) := dk_42 (dk_at dksX2_init_10 3 rfl rfl)
theorem dX2_init_236 : decode cX2_init 236 = .ok (.bipush 36, 2) := dk_16 36 (dk_at dksX2_init_10 4 rfl rfl)
theorem dX2_init_238 : decode cX2_init 238 = .ok (.newarray .double, 2) := dk_188_7 (dk_at dksX2_init_10 6 rfl rfl)
theorem dX2_init_240 : decode cX2_init 240 = .ok (.putfield 122, 3) := dk_181 0 122 (dk_at dksX2_init_10 8 rfl rfl)
theorem dX2_init_243 : decode cX2_init 243 = .ok (.aload_n 0, 1) := dk_42 (dk_at dksX2_init_10 11 rfl rfl)
theorem dX2_init_244 : decode cX2_init 244 = .ok (.iconst 3, 1) := dk_6 (dk_at dksX2_init_10 12 rfl rfl)
theorem dX2_init_245 : decode cX2_init 245 = .ok (.newarray .int, 2) := dk_188_10 (dk_at dksX2_init_10 13 rfl rfl)
theorem dX2_init_247 : decode cX2_init 247 = .ok (.putfield 125, 3) := dk_181 0 125 (dk_at dksX2_init_10 15 rfl rfl)
theorem dX2_init_250 : decode cX2_init 250 = .ok (.aload_n 0, 1) := dk_42 (dk_at dksX2_init_10 18 rfl rfl)
theorem dX2_init_251 : decode cX2_init 251 = .ok (.iconst 3, 1) := dk_6 (dk_at dksX2_init_10 19 rfl rfl)
theorem dX2_init_252 : decode cX2_init 252 = .ok (.newarray .int, 2) := dk_188_10 (dk_at dksX2_init_10 20 rfl rfl)
theorem dX2_init_254 : decode cX2_init 254 = .ok (.putfield 128, 3) := dk_181 0 128 (dk_at dksX2_init_11 0 rfl rfl)
theorem dX2_init_257 : decode cX2_init 257 = .ok (.aload_n 0, 1) := dk_42 (dk_at dksX2_init_11 3 rfl rfl)
theorem dX2_init_258 : decode cX2_init 258 = .ok (.iconst 3, 1) := dk_6 (dk_at dksX2_init_11 4 rfl rfl)
theorem dX2_init_259 : decode cX2_init 259 = .ok (.newarray .int, 2) := dk_188_10 (dk_at dksX2_init_11 5 rfl rfl)
theorem dX2_init_261 : decode cX2_init 261 = .ok (.putfield 131, 3) := dk_181 0 131 (dk_at dksX2_init_11 7 rfl rfl)
theorem dX2_init_264 : decode cX2_init 264 = .ok (.aload_n 0, 1) := dk_42 (dk_at dksX2_init_11 10 rfl rfl)
theorem dX2_init_265 : decode cX2_init 265 = .ok (.bipush 8, 2) := dk_16 8 (dk_at dksX2_init_11 11 rfl rfl)
theorem dX2_init_267 : decode cX2_init 267 = .ok (.newarray .int, 2) := dk_188_10 (dk_at dksX2_init_11 13 rfl rfl)
theorem dX2_init_269 : decode cX2_init 269 = .ok (.putfield 134, 3) := dk_181 0 134 (dk_at dksX2_init_11 15 rfl rfl)
theorem dX2_init_272 : decode cX2_init 272 = .ok (.aload_n 0, 1) := dk_42 (dk_at dksX2_init_11 18 rfl rfl)
theorem dX2_init_273 : decode cX2_init 273 = .ok (.bipush 6, 2) := dk_16 6 (dk_at dksX2_init_11 19 rfl rfl)
theorem dX2_init_275 : decode cX2_init 275 = .ok (.newarray .int, 2) := dk_188_10 (dk_at dksX2_init_11 21 rfl rfl)
theorem dX2_init_277 : decode cX2_init 277 = .ok (.putfield 137, 3) := dk_181 0 137 (dk_at dksX2_init_12 0 rfl rfl)
theorem dX2_init_280 : decode cX2_init 280 = .ok (.aload_n 0, 1) := dk_42 (dk_at dksX2_init_12 3 rfl rfl)
theorem dX2_init_281 : decode cX2_init 281 = .ok (.bipush 6, 2) := dk_16 6 (dk_at dksX2_init_12 4 rfl rfl)
theorem dX2_init_283 : decode cX2_init 283 = .ok (.newarray .int, 2) := dk_188_10 (dk_at dksX2_init_12 6 rfl rfl)
theorem dX2_init_285 : decode cX2_init 285 = .ok (.putfield 140, 3) := dk_181 0 140 (dk_at dksX2_init_12 8 rfl rfl)
theorem dX2_init_288 : decode cX2_init 288 = .ok (.aload_n 0, 1) := dk_42 (dk_at dksX2_init_12 11 rfl rfl)
theorem dX2_init_289 : decode cX2_init 289 = .ok (.iconst 4, 1) := dk_7 (dk_at dksX2_init_12 12 rfl rfl)
theorem dX2_init_290 : decode cX2_init 290 = .ok (.newarray .int, 2) := dk_188_10 (dk_at dksX2_init_12 13 rfl rfl)
theorem dX2_init_292 : decode cX2_init 292 = .ok (.putfield 143, 3) := dk_181 0 143 (dk_at dksX2_init_12 15 rfl rfl)
theorem dX2_init_295 : decode cX2_init 295 = .ok (.aload_n 0, 1) := dk_42 (dk_at dksX2_init_12 18 rfl rfl)
theorem dX2_init_296 : decode cX2_init 296 = .ok (.iconst 4, 1) := dk_7 (dk_at dksX2_init_12 19 rfl rfl)
theorem dX2_init_297 : decode cX2_init 297 = .ok (.newarray .int, 2) := dk_188_10 (dk_at dksX2_init_12 20 rfl rfl)
theorem dX2_init_299 : decode cX2_init 299 = .ok (.putfield 146, 3) := dk_181 0 146 (dk_at dksX2_init_13 0 rfl rfl)
theorem dX2_init_302 : decode cX2_init 302 = .ok (.return_, 1) := dk_177 (dk_at dksX2_init_13 3 rfl rfl)
abbrev cX2_thrown : ByteArray := prog_32_method_2_code
def yX2_thrown : MethodName := ⟨RX2, "thrown", "()I"⟩
theorem dX2_thrown_0 : decode cX2_thrown 0 = .ok (.aload_n 0, 1) := by decide +kernel
theorem dX2_thrown_1 : decode cX2_thrown 1 = .ok (.getfield 7, 3) := by decide +kernel
theorem dX2_thrown_4 : decode cX2_thrown 4 = .ok (.ireturn, 1) := by decide +kernel
abbrev cX2_type : ByteArray := prog_32_method_5_code
def yX2_type : MethodName := ⟨RX2, "type", "(I)I"⟩
def dkwX2_type_2 : List UInt8 := [180, 0, 13, 4, 96, 181, 0, 13, 42, 42, 180, 0, 13, 182, 0, 153, 172]
abbrev dktX2_type_2 : List UInt8 := dkwX2_type_2 ++ []
def dkwX2_type_1 : List UInt8 := [160, 0, 9, 42, 5, 182, 0, 149, 172, 42, 180, 0, 35, 42, 180, 0, 13, 27, 146, 85, 42, 89]
abbrev dktX2_type_1 : List UInt8 := dkwX2_type_1 ++ dktX2_type_2
def dkwX2_type_0 : List UInt8 := [27, 155, 0, 9, 27, 16, 127, 164, 0, 9, 42, 4, 182, 0, 149, 172, 42, 180, 0, 13, 16, 60]
abbrev dktX2_type_0 : List UInt8 := dkwX2_type_0 ++ dktX2_type_1
theorem dksX2_type_0 : cX2_type.data.toList.drop 0 = dktX2_type_0 := by decide +kernel
theorem dksX2_type_1 : cX2_type.data.toList.drop 22 = dktX2_type_1 := dk_seg dksX2_type_0 22 rfl rfl
theorem dksX2_type_2 : cX2_type.data.toList.drop 44 = dktX2_type_2 := dk_seg dksX2_type_1 22 rfl rfl
theorem dX2_type_0 : decode cX2_type 0 = .ok (.iload_n 1, 1) := dk_27 (dk_at dksX2_type_0 0 rfl rfl)
theorem dX2_type_1 : decode cX2_type 1 = .ok (.ifCond .lt 9, 3) := dk_155 0 9 (dk_at dksX2_type_0 1 rfl rfl)
theorem dX2_type_4 : decode cX2_type 4 = .ok (.iload_n 1, 1) := dk_27 (dk_at dksX2_type_0 4 rfl rfl)
theorem dX2_type_5 : decode cX2_type 5 = .ok (.bipush 127, 2) := dk_16 127 (dk_at dksX2_type_0 5 rfl rfl)
theorem dX2_type_7 : decode cX2_type 7 = .ok (.if_icmp .le 9, 3) := dk_164 0 9 (dk_at dksX2_type_0 7 rfl rfl)
theorem dX2_type_10 : decode cX2_type 10 = .ok (.aload_n 0, 1) := dk_42 (dk_at dksX2_type_0 10 rfl rfl)
theorem dX2_type_11 : decode cX2_type 11 = .ok (.iconst 1, 1) := dk_4 (dk_at dksX2_type_0 11 rfl rfl)
theorem dX2_type_12 : decode cX2_type 12 = .ok (.invokevirtual 149, 3) := dk_182 0 149 (dk_at dksX2_type_0 12 rfl rfl)
theorem dX2_type_15 : decode cX2_type 15 = .ok (.ireturn, 1) := dk_172 (dk_at dksX2_type_0 15 rfl rfl)
theorem dX2_type_16 : decode cX2_type 16 = .ok (.aload_n 0, 1) := dk_42 (dk_at dksX2_type_0 16 rfl rfl)
theorem dX2_type_17 : decode cX2_type 17 = .ok (.getfield 13, 3) := dk_180 0 13 (dk_at dksX2_type_0 17 rfl rfl)
theorem dX2_type_20 : decode cX2_type 20 = .ok (.bipush 60, 2) := dk_16 60 (dk_at dksX2_type_0 20 rfl rfl)
theorem dX2_type_22 : decode cX2_type 22 = .ok (.if_icmp .ne 9, 3) := dk_160 0 9 (dk_at dksX2_type_1 0 rfl rfl)
theorem dX2_type_25 : decode cX2_type 25 = .ok (.aload_n 0, 1) := dk_42 (dk_at dksX2_type_1 3 rfl rfl)
theorem dX2_type_26 : decode cX2_type 26 = .ok (.iconst 2, 1) := dk_5 (dk_at dksX2_type_1 4 rfl rfl)
theorem dX2_type_27 : decode cX2_type 27 = .ok (.invokevirtual 149, 3) := dk_182 0 149 (dk_at dksX2_type_1 5 rfl rfl)
theorem dX2_type_30 : decode cX2_type 30 = .ok (.ireturn, 1) := dk_172 (dk_at dksX2_type_1 8 rfl rfl)
theorem dX2_type_31 : decode cX2_type 31 = .ok (.aload_n 0, 1) := dk_42 (dk_at dksX2_type_1 9 rfl rfl)
theorem dX2_type_32 : decode cX2_type 32 = .ok (.getfield 35, 3) := dk_180 0 35 (dk_at dksX2_type_1 10 rfl rfl)
theorem dX2_type_35 : decode cX2_type 35 = .ok (.aload_n 0, 1) := dk_42 (dk_at dksX2_type_1 13 rfl rfl)
theorem dX2_type_36 : decode cX2_type 36 = .ok (.getfield 13, 3) := dk_180 0 13 (dk_at dksX2_type_1 14 rfl rfl)
theorem dX2_type_39 : decode cX2_type 39 = .ok (.iload_n 1, 1) := dk_27 (dk_at dksX2_type_1 17 rfl rfl)
theorem dX2_type_40 : decode cX2_type 40 = .ok (.i2c, 1) := dk_146 (dk_at dksX2_type_1 18 rfl rfl)
theorem dX2_type_41 : decode cX2_type 41 = .ok (.castore, 1) := dk_85 (dk_at dksX2_type_1 19 rfl rfl)
theorem dX2_type_42 : decode cX2_type 42 = .ok (.aload_n 0, 1) := dk_42 (dk_at dksX2_type_1 20 rfl rfl)
theorem dX2_type_43 : decode cX2_type 43 = .ok (.dup, 1) := dk_89 (dk_at dksX2_type_1 21 rfl rfl)
theorem dX2_type_44 : decode cX2_type 44 = .ok (.getfield 13, 3) := dk_180 0 13 (dk_at dksX2_type_2 0 rfl rfl)
theorem dX2_type_47 : decode cX2_type 47 = .ok (.iconst 1, 1) := dk_4 (dk_at dksX2_type_2 3 rfl rfl)
theorem dX2_type_48 : decode cX2_type 48 = .ok (.iadd, 1) := dk_96 (dk_at dksX2_type_2 4 rfl rfl)
theorem dX2_type_49 : decode cX2_type 49 = .ok (.putfield 13, 3) := dk_181 0 13 (dk_at dksX2_type_2 5 rfl rfl)
theorem dX2_type_52 : decode cX2_type 52 = .ok (.aload_n 0, 1) := dk_42 (dk_at dksX2_type_2 8 rfl rfl)
theorem dX2_type_53 : decode cX2_type 53 = .ok (.aload_n 0, 1) := dk_42 (dk_at dksX2_type_2 9 rfl rfl)
theorem dX2_type_54 : decode cX2_type 54 = .ok (.getfield 13, 3) := dk_180 0 13 (dk_at dksX2_type_2 10 rfl rfl)
theorem dX2_type_57 : decode cX2_type 57 = .ok (.invokevirtual 153, 3) := dk_182 0 153 (dk_at dksX2_type_2 13 rfl rfl)
theorem dX2_type_60 : decode cX2_type 60 = .ok (.ireturn, 1) := dk_172 (dk_at dksX2_type_2 16 rfl rfl)
abbrev cX2_refuse : ByteArray := prog_32_method_3_code
def yX2_refuse : MethodName := ⟨RX2, "refuse", "(I)I"⟩
def dkwX2_refuse_0 : List UInt8 := [42, 27, 181, 0, 7, 3, 172]
abbrev dktX2_refuse_0 : List UInt8 := dkwX2_refuse_0 ++ []
theorem dksX2_refuse_0 : cX2_refuse.data.toList.drop 0 = dktX2_refuse_0 := by decide +kernel
theorem dX2_refuse_0 : decode cX2_refuse 0 = .ok (.aload_n 0, 1) := dk_42 (dk_at dksX2_refuse_0 0 rfl rfl)
theorem dX2_refuse_1 : decode cX2_refuse 1 = .ok (.iload_n 1, 1) := dk_27 (dk_at dksX2_refuse_0 1 rfl rfl)
theorem dX2_refuse_2 : decode cX2_refuse 2 = .ok (.putfield 7, 3) := dk_181 0 7 (dk_at dksX2_refuse_0 2 rfl rfl)
theorem dX2_refuse_5 : decode cX2_refuse 5 = .ok (.iconst 0, 1) := dk_3 (dk_at dksX2_refuse_0 5 rfl rfl)
theorem dX2_refuse_6 : decode cX2_refuse 6 = .ok (.ireturn, 1) := dk_172 (dk_at dksX2_refuse_0 6 rfl rfl)
abbrev cX2_fine : ByteArray := prog_32_method_4_code
def yX2_fine : MethodName := ⟨RX2, "fine", "(I)I"⟩
def dkwX2_fine_0 : List UInt8 := [42, 3, 181, 0, 7, 27, 172]
abbrev dktX2_fine_0 : List UInt8 := dkwX2_fine_0 ++ []
theorem dksX2_fine_0 : cX2_fine.data.toList.drop 0 = dktX2_fine_0 := by decide +kernel
theorem dX2_fine_0 : decode cX2_fine 0 = .ok (.aload_n 0, 1) := dk_42 (dk_at dksX2_fine_0 0 rfl rfl)
theorem dX2_fine_1 : decode cX2_fine 1 = .ok (.iconst 0, 1) := dk_3 (dk_at dksX2_fine_0 1 rfl rfl)
theorem dX2_fine_2 : decode cX2_fine 2 = .ok (.putfield 7, 3) := dk_181 0 7 (dk_at dksX2_fine_0 2 rfl rfl)
theorem dX2_fine_5 : decode cX2_fine 5 = .ok (.iload_n 1, 1) := dk_27 (dk_at dksX2_fine_0 5 rfl rfl)
theorem dX2_fine_6 : decode cX2_fine 6 = .ok (.ireturn, 1) := dk_172 (dk_at dksX2_fine_0 6 rfl rfl)
abbrev cX2_enter : ByteArray := prog_32_method_43_code
def yX2_enter : MethodName := ⟨RX2, "enter", "()I"⟩
def dkwX2_enter_10 : List UInt8 := [182, 0, 153, 172]
abbrev dktX2_enter_10 : List UInt8 := dkwX2_enter_10 ++ []
def dkwX2_enter_9 : List UInt8 := [182, 1, 73, 61, 28, 156, 0, 9, 42, 6, 182, 0, 149, 172, 42, 28, 182, 1, 79, 42, 42, 182, 1, 76]
abbrev dktX2_enter_9 : List UInt8 := dkwX2_enter_9 ++ dktX2_enter_10
def dkwX2_enter_8 : List UInt8 := [42, 180, 0, 42, 28, 3, 79, 42, 42, 182, 1, 76, 182, 0, 153, 172, 28, 156, 0, 9, 42, 3]
abbrev dktX2_enter_8 : List UInt8 := dkwX2_enter_8 ++ dktX2_enter_9
def dkwX2_enter_7 : List UInt8 := [180, 0, 42, 16, 24, 46, 182, 1, 73, 61, 27, 153, 0, 29, 28, 156, 0, 9, 42, 5, 182, 0, 149, 172]
abbrev dktX2_enter_7 : List UInt8 := dkwX2_enter_7 ++ dktX2_enter_8
def dkwX2_enter_6 : List UInt8 := [42, 180, 0, 31, 153, 0, 17, 42, 42, 180, 0, 22, 181, 0, 19, 42, 4, 182, 0, 149, 172, 42, 42]
abbrev dktX2_enter_6 : List UInt8 := dkwX2_enter_6 ++ dktX2_enter_7
def dkwX2_enter_5 : List UInt8 := [160, 0, 7, 4, 167, 0, 4, 3, 60, 27, 154, 0, 14, 42, 180, 0, 31, 154, 0, 7, 42, 182, 1, 70]
abbrev dktX2_enter_5 : List UInt8 := dkwX2_enter_5 ++ dktX2_enter_6
def dkwX2_enter_4 : List UInt8 := [16, 24, 42, 182, 1, 40, 79, 42, 180, 0, 31, 154, 0, 18, 42, 180, 0, 22, 42, 180, 0, 16]
abbrev dktX2_enter_4 : List UInt8 := dkwX2_enter_4 ++ dktX2_enter_5
def dkwX2_enter_3 : List UInt8 := [42, 3, 181, 0, 25, 42, 3, 181, 0, 28, 42, 3, 181, 0, 31, 42, 2, 181, 0, 19, 42, 180, 0, 42]
abbrev dktX2_enter_3 : List UInt8 := dkwX2_enter_3 ++ dktX2_enter_4
def dkwX2_enter_2 : List UInt8 := [180, 0, 16, 4, 96, 181, 0, 16, 132, 1, 1, 167, 255, 206, 42, 3, 181, 0, 13, 42, 3, 181, 0, 22]
abbrev dktX2_enter_2 : List UInt8 := dkwX2_enter_2 ++ dktX2_enter_3
def dkwX2_enter_1 : List UInt8 := [160, 0, 6, 167, 0, 28, 42, 180, 0, 39, 42, 180, 0, 16, 42, 180, 0, 35, 27, 52, 85, 42, 89]
abbrev dktX2_enter_1 : List UInt8 := dkwX2_enter_1 ++ dktX2_enter_2
def dkwX2_enter_0 : List UInt8 := [42, 3, 181, 0, 16, 3, 60, 27, 42, 180, 0, 13, 162, 0, 48, 42, 180, 0, 35, 27, 52, 16, 32]
abbrev dktX2_enter_0 : List UInt8 := dkwX2_enter_0 ++ dktX2_enter_1
theorem dksX2_enter_0 : cX2_enter.data.toList.drop 0 = dktX2_enter_0 := by decide +kernel
theorem dksX2_enter_1 : cX2_enter.data.toList.drop 23 = dktX2_enter_1 := dk_seg dksX2_enter_0 23 rfl rfl
theorem dksX2_enter_2 : cX2_enter.data.toList.drop 46 = dktX2_enter_2 := dk_seg dksX2_enter_1 23 rfl rfl
theorem dksX2_enter_3 : cX2_enter.data.toList.drop 70 = dktX2_enter_3 := dk_seg dksX2_enter_2 24 rfl rfl
theorem dksX2_enter_4 : cX2_enter.data.toList.drop 94 = dktX2_enter_4 := dk_seg dksX2_enter_3 24 rfl rfl
theorem dksX2_enter_5 : cX2_enter.data.toList.drop 116 = dktX2_enter_5 := dk_seg dksX2_enter_4 22 rfl rfl
theorem dksX2_enter_6 : cX2_enter.data.toList.drop 140 = dktX2_enter_6 := dk_seg dksX2_enter_5 24 rfl rfl
theorem dksX2_enter_7 : cX2_enter.data.toList.drop 163 = dktX2_enter_7 := dk_seg dksX2_enter_6 23 rfl rfl
theorem dksX2_enter_8 : cX2_enter.data.toList.drop 187 = dktX2_enter_8 := dk_seg dksX2_enter_7 24 rfl rfl
theorem dksX2_enter_9 : cX2_enter.data.toList.drop 209 = dktX2_enter_9 := dk_seg dksX2_enter_8 22 rfl rfl
theorem dksX2_enter_10 : cX2_enter.data.toList.drop 233 = dktX2_enter_10 := dk_seg dksX2_enter_9 24 rfl rfl
theorem dX2_enter_0 : decode cX2_enter 0 = .ok (.aload_n 0, 1) := dk_42 (dk_at dksX2_enter_0 0 rfl rfl)
theorem dX2_enter_1 : decode cX2_enter 1 = .ok (.iconst 0, 1) := dk_3 (dk_at dksX2_enter_0 1 rfl rfl)
theorem dX2_enter_2 : decode cX2_enter 2 = .ok (.putfield 16, 3) := dk_181 0 16 (dk_at dksX2_enter_0 2 rfl rfl)
theorem dX2_enter_5 : decode cX2_enter 5 = .ok (.iconst 0, 1) := dk_3 (dk_at dksX2_enter_0 5 rfl rfl)
theorem dX2_enter_6 : decode cX2_enter 6 = .ok (.istore_n 1, 1) := dk_60 (dk_at dksX2_enter_0 6 rfl rfl)
theorem dX2_enter_7 : decode cX2_enter 7 = .ok (.iload_n 1, 1) := dk_27 (dk_at dksX2_enter_0 7 rfl rfl)
theorem dX2_enter_8 : decode cX2_enter 8 = .ok (.aload_n 0, 1) := dk_42 (dk_at dksX2_enter_0 8 rfl rfl)
theorem dX2_enter_9 : decode cX2_enter 9 = .ok (.getfield 13, 3) := dk_180 0 13 (dk_at dksX2_enter_0 9 rfl rfl)
theorem dX2_enter_12 : decode cX2_enter 12 = .ok (.if_icmp .ge 48, 3) := dk_162 0 48 (dk_at dksX2_enter_0 12 rfl rfl)
theorem dX2_enter_15 : decode cX2_enter 15 = .ok (.aload_n 0, 1) := dk_42 (dk_at dksX2_enter_0 15 rfl rfl)
theorem dX2_enter_16 : decode cX2_enter 16 = .ok (.getfield 35, 3) := dk_180 0 35 (dk_at dksX2_enter_0 16 rfl rfl)
theorem dX2_enter_19 : decode cX2_enter 19 = .ok (.iload_n 1, 1) := dk_27 (dk_at dksX2_enter_0 19 rfl rfl)
theorem dX2_enter_20 : decode cX2_enter 20 = .ok (.caload, 1) := dk_52 (dk_at dksX2_enter_0 20 rfl rfl)
theorem dX2_enter_21 : decode cX2_enter 21 = .ok (.bipush 32, 2) := dk_16 32 (dk_at dksX2_enter_0 21 rfl rfl)
theorem dX2_enter_23 : decode cX2_enter 23 = .ok (.if_icmp .ne 6, 3) := dk_160 0 6 (dk_at dksX2_enter_1 0 rfl rfl)
theorem dX2_enter_26 : decode cX2_enter 26 = .ok (.goto 28, 3) := dk_167 0 28 (dk_at dksX2_enter_1 3 rfl rfl)
theorem dX2_enter_29 : decode cX2_enter 29 = .ok (.aload_n 0, 1) := dk_42 (dk_at dksX2_enter_1 6 rfl rfl)
theorem dX2_enter_30 : decode cX2_enter 30 = .ok (.getfield 39, 3) := dk_180 0 39 (dk_at dksX2_enter_1 7 rfl rfl)
theorem dX2_enter_33 : decode cX2_enter 33 = .ok (.aload_n 0, 1) := dk_42 (dk_at dksX2_enter_1 10 rfl rfl)
theorem dX2_enter_34 : decode cX2_enter 34 = .ok (.getfield 16, 3) := dk_180 0 16 (dk_at dksX2_enter_1 11 rfl rfl)
theorem dX2_enter_37 : decode cX2_enter 37 = .ok (.aload_n 0, 1) := dk_42 (dk_at dksX2_enter_1 14 rfl rfl)
theorem dX2_enter_38 : decode cX2_enter 38 = .ok (.getfield 35, 3) := dk_180 0 35 (dk_at dksX2_enter_1 15 rfl rfl)
theorem dX2_enter_41 : decode cX2_enter 41 = .ok (.iload_n 1, 1) := dk_27 (dk_at dksX2_enter_1 18 rfl rfl)
theorem dX2_enter_42 : decode cX2_enter 42 = .ok (.caload, 1) := dk_52 (dk_at dksX2_enter_1 19 rfl rfl)
theorem dX2_enter_43 : decode cX2_enter 43 = .ok (.castore, 1) := dk_85 (dk_at dksX2_enter_1 20 rfl rfl)
theorem dX2_enter_44 : decode cX2_enter 44 = .ok (.aload_n 0, 1) := dk_42 (dk_at dksX2_enter_1 21 rfl rfl)
theorem dX2_enter_45 : decode cX2_enter 45 = .ok (.dup, 1) := dk_89 (dk_at dksX2_enter_1 22 rfl rfl)
theorem dX2_enter_46 : decode cX2_enter 46 = .ok (.getfield 16, 3) := dk_180 0 16 (dk_at dksX2_enter_2 0 rfl rfl)
theorem dX2_enter_49 : decode cX2_enter 49 = .ok (.iconst 1, 1) := dk_4 (dk_at dksX2_enter_2 3 rfl rfl)
theorem dX2_enter_50 : decode cX2_enter 50 = .ok (.iadd, 1) := dk_96 (dk_at dksX2_enter_2 4 rfl rfl)
theorem dX2_enter_51 : decode cX2_enter 51 = .ok (.putfield 16, 3) := dk_181 0 16 (dk_at dksX2_enter_2 5 rfl rfl)
theorem dX2_enter_54 : decode cX2_enter 54 = .ok (.iinc 1 1, 3) := dk_132 1 1 (dk_at dksX2_enter_2 8 rfl rfl)
theorem dX2_enter_57 : decode cX2_enter 57 = .ok (.goto (-50), 3) := dk_167 255 206 (dk_at dksX2_enter_2 11 rfl rfl)
theorem dX2_enter_60 : decode cX2_enter 60 = .ok (.aload_n 0, 1) := dk_42 (dk_at dksX2_enter_2 14 rfl rfl)
theorem dX2_enter_61 : decode cX2_enter 61 = .ok (.iconst 0, 1) := dk_3 (dk_at dksX2_enter_2 15 rfl rfl)
theorem dX2_enter_62 : decode cX2_enter 62 = .ok (.putfield 13, 3) := dk_181 0 13 (dk_at dksX2_enter_2 16 rfl rfl)
theorem dX2_enter_65 : decode cX2_enter 65 = .ok (.aload_n 0, 1) := dk_42 (dk_at dksX2_enter_2 19 rfl rfl)
theorem dX2_enter_66 : decode cX2_enter 66 = .ok (.iconst 0, 1) := dk_3 (dk_at dksX2_enter_2 20 rfl rfl)
theorem dX2_enter_67 : decode cX2_enter 67 = .ok (.putfield 22, 3) := dk_181 0 22 (dk_at dksX2_enter_2 21 rfl rfl)
theorem dX2_enter_70 : decode cX2_enter 70 = .ok (.aload_n 0, 1) := dk_42 (dk_at dksX2_enter_3 0 rfl rfl)
theorem dX2_enter_71 : decode cX2_enter 71 = .ok (.iconst 0, 1) := dk_3 (dk_at dksX2_enter_3 1 rfl rfl)
theorem dX2_enter_72 : decode cX2_enter 72 = .ok (.putfield 25, 3) := dk_181 0 25 (dk_at dksX2_enter_3 2 rfl rfl)
theorem dX2_enter_75 : decode cX2_enter 75 = .ok (.aload_n 0, 1) := dk_42 (dk_at dksX2_enter_3 5 rfl rfl)
theorem dX2_enter_76 : decode cX2_enter 76 = .ok (.iconst 0, 1) := dk_3 (dk_at dksX2_enter_3 6 rfl rfl)
theorem dX2_enter_77 : decode cX2_enter 77 = .ok (.putfield 28, 3) := dk_181 0 28 (dk_at dksX2_enter_3 7 rfl rfl)
theorem dX2_enter_80 : decode cX2_enter 80 = .ok (.aload_n 0, 1) := dk_42 (dk_at dksX2_enter_3 10 rfl rfl)
theorem dX2_enter_81 : decode cX2_enter 81 = .ok (.iconst 0, 1) := dk_3 (dk_at dksX2_enter_3 11 rfl rfl)
theorem dX2_enter_82 : decode cX2_enter 82 = .ok (.putfield 31, 3) := dk_181 0 31 (dk_at dksX2_enter_3 12 rfl rfl)
theorem dX2_enter_85 : decode cX2_enter 85 = .ok (.aload_n 0, 1) := dk_42 (dk_at dksX2_enter_3 15 rfl rfl)
theorem dX2_enter_86 : decode cX2_enter 86 = .ok (.iconst (-1), 1) := dk_2 (dk_at dksX2_enter_3 16 rfl rfl)
theorem dX2_enter_87 : decode cX2_enter 87 = .ok (.putfield 19, 3) := dk_181 0 19 (dk_at dksX2_enter_3 17 rfl rfl)
theorem dX2_enter_90 : decode cX2_enter 90 = .ok (.aload_n 0, 1) := dk_42 (dk_at dksX2_enter_3 20 rfl rfl)
theorem dX2_enter_91 : decode cX2_enter 91 = .ok (.getfield 42, 3) := dk_180 0 42 (dk_at dksX2_enter_3 21 rfl rfl)
theorem dX2_enter_94 : decode cX2_enter 94 = .ok (.bipush 24, 2) := dk_16 24 (dk_at dksX2_enter_4 0 rfl rfl)
theorem dX2_enter_96 : decode cX2_enter 96 = .ok (.aload_n 0, 1) := dk_42 (dk_at dksX2_enter_4 2 rfl rfl)
theorem dX2_enter_97 : decode cX2_enter 97 = .ok (.invokevirtual 296, 3) := dk_182 1 40 (dk_at dksX2_enter_4 3 rfl rfl)
theorem dX2_enter_100 : decode cX2_enter 100 = .ok (.iastore, 1) := dk_79 (dk_at dksX2_enter_4 6 rfl rfl)
theorem dX2_enter_101 : decode cX2_enter 101 = .ok (.aload_n 0, 1) := dk_42 (dk_at dksX2_enter_4 7 rfl rfl)
theorem dX2_enter_102 : decode cX2_enter 102 = .ok (.getfield 31, 3) := dk_180 0 31 (dk_at dksX2_enter_4 8 rfl rfl)
theorem dX2_enter_105 : decode cX2_enter 105 = .ok (.ifCond .ne 18, 3) := dk_154 0 18 (dk_at dksX2_enter_4 11 rfl rfl)
theorem dX2_enter_108 : decode cX2_enter 108 = .ok (.aload_n 0, 1) := dk_42 (dk_at dksX2_enter_4 14 rfl rfl)
theorem dX2_enter_109 : decode cX2_enter 109 = .ok (.getfield 22, 3) := dk_180 0 22 (dk_at dksX2_enter_4 15 rfl rfl)
theorem dX2_enter_112 : decode cX2_enter 112 = .ok (.aload_n 0, 1) := dk_42 (dk_at dksX2_enter_4 18 rfl rfl)
theorem dX2_enter_113 : decode cX2_enter 113 = .ok (.getfield 16, 3) := dk_180 0 16 (dk_at dksX2_enter_4 19 rfl rfl)
theorem dX2_enter_116 : decode cX2_enter 116 = .ok (.if_icmp .ne 7, 3) := dk_160 0 7 (dk_at dksX2_enter_5 0 rfl rfl)
theorem dX2_enter_119 : decode cX2_enter 119 = .ok (.iconst 1, 1) := dk_4 (dk_at dksX2_enter_5 3 rfl rfl)
theorem dX2_enter_120 : decode cX2_enter 120 = .ok (.goto 4, 3) := dk_167 0 4 (dk_at dksX2_enter_5 4 rfl rfl)
theorem dX2_enter_123 : decode cX2_enter 123 = .ok (.iconst 0, 1) := dk_3 (dk_at dksX2_enter_5 7 rfl rfl)
theorem dX2_enter_124 : decode cX2_enter 124 = .ok (.istore_n 1, 1) := dk_60 (dk_at dksX2_enter_5 8 rfl rfl)
theorem dX2_enter_125 : decode cX2_enter 125 = .ok (.iload_n 1, 1) := dk_27 (dk_at dksX2_enter_5 9 rfl rfl)
theorem dX2_enter_126 : decode cX2_enter 126 = .ok (.ifCond .ne 14, 3) := dk_154 0 14 (dk_at dksX2_enter_5 10 rfl rfl)
theorem dX2_enter_129 : decode cX2_enter 129 = .ok (.aload_n 0, 1) := dk_42 (dk_at dksX2_enter_5 13 rfl rfl)
theorem dX2_enter_130 : decode cX2_enter 130 = .ok (.getfield 31, 3) := dk_180 0 31 (dk_at dksX2_enter_5 14 rfl rfl)
theorem dX2_enter_133 : decode cX2_enter 133 = .ok (.ifCond .ne 7, 3) := dk_154 0 7 (dk_at dksX2_enter_5 17 rfl rfl)
theorem dX2_enter_136 : decode cX2_enter 136 = .ok (.aload_n 0, 1) := dk_42 (dk_at dksX2_enter_5 20 rfl rfl)
theorem dX2_enter_137 : decode cX2_enter 137 = .ok (.invokevirtual 326, 3) := dk_182 1 70 (dk_at dksX2_enter_5 21 rfl rfl)
theorem dX2_enter_140 : decode cX2_enter 140 = .ok (.aload_n 0, 1) := dk_42 (dk_at dksX2_enter_6 0 rfl rfl)
theorem dX2_enter_141 : decode cX2_enter 141 = .ok (.getfield 31, 3) := dk_180 0 31 (dk_at dksX2_enter_6 1 rfl rfl)
theorem dX2_enter_144 : decode cX2_enter 144 = .ok (.ifCond .eq 17, 3) := dk_153 0 17 (dk_at dksX2_enter_6 4 rfl rfl)
theorem dX2_enter_147 : decode cX2_enter 147 = .ok (.aload_n 0, 1) := dk_42 (dk_at dksX2_enter_6 7 rfl rfl)
theorem dX2_enter_148 : decode cX2_enter 148 = .ok (.aload_n 0, 1) := dk_42 (dk_at dksX2_enter_6 8 rfl rfl)
theorem dX2_enter_149 : decode cX2_enter 149 = .ok (.getfield 22, 3) := dk_180 0 22 (dk_at dksX2_enter_6 9 rfl rfl)
theorem dX2_enter_152 : decode cX2_enter 152 = .ok (.putfield 19, 3) := dk_181 0 19 (dk_at dksX2_enter_6 12 rfl rfl)
theorem dX2_enter_155 : decode cX2_enter 155 = .ok (.aload_n 0, 1) := dk_42 (dk_at dksX2_enter_6 15 rfl rfl)
theorem dX2_enter_156 : decode cX2_enter 156 = .ok (.iconst 1, 1) := dk_4 (dk_at dksX2_enter_6 16 rfl rfl)
theorem dX2_enter_157 : decode cX2_enter 157 = .ok (.invokevirtual 149, 3) := dk_182 0 149 (dk_at dksX2_enter_6 17 rfl rfl)
theorem dX2_enter_160 : decode cX2_enter 160 = .ok (.ireturn, 1) := dk_172 (dk_at dksX2_enter_6 20 rfl rfl)
theorem dX2_enter_161 : decode cX2_enter 161 = .ok (.aload_n 0, 1) := dk_42 (dk_at dksX2_enter_6 21 rfl rfl)
theorem dX2_enter_162 : decode cX2_enter 162 = .ok (.aload_n 0, 1) := dk_42 (dk_at dksX2_enter_6 22 rfl rfl)
theorem dX2_enter_163 : decode cX2_enter 163 = .ok (.getfield 42, 3) := dk_180 0 42 (dk_at dksX2_enter_7 0 rfl rfl)
theorem dX2_enter_166 : decode cX2_enter 166 = .ok (.bipush 24, 2) := dk_16 24 (dk_at dksX2_enter_7 3 rfl rfl)
theorem dX2_enter_168 : decode cX2_enter 168 = .ok (.iaload, 1) := dk_46 (dk_at dksX2_enter_7 5 rfl rfl)
theorem dX2_enter_169 : decode cX2_enter 169 = .ok (.invokevirtual 329, 3) := dk_182 1 73 (dk_at dksX2_enter_7 6 rfl rfl)
theorem dX2_enter_172 : decode cX2_enter 172 = .ok (.istore_n 2, 1) := dk_61 (dk_at dksX2_enter_7 9 rfl rfl)
theorem dX2_enter_173 : decode cX2_enter 173 = .ok (.iload_n 1, 1) := dk_27 (dk_at dksX2_enter_7 10 rfl rfl)
theorem dX2_enter_174 : decode cX2_enter 174 = .ok (.ifCond .eq 29, 3) := dk_153 0 29 (dk_at dksX2_enter_7 11 rfl rfl)
theorem dX2_enter_177 : decode cX2_enter 177 = .ok (.iload_n 2, 1) := dk_28 (dk_at dksX2_enter_7 14 rfl rfl)
theorem dX2_enter_178 : decode cX2_enter 178 = .ok (.ifCond .ge 9, 3) := dk_156 0 9 (dk_at dksX2_enter_7 15 rfl rfl)
theorem dX2_enter_181 : decode cX2_enter 181 = .ok (.aload_n 0, 1) := dk_42 (dk_at dksX2_enter_7 18 rfl rfl)
theorem dX2_enter_182 : decode cX2_enter 182 = .ok (.iconst 2, 1) := dk_5 (dk_at dksX2_enter_7 19 rfl rfl)
theorem dX2_enter_183 : decode cX2_enter 183 = .ok (.invokevirtual 149, 3) := dk_182 0 149 (dk_at dksX2_enter_7 20 rfl rfl)
theorem dX2_enter_186 : decode cX2_enter 186 = .ok (.ireturn, 1) := dk_172 (dk_at dksX2_enter_7 23 rfl rfl)
theorem dX2_enter_187 : decode cX2_enter 187 = .ok (.aload_n 0, 1) := dk_42 (dk_at dksX2_enter_8 0 rfl rfl)
theorem dX2_enter_188 : decode cX2_enter 188 = .ok (.getfield 42, 3) := dk_180 0 42 (dk_at dksX2_enter_8 1 rfl rfl)
theorem dX2_enter_191 : decode cX2_enter 191 = .ok (.iload_n 2, 1) := dk_28 (dk_at dksX2_enter_8 4 rfl rfl)
theorem dX2_enter_192 : decode cX2_enter 192 = .ok (.iconst 0, 1) := dk_3 (dk_at dksX2_enter_8 5 rfl rfl)
theorem dX2_enter_193 : decode cX2_enter 193 = .ok (.iastore, 1) := dk_79 (dk_at dksX2_enter_8 6 rfl rfl)
theorem dX2_enter_194 : decode cX2_enter 194 = .ok (.aload_n 0, 1) := dk_42 (dk_at dksX2_enter_8 7 rfl rfl)
theorem dX2_enter_195 : decode cX2_enter 195 = .ok (.aload_n 0, 1) := dk_42 (dk_at dksX2_enter_8 8 rfl rfl)
theorem dX2_enter_196 : decode cX2_enter 196 = .ok (.invokevirtual 332, 3) := dk_182 1 76 (dk_at dksX2_enter_8 9 rfl rfl)
theorem dX2_enter_199 : decode cX2_enter 199 = .ok (.invokevirtual 153, 3) := dk_182 0 153 (dk_at dksX2_enter_8 12 rfl rfl)
theorem dX2_enter_202 : decode cX2_enter 202 = .ok (.ireturn, 1) := dk_172 (dk_at dksX2_enter_8 15 rfl rfl)
theorem dX2_enter_203 : decode cX2_enter 203 = .ok (.iload_n 2, 1) := dk_28 (dk_at dksX2_enter_8 16 rfl rfl)
theorem dX2_enter_204 : decode cX2_enter 204 = .ok (.ifCond .ge 9, 3) := dk_156 0 9 (dk_at dksX2_enter_8 17 rfl rfl)
theorem dX2_enter_207 : decode cX2_enter 207 = .ok (.aload_n 0, 1) := dk_42 (dk_at dksX2_enter_8 20 rfl rfl)
theorem dX2_enter_208 : decode cX2_enter 208 = .ok (.iconst 0, 1) := dk_3 (dk_at dksX2_enter_8 21 rfl rfl)
theorem dX2_enter_209 : decode cX2_enter 209 = .ok (.invokevirtual 329, 3) := dk_182 1 73 (dk_at dksX2_enter_9 0 rfl rfl)
theorem dX2_enter_212 : decode cX2_enter 212 = .ok (.istore_n 2, 1) := dk_61 (dk_at dksX2_enter_9 3 rfl rfl)
theorem dX2_enter_213 : decode cX2_enter 213 = .ok (.iload_n 2, 1) := dk_28 (dk_at dksX2_enter_9 4 rfl rfl)
theorem dX2_enter_214 : decode cX2_enter 214 = .ok (.ifCond .ge 9, 3) := dk_156 0 9 (dk_at dksX2_enter_9 5 rfl rfl)
theorem dX2_enter_217 : decode cX2_enter 217 = .ok (.aload_n 0, 1) := dk_42 (dk_at dksX2_enter_9 8 rfl rfl)
theorem dX2_enter_218 : decode cX2_enter 218 = .ok (.iconst 3, 1) := dk_6 (dk_at dksX2_enter_9 9 rfl rfl)
theorem dX2_enter_219 : decode cX2_enter 219 = .ok (.invokevirtual 149, 3) := dk_182 0 149 (dk_at dksX2_enter_9 10 rfl rfl)
theorem dX2_enter_222 : decode cX2_enter 222 = .ok (.ireturn, 1) := dk_172 (dk_at dksX2_enter_9 13 rfl rfl)
theorem dX2_enter_223 : decode cX2_enter 223 = .ok (.aload_n 0, 1) := dk_42 (dk_at dksX2_enter_9 14 rfl rfl)
theorem dX2_enter_224 : decode cX2_enter 224 = .ok (.iload_n 2, 1) := dk_28 (dk_at dksX2_enter_9 15 rfl rfl)
theorem dX2_enter_225 : decode cX2_enter 225 = .ok (.invokevirtual 335, 3) := dk_182 1 79 (dk_at dksX2_enter_9 16 rfl rfl)
theorem dX2_enter_228 : decode cX2_enter 228 = .ok (.aload_n 0, 1) := dk_42 (dk_at dksX2_enter_9 19 rfl rfl)
theorem dX2_enter_229 : decode cX2_enter 229 = .ok (.aload_n 0, 1) := dk_42 (dk_at dksX2_enter_9 20 rfl rfl)
theorem dX2_enter_230 : decode cX2_enter 230 = .ok (.invokevirtual 332, 3) := dk_182 1 76 (dk_at dksX2_enter_9 21 rfl rfl)
theorem dX2_enter_233 : decode cX2_enter 233 = .ok (.invokevirtual 153, 3) := dk_182 0 153 (dk_at dksX2_enter_10 0 rfl rfl)
theorem dX2_enter_236 : decode cX2_enter 236 = .ok (.ireturn, 1) := dk_172 (dk_at dksX2_enter_10 3 rfl rfl)
abbrev cX2_lineNumber : ByteArray := prog_32_method_15_code
def yX2_lineNumber : MethodName := ⟨RX2, "lineNumber", "()I"⟩
def dkwX2_lineNumber_3 : List UInt8 := [167, 255, 200, 27, 154, 0, 8, 42, 4, 181, 0, 31, 27, 172]
abbrev dktX2_lineNumber_3 : List UInt8 := dkwX2_lineNumber_3 ++ []
def dkwX2_lineNumber_2 : List UInt8 := [104, 42, 182, 0, 156, 96, 16, 48, 100, 60, 42, 89, 180, 0, 22, 4, 96, 181, 0, 22, 132, 2, 1]
abbrev dktX2_lineNumber_2 : List UInt8 := dkwX2_lineNumber_2 ++ dktX2_lineNumber_3
def dkwX2_lineNumber_1 : List UInt8 := [153, 0, 50, 28, 5, 160, 0, 16, 27, 154, 0, 12, 42, 182, 0, 156, 16, 48, 159, 0, 32, 27, 16, 10]
abbrev dktX2_lineNumber_1 : List UInt8 := dkwX2_lineNumber_1 ++ dktX2_lineNumber_2
def dkwX2_lineNumber_0 : List UInt8 := [3, 60, 3, 61, 42, 180, 0, 31, 153, 0, 5, 3, 172, 28, 6, 162, 0, 57, 42, 182, 0, 237]
abbrev dktX2_lineNumber_0 : List UInt8 := dkwX2_lineNumber_0 ++ dktX2_lineNumber_1
theorem dksX2_lineNumber_0 : cX2_lineNumber.data.toList.drop 0 = dktX2_lineNumber_0 := by decide +kernel
theorem dksX2_lineNumber_1 : cX2_lineNumber.data.toList.drop 22 = dktX2_lineNumber_1 := dk_seg dksX2_lineNumber_0 22 rfl rfl
theorem dksX2_lineNumber_2 : cX2_lineNumber.data.toList.drop 46 = dktX2_lineNumber_2 := dk_seg dksX2_lineNumber_1 24 rfl rfl
theorem dksX2_lineNumber_3 : cX2_lineNumber.data.toList.drop 69 = dktX2_lineNumber_3 := dk_seg dksX2_lineNumber_2 23 rfl rfl
theorem dX2_lineNumber_0 : decode cX2_lineNumber 0 = .ok (.iconst 0, 1) := dk_3 (dk_at dksX2_lineNumber_0 0 rfl rfl)
theorem dX2_lineNumber_1 : decode cX2_lineNumber 1 = .ok (.istore_n 1, 1) := dk_60 (dk_at dksX2_lineNumber_0 1 rfl rfl)
theorem dX2_lineNumber_2 : decode cX2_lineNumber 2 = .ok (.iconst 0, 1) := dk_3 (dk_at dksX2_lineNumber_0 2 rfl rfl)
theorem dX2_lineNumber_3 : decode cX2_lineNumber 3 = .ok (.istore_n 2, 1) := dk_61 (dk_at dksX2_lineNumber_0 3 rfl rfl)
theorem dX2_lineNumber_4 : decode cX2_lineNumber 4 = .ok (.aload_n 0, 1) := dk_42 (dk_at dksX2_lineNumber_0 4 rfl rfl)
theorem dX2_lineNumber_5 : decode cX2_lineNumber 5 = .ok (.getfield 31, 3) := dk_180 0 31 (dk_at dksX2_lineNumber_0 5 rfl rfl)
theorem dX2_lineNumber_8 : decode cX2_lineNumber 8 = .ok (.ifCond .eq 5, 3) := dk_153 0 5 (dk_at dksX2_lineNumber_0 8 rfl rfl)
theorem dX2_lineNumber_11 : decode cX2_lineNumber 11 = .ok (.iconst 0, 1) := dk_3 (dk_at dksX2_lineNumber_0 11 rfl rfl)
theorem dX2_lineNumber_12 : decode cX2_lineNumber 12 = .ok (.ireturn, 1) := dk_172 (dk_at dksX2_lineNumber_0 12 rfl rfl)
theorem dX2_lineNumber_13 : decode cX2_lineNumber 13 = .ok (.iload_n 2, 1) := dk_28 (dk_at dksX2_lineNumber_0 13 rfl rfl)
theorem dX2_lineNumber_14 : decode cX2_lineNumber 14 = .ok (.iconst 3, 1) := dk_6 (dk_at dksX2_lineNumber_0 14 rfl rfl)
theorem dX2_lineNumber_15 : decode cX2_lineNumber 15 = .ok (.if_icmp .ge 57, 3) := dk_162 0 57 (dk_at dksX2_lineNumber_0 15 rfl rfl)
theorem dX2_lineNumber_18 : decode cX2_lineNumber 18 = .ok (.aload_n 0, 1) := dk_42 (dk_at dksX2_lineNumber_0 18 rfl rfl)
theorem dX2_lineNumber_19 : decode cX2_lineNumber 19 = .ok (.invokevirtual 237, 3) := dk_182 0 237 (dk_at dksX2_lineNumber_0 19 rfl rfl)
theorem dX2_lineNumber_22 : decode cX2_lineNumber 22 = .ok (.ifCond .eq 50, 3) := dk_153 0 50 (dk_at dksX2_lineNumber_1 0 rfl rfl)
theorem dX2_lineNumber_25 : decode cX2_lineNumber 25 = .ok (.iload_n 2, 1) := dk_28 (dk_at dksX2_lineNumber_1 3 rfl rfl)
theorem dX2_lineNumber_26 : decode cX2_lineNumber 26 = .ok (.iconst 2, 1) := dk_5 (dk_at dksX2_lineNumber_1 4 rfl rfl)
theorem dX2_lineNumber_27 : decode cX2_lineNumber 27 = .ok (.if_icmp .ne 16, 3) := dk_160 0 16 (dk_at dksX2_lineNumber_1 5 rfl rfl)
theorem dX2_lineNumber_30 : decode cX2_lineNumber 30 = .ok (.iload_n 1, 1) := dk_27 (dk_at dksX2_lineNumber_1 8 rfl rfl)
theorem dX2_lineNumber_31 : decode cX2_lineNumber 31 = .ok (.ifCond .ne 12, 3) := dk_154 0 12 (dk_at dksX2_lineNumber_1 9 rfl rfl)
theorem dX2_lineNumber_34 : decode cX2_lineNumber 34 = .ok (.aload_n 0, 1) := dk_42 (dk_at dksX2_lineNumber_1 12 rfl rfl)
theorem dX2_lineNumber_35 : decode cX2_lineNumber 35 = .ok (.invokevirtual 156, 3) := dk_182 0 156 (dk_at dksX2_lineNumber_1 13 rfl rfl)
theorem dX2_lineNumber_38 : decode cX2_lineNumber 38 = .ok (.bipush 48, 2) := dk_16 48 (dk_at dksX2_lineNumber_1 16 rfl rfl)
theorem dX2_lineNumber_40 : decode cX2_lineNumber 40 = .ok (.if_icmp .eq 32, 3) := dk_159 0 32 (dk_at dksX2_lineNumber_1 18 rfl rfl)
theorem dX2_lineNumber_43 : decode cX2_lineNumber 43 = .ok (.iload_n 1, 1) := dk_27 (dk_at dksX2_lineNumber_1 21 rfl rfl)
theorem dX2_lineNumber_44 : decode cX2_lineNumber 44 = .ok (.bipush 10, 2) := dk_16 10 (dk_at dksX2_lineNumber_1 22 rfl rfl)
theorem dX2_lineNumber_46 : decode cX2_lineNumber 46 = .ok (.imul, 1) := dk_104 (dk_at dksX2_lineNumber_2 0 rfl rfl)
theorem dX2_lineNumber_47 : decode cX2_lineNumber 47 = .ok (.aload_n 0, 1) := dk_42 (dk_at dksX2_lineNumber_2 1 rfl rfl)
theorem dX2_lineNumber_48 : decode cX2_lineNumber 48 = .ok (.invokevirtual 156, 3) := dk_182 0 156 (dk_at dksX2_lineNumber_2 2 rfl rfl)
theorem dX2_lineNumber_51 : decode cX2_lineNumber 51 = .ok (.iadd, 1) := dk_96 (dk_at dksX2_lineNumber_2 5 rfl rfl)
theorem dX2_lineNumber_52 : decode cX2_lineNumber 52 = .ok (.bipush 48, 2) := dk_16 48 (dk_at dksX2_lineNumber_2 6 rfl rfl)
theorem dX2_lineNumber_54 : decode cX2_lineNumber 54 = .ok (.isub, 1) := dk_100 (dk_at dksX2_lineNumber_2 8 rfl rfl)
theorem dX2_lineNumber_55 : decode cX2_lineNumber 55 = .ok (.istore_n 1, 1) := dk_60 (dk_at dksX2_lineNumber_2 9 rfl rfl)
theorem dX2_lineNumber_56 : decode cX2_lineNumber 56 = .ok (.aload_n 0, 1) := dk_42 (dk_at dksX2_lineNumber_2 10 rfl rfl)
theorem dX2_lineNumber_57 : decode cX2_lineNumber 57 = .ok (.dup, 1) := dk_89 (dk_at dksX2_lineNumber_2 11 rfl rfl)
theorem dX2_lineNumber_58 : decode cX2_lineNumber 58 = .ok (.getfield 22, 3) := dk_180 0 22 (dk_at dksX2_lineNumber_2 12 rfl rfl)
theorem dX2_lineNumber_61 : decode cX2_lineNumber 61 = .ok (.iconst 1, 1) := dk_4 (dk_at dksX2_lineNumber_2 15 rfl rfl)
theorem dX2_lineNumber_62 : decode cX2_lineNumber 62 = .ok (.iadd, 1) := dk_96 (dk_at dksX2_lineNumber_2 16 rfl rfl)
theorem dX2_lineNumber_63 : decode cX2_lineNumber 63 = .ok (.putfield 22, 3) := dk_181 0 22 (dk_at dksX2_lineNumber_2 17 rfl rfl)
theorem dX2_lineNumber_66 : decode cX2_lineNumber 66 = .ok (.iinc 2 1, 3) := dk_132 2 1 (dk_at dksX2_lineNumber_2 20 rfl rfl)
theorem dX2_lineNumber_69 : decode cX2_lineNumber 69 = .ok (.goto (-56), 3) := dk_167 255 200 (dk_at dksX2_lineNumber_3 0 rfl rfl)
theorem dX2_lineNumber_72 : decode cX2_lineNumber 72 = .ok (.iload_n 1, 1) := dk_27 (dk_at dksX2_lineNumber_3 3 rfl rfl)
theorem dX2_lineNumber_73 : decode cX2_lineNumber 73 = .ok (.ifCond .ne 8, 3) := dk_154 0 8 (dk_at dksX2_lineNumber_3 4 rfl rfl)
theorem dX2_lineNumber_76 : decode cX2_lineNumber 76 = .ok (.aload_n 0, 1) := dk_42 (dk_at dksX2_lineNumber_3 7 rfl rfl)
theorem dX2_lineNumber_77 : decode cX2_lineNumber 77 = .ok (.iconst 1, 1) := dk_4 (dk_at dksX2_lineNumber_3 8 rfl rfl)
theorem dX2_lineNumber_78 : decode cX2_lineNumber 78 = .ok (.putfield 31, 3) := dk_181 0 31 (dk_at dksX2_lineNumber_3 9 rfl rfl)
theorem dX2_lineNumber_81 : decode cX2_lineNumber 81 = .ok (.iload_n 1, 1) := dk_27 (dk_at dksX2_lineNumber_3 12 rfl rfl)
theorem dX2_lineNumber_82 : decode cX2_lineNumber 82 = .ok (.ireturn, 1) := dk_172 (dk_at dksX2_lineNumber_3 13 rfl rfl)
abbrev cX2_isDigit : ByteArray := prog_32_method_10_code
def yX2_isDigit : MethodName := ⟨RX2, "isDigit", "()Z"⟩
def dkwX2_isDigit_0 : List UInt8 := [42, 182, 0, 156, 16, 48, 161, 0, 16, 42, 182, 0, 156, 16, 57, 163, 0, 7, 4, 167, 0, 4, 3, 172]
abbrev dktX2_isDigit_0 : List UInt8 := dkwX2_isDigit_0 ++ []
theorem dksX2_isDigit_0 : cX2_isDigit.data.toList.drop 0 = dktX2_isDigit_0 := by decide +kernel
theorem dX2_isDigit_0 : decode cX2_isDigit 0 = .ok (.aload_n 0, 1) := dk_42 (dk_at dksX2_isDigit_0 0 rfl rfl)
theorem dX2_isDigit_1 : decode cX2_isDigit 1 = .ok (.invokevirtual 156, 3) := dk_182 0 156 (dk_at dksX2_isDigit_0 1 rfl rfl)
theorem dX2_isDigit_4 : decode cX2_isDigit 4 = .ok (.bipush 48, 2) := dk_16 48 (dk_at dksX2_isDigit_0 4 rfl rfl)
theorem dX2_isDigit_6 : decode cX2_isDigit 6 = .ok (.if_icmp .lt 16, 3) := dk_161 0 16 (dk_at dksX2_isDigit_0 6 rfl rfl)
theorem dX2_isDigit_9 : decode cX2_isDigit 9 = .ok (.aload_n 0, 1) := dk_42 (dk_at dksX2_isDigit_0 9 rfl rfl)
theorem dX2_isDigit_10 : decode cX2_isDigit 10 = .ok (.invokevirtual 156, 3) := dk_182 0 156 (dk_at dksX2_isDigit_0 10 rfl rfl)
theorem dX2_isDigit_13 : decode cX2_isDigit 13 = .ok (.bipush 57, 2) := dk_16 57 (dk_at dksX2_isDigit_0 13 rfl rfl)
theorem dX2_isDigit_15 : decode cX2_isDigit 15 = .ok (.if_icmp .gt 7, 3) := dk_163 0 7 (dk_at dksX2_isDigit_0 15 rfl rfl)
theorem dX2_isDigit_18 : decode cX2_isDigit 18 = .ok (.iconst 1, 1) := dk_4 (dk_at dksX2_isDigit_0 18 rfl rfl)
theorem dX2_isDigit_19 : decode cX2_isDigit 19 = .ok (.goto 4, 3) := dk_167 0 4 (dk_at dksX2_isDigit_0 19 rfl rfl)
theorem dX2_isDigit_22 : decode cX2_isDigit 22 = .ok (.iconst 0, 1) := dk_3 (dk_at dksX2_isDigit_0 22 rfl rfl)
theorem dX2_isDigit_23 : decode cX2_isDigit 23 = .ok (.ireturn, 1) := dk_172 (dk_at dksX2_isDigit_0 23 rfl rfl)
abbrev cX2_look : ByteArray := prog_32_method_6_code
def yX2_look : MethodName := ⟨RX2, "look", "()I"⟩
def dkwX2_look_1 : List UInt8 := [172]
abbrev dktX2_look_1 : List UInt8 := dkwX2_look_1 ++ []
def dkwX2_look_0 : List UInt8 := [42, 180, 0, 22, 42, 180, 0, 16, 162, 0, 15, 42, 180, 0, 39, 42, 180, 0, 22, 52, 167, 0, 4, 3]
abbrev dktX2_look_0 : List UInt8 := dkwX2_look_0 ++ dktX2_look_1
theorem dksX2_look_0 : cX2_look.data.toList.drop 0 = dktX2_look_0 := by decide +kernel
theorem dksX2_look_1 : cX2_look.data.toList.drop 24 = dktX2_look_1 := dk_seg dksX2_look_0 24 rfl rfl
theorem dX2_look_0 : decode cX2_look 0 = .ok (.aload_n 0, 1) := dk_42 (dk_at dksX2_look_0 0 rfl rfl)
theorem dX2_look_1 : decode cX2_look 1 = .ok (.getfield 22, 3) := dk_180 0 22 (dk_at dksX2_look_0 1 rfl rfl)
theorem dX2_look_4 : decode cX2_look 4 = .ok (.aload_n 0, 1) := dk_42 (dk_at dksX2_look_0 4 rfl rfl)
theorem dX2_look_5 : decode cX2_look 5 = .ok (.getfield 16, 3) := dk_180 0 16 (dk_at dksX2_look_0 5 rfl rfl)
theorem dX2_look_8 : decode cX2_look 8 = .ok (.if_icmp .ge 15, 3) := dk_162 0 15 (dk_at dksX2_look_0 8 rfl rfl)
theorem dX2_look_11 : decode cX2_look 11 = .ok (.aload_n 0, 1) := dk_42 (dk_at dksX2_look_0 11 rfl rfl)
theorem dX2_look_12 : decode cX2_look 12 = .ok (.getfield 39, 3) := dk_180 0 39 (dk_at dksX2_look_0 12 rfl rfl)
theorem dX2_look_15 : decode cX2_look 15 = .ok (.aload_n 0, 1) := dk_42 (dk_at dksX2_look_0 15 rfl rfl)
theorem dX2_look_16 : decode cX2_look 16 = .ok (.getfield 22, 3) := dk_180 0 22 (dk_at dksX2_look_0 16 rfl rfl)
theorem dX2_look_19 : decode cX2_look 19 = .ok (.caload, 1) := dk_52 (dk_at dksX2_look_0 19 rfl rfl)
theorem dX2_look_20 : decode cX2_look 20 = .ok (.goto 4, 3) := dk_167 0 4 (dk_at dksX2_look_0 20 rfl rfl)
theorem dX2_look_23 : decode cX2_look 23 = .ok (.iconst 0, 1) := dk_3 (dk_at dksX2_look_0 23 rfl rfl)
theorem dX2_look_24 : decode cX2_look 24 = .ok (.ireturn, 1) := dk_172 (dk_at dksX2_look_1 0 rfl rfl)
abbrev cX2_statement : ByteArray := prog_32_method_40_code
def yX2_statement : MethodName := ⟨RX2, "statement", "()V"⟩
def dkwX2_statement_8 : List UInt8 := [180, 0, 22, 42, 180, 0, 16, 162, 0, 8, 42, 4, 181, 0, 31, 177]
abbrev dktX2_statement_8 : List UInt8 := dkwX2_statement_8 ++ []
def dkwX2_statement_7 : List UInt8 := [16, 14, 160, 0, 7, 42, 182, 1, 67, 27, 16, 15, 160, 0, 11, 42, 42, 180, 0, 16, 181, 0, 22, 42]
abbrev dktX2_statement_7 : List UInt8 := dkwX2_statement_7 ++ dktX2_statement_8
def dkwX2_statement_6 : List UInt8 := [182, 1, 58, 27, 16, 12, 160, 0, 7, 42, 182, 1, 61, 27, 16, 13, 160, 0, 7, 42, 182, 1, 64, 27]
abbrev dktX2_statement_6 : List UInt8 := dkwX2_statement_6 ++ dktX2_statement_7
def dkwX2_statement_5 : List UInt8 := [182, 1, 5, 182, 1, 23, 27, 16, 9, 160, 0, 7, 42, 182, 1, 46, 27, 16, 10, 160, 0, 7, 42]
abbrev dktX2_statement_5 : List UInt8 := dkwX2_statement_5 ++ dktX2_statement_6
def dkwX2_statement_4 : List UInt8 := [42, 182, 1, 52, 27, 16, 7, 160, 0, 7, 42, 182, 1, 55, 27, 16, 8, 160, 0, 12, 42, 3, 42]
abbrev dktX2_statement_4 : List UInt8 := dkwX2_statement_4 ++ dktX2_statement_5
def dkwX2_statement_3 : List UInt8 := [27, 6, 159, 0, 8, 27, 8, 160, 0, 12, 42, 3, 42, 182, 1, 40, 182, 1, 23, 27, 7, 160, 0, 7]
abbrev dktX2_statement_3 : List UInt8 := dkwX2_statement_3 ++ dktX2_statement_4
def dkwX2_statement_2 : List UInt8 := [27, 4, 160, 0, 13, 42, 3, 42, 3, 182, 1, 30, 182, 1, 34, 27, 5, 160, 0, 7, 42, 182, 1, 49]
abbrev dktX2_statement_2 : List UInt8 := dkwX2_statement_2 ++ dktX2_statement_3
def dkwX2_statement_1 : List UInt8 := [27, 154, 0, 23, 42, 182, 1, 46, 42, 16, 61, 182, 0, 248, 42, 5, 42, 3, 182, 1, 30, 182, 1, 34]
abbrev dktX2_statement_1 : List UInt8 := dkwX2_statement_1 ++ dktX2_statement_2
def dkwX2_statement_0 : List UInt8 := [42, 3, 16, 16, 182, 1, 1, 60, 42, 180, 0, 46, 16, 24, 27, 79, 42, 180, 0, 31, 153, 0, 4, 177]
abbrev dktX2_statement_0 : List UInt8 := dkwX2_statement_0 ++ dktX2_statement_1
theorem dksX2_statement_0 : cX2_statement.data.toList.drop 0 = dktX2_statement_0 := by decide +kernel
theorem dksX2_statement_1 : cX2_statement.data.toList.drop 24 = dktX2_statement_1 := dk_seg dksX2_statement_0 24 rfl rfl
theorem dksX2_statement_2 : cX2_statement.data.toList.drop 48 = dktX2_statement_2 := dk_seg dksX2_statement_1 24 rfl rfl
theorem dksX2_statement_3 : cX2_statement.data.toList.drop 72 = dktX2_statement_3 := dk_seg dksX2_statement_2 24 rfl rfl
theorem dksX2_statement_4 : cX2_statement.data.toList.drop 96 = dktX2_statement_4 := dk_seg dksX2_statement_3 24 rfl rfl
theorem dksX2_statement_5 : cX2_statement.data.toList.drop 119 = dktX2_statement_5 := dk_seg dksX2_statement_4 23 rfl rfl
theorem dksX2_statement_6 : cX2_statement.data.toList.drop 142 = dktX2_statement_6 := dk_seg dksX2_statement_5 23 rfl rfl
theorem dksX2_statement_7 : cX2_statement.data.toList.drop 166 = dktX2_statement_7 := dk_seg dksX2_statement_6 24 rfl rfl
theorem dksX2_statement_8 : cX2_statement.data.toList.drop 190 = dktX2_statement_8 := dk_seg dksX2_statement_7 24 rfl rfl
theorem dX2_statement_0 : decode cX2_statement 0 = .ok (.aload_n 0, 1) := dk_42 (dk_at dksX2_statement_0 0 rfl rfl)
theorem dX2_statement_1 : decode cX2_statement 1 = .ok (.iconst 0, 1) := dk_3 (dk_at dksX2_statement_0 1 rfl rfl)
theorem dX2_statement_2 : decode cX2_statement 2 = .ok (.bipush 16, 2) := dk_16 16 (dk_at dksX2_statement_0 2 rfl rfl)
theorem dX2_statement_4 : decode cX2_statement 4 = .ok (.invokevirtual 257, 3) := dk_182 1 1 (dk_at dksX2_statement_0 4 rfl rfl)
theorem dX2_statement_7 : decode cX2_statement 7 = .ok (.istore_n 1, 1) := dk_60 (dk_at dksX2_statement_0 7 rfl rfl)
theorem dX2_statement_8 : decode cX2_statement 8 = .ok (.aload_n 0, 1) := dk_42 (dk_at dksX2_statement_0 8 rfl rfl)
theorem dX2_statement_9 : decode cX2_statement 9 = .ok (.getfield 46, 3) := dk_180 0 46 (dk_at dksX2_statement_0 9 rfl rfl)
theorem dX2_statement_12 : decode cX2_statement 12 = .ok (.bipush 24, 2) := dk_16 24 (dk_at dksX2_statement_0 12 rfl rfl)
theorem dX2_statement_14 : decode cX2_statement 14 = .ok (.iload_n 1, 1) := dk_27 (dk_at dksX2_statement_0 14 rfl rfl)
theorem dX2_statement_15 : decode cX2_statement 15 = .ok (.iastore, 1) := dk_79 (dk_at dksX2_statement_0 15 rfl rfl)
theorem dX2_statement_16 : decode cX2_statement 16 = .ok (.aload_n 0, 1) := dk_42 (dk_at dksX2_statement_0 16 rfl rfl)
theorem dX2_statement_17 : decode cX2_statement 17 = .ok (.getfield 31, 3) := dk_180 0 31 (dk_at dksX2_statement_0 17 rfl rfl)
theorem dX2_statement_20 : decode cX2_statement 20 = .ok (.ifCond .eq 4, 3) := dk_153 0 4 (dk_at dksX2_statement_0 20 rfl rfl)
theorem dX2_statement_23 : decode cX2_statement 23 = .ok (.return_, 1) := dk_177 (dk_at dksX2_statement_0 23 rfl rfl)
theorem dX2_statement_24 : decode cX2_statement 24 = .ok (.iload_n 1, 1) := dk_27 (dk_at dksX2_statement_1 0 rfl rfl)
theorem dX2_statement_25 : decode cX2_statement 25 = .ok (.ifCond .ne 23, 3) := dk_154 0 23 (dk_at dksX2_statement_1 1 rfl rfl)
theorem dX2_statement_28 : decode cX2_statement 28 = .ok (.aload_n 0, 1) := dk_42 (dk_at dksX2_statement_1 4 rfl rfl)
theorem dX2_statement_29 : decode cX2_statement 29 = .ok (.invokevirtual 302, 3) := dk_182 1 46 (dk_at dksX2_statement_1 5 rfl rfl)
theorem dX2_statement_32 : decode cX2_statement 32 = .ok (.aload_n 0, 1) := dk_42 (dk_at dksX2_statement_1 8 rfl rfl)
theorem dX2_statement_33 : decode cX2_statement 33 = .ok (.bipush 61, 2) := dk_16 61 (dk_at dksX2_statement_1 9 rfl rfl)
theorem dX2_statement_35 : decode cX2_statement 35 = .ok (.invokevirtual 248, 3) := dk_182 0 248 (dk_at dksX2_statement_1 11 rfl rfl)
theorem dX2_statement_38 : decode cX2_statement 38 = .ok (.aload_n 0, 1) := dk_42 (dk_at dksX2_statement_1 14 rfl rfl)
theorem dX2_statement_39 : decode cX2_statement 39 = .ok (.iconst 2, 1) := dk_5 (dk_at dksX2_statement_1 15 rfl rfl)
theorem dX2_statement_40 : decode cX2_statement 40 = .ok (.aload_n 0, 1) := dk_42 (dk_at dksX2_statement_1 16 rfl rfl)
theorem dX2_statement_41 : decode cX2_statement 41 = .ok (.iconst 0, 1) := dk_3 (dk_at dksX2_statement_1 17 rfl rfl)
theorem dX2_statement_42 : decode cX2_statement 42 = .ok (.invokevirtual 286, 3) := dk_182 1 30 (dk_at dksX2_statement_1 18 rfl rfl)
theorem dX2_statement_45 : decode cX2_statement 45 = .ok (.invokevirtual 290, 3) := dk_182 1 34 (dk_at dksX2_statement_1 21 rfl rfl)
theorem dX2_statement_48 : decode cX2_statement 48 = .ok (.iload_n 1, 1) := dk_27 (dk_at dksX2_statement_2 0 rfl rfl)
theorem dX2_statement_49 : decode cX2_statement 49 = .ok (.iconst 1, 1) := dk_4 (dk_at dksX2_statement_2 1 rfl rfl)
theorem dX2_statement_50 : decode cX2_statement 50 = .ok (.if_icmp .ne 13, 3) := dk_160 0 13 (dk_at dksX2_statement_2 2 rfl rfl)
theorem dX2_statement_53 : decode cX2_statement 53 = .ok (.aload_n 0, 1) := dk_42 (dk_at dksX2_statement_2 5 rfl rfl)
theorem dX2_statement_54 : decode cX2_statement 54 = .ok (.iconst 0, 1) := dk_3 (dk_at dksX2_statement_2 6 rfl rfl)
theorem dX2_statement_55 : decode cX2_statement 55 = .ok (.aload_n 0, 1) := dk_42 (dk_at dksX2_statement_2 7 rfl rfl)
theorem dX2_statement_56 : decode cX2_statement 56 = .ok (.iconst 0, 1) := dk_3 (dk_at dksX2_statement_2 8 rfl rfl)
theorem dX2_statement_57 : decode cX2_statement 57 = .ok (.invokevirtual 286, 3) := dk_182 1 30 (dk_at dksX2_statement_2 9 rfl rfl)
theorem dX2_statement_60 : decode cX2_statement 60 = .ok (.invokevirtual 290, 3) := dk_182 1 34 (dk_at dksX2_statement_2 12 rfl rfl)
theorem dX2_statement_63 : decode cX2_statement 63 = .ok (.iload_n 1, 1) := dk_27 (dk_at dksX2_statement_2 15 rfl rfl)
theorem dX2_statement_64 : decode cX2_statement 64 = .ok (.iconst 2, 1) := dk_5 (dk_at dksX2_statement_2 16 rfl rfl)
theorem dX2_statement_65 : decode cX2_statement 65 = .ok (.if_icmp .ne 7, 3) := dk_160 0 7 (dk_at dksX2_statement_2 17 rfl rfl)
theorem dX2_statement_68 : decode cX2_statement 68 = .ok (.aload_n 0, 1) := dk_42 (dk_at dksX2_statement_2 20 rfl rfl)
theorem dX2_statement_69 : decode cX2_statement 69 = .ok (.invokevirtual 305, 3) := dk_182 1 49 (dk_at dksX2_statement_2 21 rfl rfl)
theorem dX2_statement_72 : decode cX2_statement 72 = .ok (.iload_n 1, 1) := dk_27 (dk_at dksX2_statement_3 0 rfl rfl)
theorem dX2_statement_73 : decode cX2_statement 73 = .ok (.iconst 3, 1) := dk_6 (dk_at dksX2_statement_3 1 rfl rfl)
theorem dX2_statement_74 : decode cX2_statement 74 = .ok (.if_icmp .eq 8, 3) := dk_159 0 8 (dk_at dksX2_statement_3 2 rfl rfl)
theorem dX2_statement_77 : decode cX2_statement 77 = .ok (.iload_n 1, 1) := dk_27 (dk_at dksX2_statement_3 5 rfl rfl)
theorem dX2_statement_78 : decode cX2_statement 78 = .ok (.iconst 5, 1) := dk_8 (dk_at dksX2_statement_3 6 rfl rfl)
theorem dX2_statement_79 : decode cX2_statement 79 = .ok (.if_icmp .ne 12, 3) := dk_160 0 12 (dk_at dksX2_statement_3 7 rfl rfl)
theorem dX2_statement_82 : decode cX2_statement 82 = .ok (.aload_n 0, 1) := dk_42 (dk_at dksX2_statement_3 10 rfl rfl)
theorem dX2_statement_83 : decode cX2_statement 83 = .ok (.iconst 0, 1) := dk_3 (dk_at dksX2_statement_3 11 rfl rfl)
theorem dX2_statement_84 : decode cX2_statement 84 = .ok (.aload_n 0, 1) := dk_42 (dk_at dksX2_statement_3 12 rfl rfl)
theorem dX2_statement_85 : decode cX2_statement 85 = .ok (.invokevirtual 296, 3) := dk_182 1 40 (dk_at dksX2_statement_3 13 rfl rfl)
theorem dX2_statement_88 : decode cX2_statement 88 = .ok (.invokevirtual 279, 3) := dk_182 1 23 (dk_at dksX2_statement_3 16 rfl rfl)
theorem dX2_statement_91 : decode cX2_statement 91 = .ok (.iload_n 1, 1) := dk_27 (dk_at dksX2_statement_3 19 rfl rfl)
theorem dX2_statement_92 : decode cX2_statement 92 = .ok (.iconst 4, 1) := dk_7 (dk_at dksX2_statement_3 20 rfl rfl)
theorem dX2_statement_93 : decode cX2_statement 93 = .ok (.if_icmp .ne 7, 3) := dk_160 0 7 (dk_at dksX2_statement_3 21 rfl rfl)
theorem dX2_statement_96 : decode cX2_statement 96 = .ok (.aload_n 0, 1) := dk_42 (dk_at dksX2_statement_4 0 rfl rfl)
theorem dX2_statement_97 : decode cX2_statement 97 = .ok (.invokevirtual 308, 3) := dk_182 1 52 (dk_at dksX2_statement_4 1 rfl rfl)
theorem dX2_statement_100 : decode cX2_statement 100 = .ok (.iload_n 1, 1) := dk_27 (dk_at dksX2_statement_4 4 rfl rfl)
theorem dX2_statement_101 : decode cX2_statement 101 = .ok (.bipush 7, 2) := dk_16 7 (dk_at dksX2_statement_4 5 rfl rfl)
theorem dX2_statement_103 : decode cX2_statement 103 = .ok (.if_icmp .ne 7, 3) := dk_160 0 7 (dk_at dksX2_statement_4 7 rfl rfl)
theorem dX2_statement_106 : decode cX2_statement 106 = .ok (.aload_n 0, 1) := dk_42 (dk_at dksX2_statement_4 10 rfl rfl)
theorem dX2_statement_107 : decode cX2_statement 107 = .ok (.invokevirtual 311, 3) := dk_182 1 55 (dk_at dksX2_statement_4 11 rfl rfl)
theorem dX2_statement_110 : decode cX2_statement 110 = .ok (.iload_n 1, 1) := dk_27 (dk_at dksX2_statement_4 14 rfl rfl)
theorem dX2_statement_111 : decode cX2_statement 111 = .ok (.bipush 8, 2) := dk_16 8 (dk_at dksX2_statement_4 15 rfl rfl)
theorem dX2_statement_113 : decode cX2_statement 113 = .ok (.if_icmp .ne 12, 3) := dk_160 0 12 (dk_at dksX2_statement_4 17 rfl rfl)
theorem dX2_statement_116 : decode cX2_statement 116 = .ok (.aload_n 0, 1) := dk_42 (dk_at dksX2_statement_4 20 rfl rfl)
theorem dX2_statement_117 : decode cX2_statement 117 = .ok (.iconst 0, 1) := dk_3 (dk_at dksX2_statement_4 21 rfl rfl)
theorem dX2_statement_118 : decode cX2_statement 118 = .ok (.aload_n 0, 1) := dk_42 (dk_at dksX2_statement_4 22 rfl rfl)
theorem dX2_statement_119 : decode cX2_statement 119 = .ok (.invokevirtual 261, 3) := dk_182 1 5 (dk_at dksX2_statement_5 0 rfl rfl)
theorem dX2_statement_122 : decode cX2_statement 122 = .ok (.invokevirtual 279, 3) := dk_182 1 23 (dk_at dksX2_statement_5 3 rfl rfl)
theorem dX2_statement_125 : decode cX2_statement 125 = .ok (.iload_n 1, 1) := dk_27 (dk_at dksX2_statement_5 6 rfl rfl)
theorem dX2_statement_126 : decode cX2_statement 126 = .ok (.bipush 9, 2) := dk_16 9 (dk_at dksX2_statement_5 7 rfl rfl)
theorem dX2_statement_128 : decode cX2_statement 128 = .ok (.if_icmp .ne 7, 3) := dk_160 0 7 (dk_at dksX2_statement_5 9 rfl rfl)
theorem dX2_statement_131 : decode cX2_statement 131 = .ok (.aload_n 0, 1) := dk_42 (dk_at dksX2_statement_5 12 rfl rfl)
theorem dX2_statement_132 : decode cX2_statement 132 = .ok (.invokevirtual 302, 3) := dk_182 1 46 (dk_at dksX2_statement_5 13 rfl rfl)
theorem dX2_statement_135 : decode cX2_statement 135 = .ok (.iload_n 1, 1) := dk_27 (dk_at dksX2_statement_5 16 rfl rfl)
theorem dX2_statement_136 : decode cX2_statement 136 = .ok (.bipush 10, 2) := dk_16 10 (dk_at dksX2_statement_5 17 rfl rfl)
theorem dX2_statement_138 : decode cX2_statement 138 = .ok (.if_icmp .ne 7, 3) := dk_160 0 7 (dk_at dksX2_statement_5 19 rfl rfl)
theorem dX2_statement_141 : decode cX2_statement 141 = .ok (.aload_n 0, 1) := dk_42 (dk_at dksX2_statement_5 22 rfl rfl)
theorem dX2_statement_142 : decode cX2_statement 142 = .ok (.invokevirtual 314, 3) := dk_182 1 58 (dk_at dksX2_statement_6 0 rfl rfl)
theorem dX2_statement_145 : decode cX2_statement 145 = .ok (.iload_n 1, 1) := dk_27 (dk_at dksX2_statement_6 3 rfl rfl)
theorem dX2_statement_146 : decode cX2_statement 146 = .ok (.bipush 12, 2) := dk_16 12 (dk_at dksX2_statement_6 4 rfl rfl)
theorem dX2_statement_148 : decode cX2_statement 148 = .ok (.if_icmp .ne 7, 3) := dk_160 0 7 (dk_at dksX2_statement_6 6 rfl rfl)
theorem dX2_statement_151 : decode cX2_statement 151 = .ok (.aload_n 0, 1) := dk_42 (dk_at dksX2_statement_6 9 rfl rfl)
theorem dX2_statement_152 : decode cX2_statement 152 = .ok (.invokevirtual 317, 3) := dk_182 1 61 (dk_at dksX2_statement_6 10 rfl rfl)
theorem dX2_statement_155 : decode cX2_statement 155 = .ok (.iload_n 1, 1) := dk_27 (dk_at dksX2_statement_6 13 rfl rfl)
theorem dX2_statement_156 : decode cX2_statement 156 = .ok (.bipush 13, 2) := dk_16 13 (dk_at dksX2_statement_6 14 rfl rfl)
theorem dX2_statement_158 : decode cX2_statement 158 = .ok (.if_icmp .ne 7, 3) := dk_160 0 7 (dk_at dksX2_statement_6 16 rfl rfl)
theorem dX2_statement_161 : decode cX2_statement 161 = .ok (.aload_n 0, 1) := dk_42 (dk_at dksX2_statement_6 19 rfl rfl)
theorem dX2_statement_162 : decode cX2_statement 162 = .ok (.invokevirtual 320, 3) := dk_182 1 64 (dk_at dksX2_statement_6 20 rfl rfl)
theorem dX2_statement_165 : decode cX2_statement 165 = .ok (.iload_n 1, 1) := dk_27 (dk_at dksX2_statement_6 23 rfl rfl)
theorem dX2_statement_166 : decode cX2_statement 166 = .ok (.bipush 14, 2) := dk_16 14 (dk_at dksX2_statement_7 0 rfl rfl)
theorem dX2_statement_168 : decode cX2_statement 168 = .ok (.if_icmp .ne 7, 3) := dk_160 0 7 (dk_at dksX2_statement_7 2 rfl rfl)
theorem dX2_statement_171 : decode cX2_statement 171 = .ok (.aload_n 0, 1) := dk_42 (dk_at dksX2_statement_7 5 rfl rfl)
theorem dX2_statement_172 : decode cX2_statement 172 = .ok (.invokevirtual 323, 3) := dk_182 1 67 (dk_at dksX2_statement_7 6 rfl rfl)
theorem dX2_statement_175 : decode cX2_statement 175 = .ok (.iload_n 1, 1) := dk_27 (dk_at dksX2_statement_7 9 rfl rfl)
theorem dX2_statement_176 : decode cX2_statement 176 = .ok (.bipush 15, 2) := dk_16 15 (dk_at dksX2_statement_7 10 rfl rfl)
theorem dX2_statement_178 : decode cX2_statement 178 = .ok (.if_icmp .ne 11, 3) := dk_160 0 11 (dk_at dksX2_statement_7 12 rfl rfl)
theorem dX2_statement_181 : decode cX2_statement 181 = .ok (.aload_n 0, 1) := dk_42 (dk_at dksX2_statement_7 15 rfl rfl)
theorem dX2_statement_182 : decode cX2_statement 182 = .ok (.aload_n 0, 1) := dk_42 (dk_at dksX2_statement_7 16 rfl rfl)
theorem dX2_statement_183 : decode cX2_statement 183 = .ok (.getfield 16, 3) := dk_180 0 16 (dk_at dksX2_statement_7 17 rfl rfl)
theorem dX2_statement_186 : decode cX2_statement 186 = .ok (.putfield 22, 3) := dk_181 0 22 (dk_at dksX2_statement_7 20 rfl rfl)
theorem dX2_statement_189 : decode cX2_statement 189 = .ok (.aload_n 0, 1) := dk_42 (dk_at dksX2_statement_7 23 rfl rfl)
theorem dX2_statement_190 : decode cX2_statement 190 = .ok (.getfield 22, 3) := dk_180 0 22 (dk_at dksX2_statement_8 0 rfl rfl)
theorem dX2_statement_193 : decode cX2_statement 193 = .ok (.aload_n 0, 1) := dk_42 (dk_at dksX2_statement_8 3 rfl rfl)
theorem dX2_statement_194 : decode cX2_statement 194 = .ok (.getfield 16, 3) := dk_180 0 16 (dk_at dksX2_statement_8 4 rfl rfl)
theorem dX2_statement_197 : decode cX2_statement 197 = .ok (.if_icmp .ge 8, 3) := dk_162 0 8 (dk_at dksX2_statement_8 7 rfl rfl)
theorem dX2_statement_200 : decode cX2_statement 200 = .ok (.aload_n 0, 1) := dk_42 (dk_at dksX2_statement_8 10 rfl rfl)
theorem dX2_statement_201 : decode cX2_statement 201 = .ok (.iconst 1, 1) := dk_4 (dk_at dksX2_statement_8 11 rfl rfl)
theorem dX2_statement_202 : decode cX2_statement 202 = .ok (.putfield 31, 3) := dk_181 0 31 (dk_at dksX2_statement_8 12 rfl rfl)
theorem dX2_statement_205 : decode cX2_statement 205 = .ok (.return_, 1) := dk_177 (dk_at dksX2_statement_8 15 rfl rfl)
abbrev cX2_takeWord : ByteArray := prog_32_method_14_code
def yX2_takeWord : MethodName := ⟨RX2, "takeWord", "(II)I"⟩
def dkwX2_takeWord_4 : List UInt8 := [167, 255, 163, 2, 172]
abbrev dktX2_takeWord_4 : List UInt8 := dkwX2_takeWord_4 ++ []
def dkwX2_takeWord_3 : List UInt8 := [154, 0, 20, 42, 89, 180, 0, 22, 29, 4, 100, 96, 181, 0, 22, 42, 4, 181, 0, 31, 132, 3, 1]
abbrev dktX2_takeWord_3 : List UInt8 := dkwX2_takeWord_3 ++ dktX2_takeWord_4
def dkwX2_takeWord_2 : List UInt8 := [160, 0, 16, 42, 89, 180, 0, 22, 29, 96, 181, 0, 22, 21, 5, 172, 132, 5, 1, 167, 255, 204, 21, 4]
abbrev dktX2_takeWord_2 : List UInt8 := dkwX2_takeWord_2 ++ dktX2_takeWord_3
def dkwX2_takeWord_1 : List UInt8 := [29, 182, 0, 233, 154, 0, 6, 167, 0, 33, 4, 54, 4, 42, 42, 21, 5, 182, 0, 220, 182, 0, 224, 29]
abbrev dktX2_takeWord_1 : List UInt8 := dkwX2_takeWord_1 ++ dktX2_takeWord_2
def dkwX2_takeWord_0 : List UInt8 := [4, 62, 42, 180, 0, 31, 154, 0, 92, 3, 54, 4, 27, 54, 5, 21, 5, 28, 163, 0, 52, 42, 21, 5]
abbrev dktX2_takeWord_0 : List UInt8 := dkwX2_takeWord_0 ++ dktX2_takeWord_1
theorem dksX2_takeWord_0 : cX2_takeWord.data.toList.drop 0 = dktX2_takeWord_0 := by decide +kernel
theorem dksX2_takeWord_1 : cX2_takeWord.data.toList.drop 24 = dktX2_takeWord_1 := dk_seg dksX2_takeWord_0 24 rfl rfl
theorem dksX2_takeWord_2 : cX2_takeWord.data.toList.drop 48 = dktX2_takeWord_2 := dk_seg dksX2_takeWord_1 24 rfl rfl
theorem dksX2_takeWord_3 : cX2_takeWord.data.toList.drop 72 = dktX2_takeWord_3 := dk_seg dksX2_takeWord_2 24 rfl rfl
theorem dksX2_takeWord_4 : cX2_takeWord.data.toList.drop 95 = dktX2_takeWord_4 := dk_seg dksX2_takeWord_3 23 rfl rfl
theorem dX2_takeWord_0 : decode cX2_takeWord 0 = .ok (.iconst 1, 1) := dk_4 (dk_at dksX2_takeWord_0 0 rfl rfl)
theorem dX2_takeWord_1 : decode cX2_takeWord 1 = .ok (.istore_n 3, 1) := dk_62 (dk_at dksX2_takeWord_0 1 rfl rfl)
theorem dX2_takeWord_2 : decode cX2_takeWord 2 = .ok (.aload_n 0, 1) := dk_42 (dk_at dksX2_takeWord_0 2 rfl rfl)
theorem dX2_takeWord_3 : decode cX2_takeWord 3 = .ok (.getfield 31, 3) := dk_180 0 31 (dk_at dksX2_takeWord_0 3 rfl rfl)
theorem dX2_takeWord_6 : decode cX2_takeWord 6 = .ok (.ifCond .ne 92, 3) := dk_154 0 92 (dk_at dksX2_takeWord_0 6 rfl rfl)
theorem dX2_takeWord_9 : decode cX2_takeWord 9 = .ok (.iconst 0, 1) := dk_3 (dk_at dksX2_takeWord_0 9 rfl rfl)
theorem dX2_takeWord_10 : decode cX2_takeWord 10 = .ok (.istore 4, 2) := dk_54 4 (dk_at dksX2_takeWord_0 10 rfl rfl)
theorem dX2_takeWord_12 : decode cX2_takeWord 12 = .ok (.iload_n 1, 1) := dk_27 (dk_at dksX2_takeWord_0 12 rfl rfl)
theorem dX2_takeWord_13 : decode cX2_takeWord 13 = .ok (.istore 5, 2) := dk_54 5 (dk_at dksX2_takeWord_0 13 rfl rfl)
theorem dX2_takeWord_15 : decode cX2_takeWord 15 = .ok (.iload 5, 2) := dk_21 5 (dk_at dksX2_takeWord_0 15 rfl rfl)
theorem dX2_takeWord_17 : decode cX2_takeWord 17 = .ok (.iload_n 2, 1) := dk_28 (dk_at dksX2_takeWord_0 17 rfl rfl)
theorem dX2_takeWord_18 : decode cX2_takeWord 18 = .ok (.if_icmp .gt 52, 3) := dk_163 0 52 (dk_at dksX2_takeWord_0 18 rfl rfl)
theorem dX2_takeWord_21 : decode cX2_takeWord 21 = .ok (.aload_n 0, 1) := dk_42 (dk_at dksX2_takeWord_0 21 rfl rfl)
theorem dX2_takeWord_22 : decode cX2_takeWord 22 = .ok (.iload 5, 2) := dk_21 5 (dk_at dksX2_takeWord_0 22 rfl rfl)
theorem dX2_takeWord_24 : decode cX2_takeWord 24 = .ok (.iload_n 3, 1) := dk_29 (dk_at dksX2_takeWord_1 0 rfl rfl)
theorem dX2_takeWord_25 : decode cX2_takeWord 25 = .ok (.invokevirtual 233, 3) := dk_182 0 233 (dk_at dksX2_takeWord_1 1 rfl rfl)
theorem dX2_takeWord_28 : decode cX2_takeWord 28 = .ok (.ifCond .ne 6, 3) := dk_154 0 6 (dk_at dksX2_takeWord_1 4 rfl rfl)
theorem dX2_takeWord_31 : decode cX2_takeWord 31 = .ok (.goto 33, 3) := dk_167 0 33 (dk_at dksX2_takeWord_1 7 rfl rfl)
theorem dX2_takeWord_34 : decode cX2_takeWord 34 = .ok (.iconst 1, 1) := dk_4 (dk_at dksX2_takeWord_1 10 rfl rfl)
theorem dX2_takeWord_35 : decode cX2_takeWord 35 = .ok (.istore 4, 2) := dk_54 4 (dk_at dksX2_takeWord_1 11 rfl rfl)
theorem dX2_takeWord_37 : decode cX2_takeWord 37 = .ok (.aload_n 0, 1) := dk_42 (dk_at dksX2_takeWord_1 13 rfl rfl)
theorem dX2_takeWord_38 : decode cX2_takeWord 38 = .ok (.aload_n 0, 1) := dk_42 (dk_at dksX2_takeWord_1 14 rfl rfl)
theorem dX2_takeWord_39 : decode cX2_takeWord 39 = .ok (.iload 5, 2) := dk_21 5 (dk_at dksX2_takeWord_1 15 rfl rfl)
theorem dX2_takeWord_41 : decode cX2_takeWord 41 = .ok (.invokevirtual 220, 3) := dk_182 0 220 (dk_at dksX2_takeWord_1 17 rfl rfl)
theorem dX2_takeWord_44 : decode cX2_takeWord 44 = .ok (.invokevirtual 224, 3) := dk_182 0 224 (dk_at dksX2_takeWord_1 20 rfl rfl)
theorem dX2_takeWord_47 : decode cX2_takeWord 47 = .ok (.iload_n 3, 1) := dk_29 (dk_at dksX2_takeWord_1 23 rfl rfl)
theorem dX2_takeWord_48 : decode cX2_takeWord 48 = .ok (.if_icmp .ne 16, 3) := dk_160 0 16 (dk_at dksX2_takeWord_2 0 rfl rfl)
theorem dX2_takeWord_51 : decode cX2_takeWord 51 = .ok (.aload_n 0, 1) := dk_42 (dk_at dksX2_takeWord_2 3 rfl rfl)
theorem dX2_takeWord_52 : decode cX2_takeWord 52 = .ok (.dup, 1) := dk_89 (dk_at dksX2_takeWord_2 4 rfl rfl)
theorem dX2_takeWord_53 : decode cX2_takeWord 53 = .ok (.getfield 22, 3) := dk_180 0 22 (dk_at dksX2_takeWord_2 5 rfl rfl)
theorem dX2_takeWord_56 : decode cX2_takeWord 56 = .ok (.iload_n 3, 1) := dk_29 (dk_at dksX2_takeWord_2 8 rfl rfl)
theorem dX2_takeWord_57 : decode cX2_takeWord 57 = .ok (.iadd, 1) := dk_96 (dk_at dksX2_takeWord_2 9 rfl rfl)
theorem dX2_takeWord_58 : decode cX2_takeWord 58 = .ok (.putfield 22, 3) := dk_181 0 22 (dk_at dksX2_takeWord_2 10 rfl rfl)
theorem dX2_takeWord_61 : decode cX2_takeWord 61 = .ok (.iload 5, 2) := dk_21 5 (dk_at dksX2_takeWord_2 13 rfl rfl)
theorem dX2_takeWord_63 : decode cX2_takeWord 63 = .ok (.ireturn, 1) := dk_172 (dk_at dksX2_takeWord_2 15 rfl rfl)
theorem dX2_takeWord_64 : decode cX2_takeWord 64 = .ok (.iinc 5 1, 3) := dk_132 5 1 (dk_at dksX2_takeWord_2 16 rfl rfl)
theorem dX2_takeWord_67 : decode cX2_takeWord 67 = .ok (.goto (-52), 3) := dk_167 255 204 (dk_at dksX2_takeWord_2 19 rfl rfl)
theorem dX2_takeWord_70 : decode cX2_takeWord 70 = .ok (.iload 4, 2) := dk_21 4 (dk_at dksX2_takeWord_2 22 rfl rfl)
theorem dX2_takeWord_72 : decode cX2_takeWord 72 = .ok (.ifCond .ne 20, 3) := dk_154 0 20 (dk_at dksX2_takeWord_3 0 rfl rfl)
theorem dX2_takeWord_75 : decode cX2_takeWord 75 = .ok (.aload_n 0, 1) := dk_42 (dk_at dksX2_takeWord_3 3 rfl rfl)
theorem dX2_takeWord_76 : decode cX2_takeWord 76 = .ok (.dup, 1) := dk_89 (dk_at dksX2_takeWord_3 4 rfl rfl)
theorem dX2_takeWord_77 : decode cX2_takeWord 77 = .ok (.getfield 22, 3) := dk_180 0 22 (dk_at dksX2_takeWord_3 5 rfl rfl)
theorem dX2_takeWord_80 : decode cX2_takeWord 80 = .ok (.iload_n 3, 1) := dk_29 (dk_at dksX2_takeWord_3 8 rfl rfl)
theorem dX2_takeWord_81 : decode cX2_takeWord 81 = .ok (.iconst 1, 1) := dk_4 (dk_at dksX2_takeWord_3 9 rfl rfl)
theorem dX2_takeWord_82 : decode cX2_takeWord 82 = .ok (.isub, 1) := dk_100 (dk_at dksX2_takeWord_3 10 rfl rfl)
theorem dX2_takeWord_83 : decode cX2_takeWord 83 = .ok (.iadd, 1) := dk_96 (dk_at dksX2_takeWord_3 11 rfl rfl)
theorem dX2_takeWord_84 : decode cX2_takeWord 84 = .ok (.putfield 22, 3) := dk_181 0 22 (dk_at dksX2_takeWord_3 12 rfl rfl)
theorem dX2_takeWord_87 : decode cX2_takeWord 87 = .ok (.aload_n 0, 1) := dk_42 (dk_at dksX2_takeWord_3 15 rfl rfl)
theorem dX2_takeWord_88 : decode cX2_takeWord 88 = .ok (.iconst 1, 1) := dk_4 (dk_at dksX2_takeWord_3 16 rfl rfl)
theorem dX2_takeWord_89 : decode cX2_takeWord 89 = .ok (.putfield 31, 3) := dk_181 0 31 (dk_at dksX2_takeWord_3 17 rfl rfl)
theorem dX2_takeWord_92 : decode cX2_takeWord 92 = .ok (.iinc 3 1, 3) := dk_132 3 1 (dk_at dksX2_takeWord_3 20 rfl rfl)
theorem dX2_takeWord_95 : decode cX2_takeWord 95 = .ok (.goto (-93), 3) := dk_167 255 163 (dk_at dksX2_takeWord_4 0 rfl rfl)
theorem dX2_takeWord_98 : decode cX2_takeWord 98 = .ok (.iconst (-1), 1) := dk_2 (dk_at dksX2_takeWord_4 3 rfl rfl)
theorem dX2_takeWord_99 : decode cX2_takeWord 99 = .ok (.ireturn, 1) := dk_172 (dk_at dksX2_takeWord_4 4 rfl rfl)
abbrev cX2_begins : ByteArray := prog_32_method_13_code
def yX2_begins : MethodName := ⟨RX2, "begins", "(II)Z"⟩
def dkwX2_begins_2 : List UInt8 := [21, 6, 182, 0, 230, 133, 148, 153, 0, 5, 3, 172, 132, 6, 1, 167, 255, 218, 4, 172]
abbrev dktX2_begins_2 : List UInt8 := dkwX2_begins_2 ++ []
def dkwX2_begins_1 : List UInt8 := [21, 6, 28, 162, 0, 38, 33, 16, 8, 21, 5, 4, 100, 21, 6, 100, 104, 123, 20, 0, 228, 127, 42]
abbrev dktX2_begins_1 : List UInt8 := dkwX2_begins_1 ++ dktX2_begins_2
def dkwX2_begins_0 : List UInt8 := [42, 27, 182, 0, 220, 66, 42, 33, 182, 0, 224, 54, 5, 28, 21, 5, 164, 0, 5, 3, 172, 3, 54, 6]
abbrev dktX2_begins_0 : List UInt8 := dkwX2_begins_0 ++ dktX2_begins_1
theorem dksX2_begins_0 : cX2_begins.data.toList.drop 0 = dktX2_begins_0 := by decide +kernel
theorem dksX2_begins_1 : cX2_begins.data.toList.drop 24 = dktX2_begins_1 := dk_seg dksX2_begins_0 24 rfl rfl
theorem dksX2_begins_2 : cX2_begins.data.toList.drop 47 = dktX2_begins_2 := dk_seg dksX2_begins_1 23 rfl rfl
theorem dX2_begins_0 : decode cX2_begins 0 = .ok (.aload_n 0, 1) := dk_42 (dk_at dksX2_begins_0 0 rfl rfl)
theorem dX2_begins_1 : decode cX2_begins 1 = .ok (.iload_n 1, 1) := dk_27 (dk_at dksX2_begins_0 1 rfl rfl)
theorem dX2_begins_2 : decode cX2_begins 2 = .ok (.invokevirtual 220, 3) := dk_182 0 220 (dk_at dksX2_begins_0 2 rfl rfl)
theorem dX2_begins_5 : decode cX2_begins 5 = .ok (.lstore_n 3, 1) := dk_66 (dk_at dksX2_begins_0 5 rfl rfl)
theorem dX2_begins_6 : decode cX2_begins 6 = .ok (.aload_n 0, 1) := dk_42 (dk_at dksX2_begins_0 6 rfl rfl)
theorem dX2_begins_7 : decode cX2_begins 7 = .ok (.lload_n 3, 1) := dk_33 (dk_at dksX2_begins_0 7 rfl rfl)
theorem dX2_begins_8 : decode cX2_begins 8 = .ok (.invokevirtual 224, 3) := dk_182 0 224 (dk_at dksX2_begins_0 8 rfl rfl)
theorem dX2_begins_11 : decode cX2_begins 11 = .ok (.istore 5, 2) := dk_54 5 (dk_at dksX2_begins_0 11 rfl rfl)
theorem dX2_begins_13 : decode cX2_begins 13 = .ok (.iload_n 2, 1) := dk_28 (dk_at dksX2_begins_0 13 rfl rfl)
theorem dX2_begins_14 : decode cX2_begins 14 = .ok (.iload 5, 2) := dk_21 5 (dk_at dksX2_begins_0 14 rfl rfl)
theorem dX2_begins_16 : decode cX2_begins 16 = .ok (.if_icmp .le 5, 3) := dk_164 0 5 (dk_at dksX2_begins_0 16 rfl rfl)
theorem dX2_begins_19 : decode cX2_begins 19 = .ok (.iconst 0, 1) := dk_3 (dk_at dksX2_begins_0 19 rfl rfl)
theorem dX2_begins_20 : decode cX2_begins 20 = .ok (.ireturn, 1) := dk_172 (dk_at dksX2_begins_0 20 rfl rfl)
theorem dX2_begins_21 : decode cX2_begins 21 = .ok (.iconst 0, 1) := dk_3 (dk_at dksX2_begins_0 21 rfl rfl)
theorem dX2_begins_22 : decode cX2_begins 22 = .ok (.istore 6, 2) := dk_54 6 (dk_at dksX2_begins_0 22 rfl rfl)
theorem dX2_begins_24 : decode cX2_begins 24 = .ok (.iload 6, 2) := dk_21 6 (dk_at dksX2_begins_1 0 rfl rfl)
theorem dX2_begins_26 : decode cX2_begins 26 = .ok (.iload_n 2, 1) := dk_28 (dk_at dksX2_begins_1 2 rfl rfl)
theorem dX2_begins_27 : decode cX2_begins 27 = .ok (.if_icmp .ge 38, 3) := dk_162 0 38 (dk_at dksX2_begins_1 3 rfl rfl)
theorem dX2_begins_30 : decode cX2_begins 30 = .ok (.lload_n 3, 1) := dk_33 (dk_at dksX2_begins_1 6 rfl rfl)
theorem dX2_begins_31 : decode cX2_begins 31 = .ok (.bipush 8, 2) := dk_16 8 (dk_at dksX2_begins_1 7 rfl rfl)
theorem dX2_begins_33 : decode cX2_begins 33 = .ok (.iload 5, 2) := dk_21 5 (dk_at dksX2_begins_1 9 rfl rfl)
theorem dX2_begins_35 : decode cX2_begins 35 = .ok (.iconst 1, 1) := dk_4 (dk_at dksX2_begins_1 11 rfl rfl)
theorem dX2_begins_36 : decode cX2_begins 36 = .ok (.isub, 1) := dk_100 (dk_at dksX2_begins_1 12 rfl rfl)
theorem dX2_begins_37 : decode cX2_begins 37 = .ok (.iload 6, 2) := dk_21 6 (dk_at dksX2_begins_1 13 rfl rfl)
theorem dX2_begins_39 : decode cX2_begins 39 = .ok (.isub, 1) := dk_100 (dk_at dksX2_begins_1 15 rfl rfl)
theorem dX2_begins_40 : decode cX2_begins 40 = .ok (.imul, 1) := dk_104 (dk_at dksX2_begins_1 16 rfl rfl)
theorem dX2_begins_41 : decode cX2_begins 41 = .ok (.lshr, 1) := dk_123 (dk_at dksX2_begins_1 17 rfl rfl)
theorem dX2_begins_42 : decode cX2_begins 42 = .ok (.ldc2_w 228, 3) := dk_20 0 228 (dk_at dksX2_begins_1 18 rfl rfl)
theorem dX2_begins_45 : decode cX2_begins 45 = .ok (.land, 1) := dk_127 (dk_at dksX2_begins_1 21 rfl rfl)
theorem dX2_begins_46 : decode cX2_begins 46 = .ok (.aload_n 0, 1) := dk_42 (dk_at dksX2_begins_1 22 rfl rfl)
theorem dX2_begins_47 : decode cX2_begins 47 = .ok (.iload 6, 2) := dk_21 6 (dk_at dksX2_begins_2 0 rfl rfl)
theorem dX2_begins_49 : decode cX2_begins 49 = .ok (.invokevirtual 230, 3) := dk_182 0 230 (dk_at dksX2_begins_2 2 rfl rfl)
theorem dX2_begins_52 : decode cX2_begins 52 = .ok (.i2l, 1) := dk_133 (dk_at dksX2_begins_2 5 rfl rfl)
theorem dX2_begins_53 : decode cX2_begins 53 = .ok (.lcmp, 1) := dk_148 (dk_at dksX2_begins_2 6 rfl rfl)
theorem dX2_begins_54 : decode cX2_begins 54 = .ok (.ifCond .eq 5, 3) := dk_153 0 5 (dk_at dksX2_begins_2 7 rfl rfl)
theorem dX2_begins_57 : decode cX2_begins 57 = .ok (.iconst 0, 1) := dk_3 (dk_at dksX2_begins_2 10 rfl rfl)
theorem dX2_begins_58 : decode cX2_begins 58 = .ok (.ireturn, 1) := dk_172 (dk_at dksX2_begins_2 11 rfl rfl)
theorem dX2_begins_59 : decode cX2_begins 59 = .ok (.iinc 6 1, 3) := dk_132 6 1 (dk_at dksX2_begins_2 12 rfl rfl)
theorem dX2_begins_62 : decode cX2_begins 62 = .ok (.goto (-38), 3) := dk_167 255 218 (dk_at dksX2_begins_2 15 rfl rfl)
theorem dX2_begins_65 : decode cX2_begins 65 = .ok (.iconst 1, 1) := dk_4 (dk_at dksX2_begins_2 18 rfl rfl)
theorem dX2_begins_66 : decode cX2_begins 66 = .ok (.ireturn, 1) := dk_172 (dk_at dksX2_begins_2 19 rfl rfl)
abbrev cX2_word : ByteArray := prog_32_method_11_code
def yX2_word : MethodName := ⟨RX2, "word", "(I)J"⟩
def dkwX2_word_6 : List UInt8 := [20, 0, 212, 173, 20, 0, 214, 173, 20, 0, 216, 173, 20, 0, 218, 173]
abbrev dktX2_word_6 : List UInt8 := dkwX2_word_6 ++ []
def dkwX2_word_5 : List UInt8 := [20, 0, 200, 173, 20, 0, 202, 173, 20, 0, 204, 173, 20, 0, 206, 173, 20, 0, 208, 173, 20, 0, 210, 173]
abbrev dktX2_word_5 : List UInt8 := dkwX2_word_5 ++ dktX2_word_6
def dkwX2_word_4 : List UInt8 := [20, 0, 188, 173, 20, 0, 190, 173, 20, 0, 192, 173, 20, 0, 194, 173, 20, 0, 196, 173, 20, 0, 198, 173]
abbrev dktX2_word_4 : List UInt8 := dkwX2_word_4 ++ dktX2_word_5
def dkwX2_word_3 : List UInt8 := [20, 0, 176, 173, 20, 0, 178, 173, 20, 0, 180, 173, 20, 0, 182, 173, 20, 0, 184, 173, 20, 0, 186, 173]
abbrev dktX2_word_3 : List UInt8 := dkwX2_word_3 ++ dktX2_word_4
def dkwX2_word_2 : List UInt8 := [20, 0, 164, 173, 20, 0, 166, 173, 20, 0, 168, 173, 20, 0, 170, 173, 20, 0, 172, 173, 20, 0, 174, 173]
abbrev dktX2_word_2 : List UInt8 := dkwX2_word_2 ++ dktX2_word_3
def dkwX2_word_1 : List UInt8 := [170, 0, 0, 0, 0, 0, 231, 0, 0, 0, 0, 0, 0, 0, 26, 0, 0, 0, 123, 0, 0, 0, 127, 0, 0, 0, 131, 0, 0, 0, 135, 0, 0, 0, 139, 0, 0, 0, 143, 0, 0, 0, 147, 0, 0, 0, 151, 0, 0, 0, 155, 0, 0, 0, 159, 0, 0, 0, 163, 0, 0, 0, 167, 0, 0, 0, 171, 0, 0, 0, 175, 0, 0, 0, 179, 0, 0, 0, 183, 0, 0, 0, 187, 0, 0, 0, 191, 0, 0, 0, 195, 0, 0, 0, 199, 0, 0, 0, 203, 0, 0, 0, 207, 0, 0, 0, 211, 0, 0, 0, 215, 0, 0, 0, 219, 0, 0, 0, 223, 0, 0, 0, 227]
abbrev dktX2_word_1 : List UInt8 := dkwX2_word_1 ++ dktX2_word_2
def dkwX2_word_0 : List UInt8 := [27]
abbrev dktX2_word_0 : List UInt8 := dkwX2_word_0 ++ dktX2_word_1
theorem dksX2_word_0 : cX2_word.data.toList.drop 0 = dktX2_word_0 := by decide +kernel
theorem dksX2_word_1 : cX2_word.data.toList.drop 1 = dktX2_word_1 := dk_seg dksX2_word_0 1 rfl rfl
theorem dksX2_word_2 : cX2_word.data.toList.drop 124 = dktX2_word_2 := dk_seg dksX2_word_1 123 rfl rfl
theorem dksX2_word_3 : cX2_word.data.toList.drop 148 = dktX2_word_3 := dk_seg dksX2_word_2 24 rfl rfl
theorem dksX2_word_4 : cX2_word.data.toList.drop 172 = dktX2_word_4 := dk_seg dksX2_word_3 24 rfl rfl
theorem dksX2_word_5 : cX2_word.data.toList.drop 196 = dktX2_word_5 := dk_seg dksX2_word_4 24 rfl rfl
theorem dksX2_word_6 : cX2_word.data.toList.drop 220 = dktX2_word_6 := dk_seg dksX2_word_5 24 rfl rfl
theorem dX2_word_0 : decode cX2_word 0 = .ok (.iload_n 1, 1) := dk_27 (dk_at dksX2_word_0 0 rfl rfl)
theorem dX2_word_1 : decode cX2_word 1 = .ok (.tableswitch 231 0 26 #[123, 127, 131, 135, 139, 143, 147, 151, 155, 159, 163, 167, 171, 175, 179, 183, 187, 191, 195, 199, 203, 207, 211, 215, 219, 223, 227], 123) := by decide +kernel
theorem dX2_word_124 : decode cX2_word 124 = .ok (.ldc2_w 164, 3) := dk_20 0 164 (dk_at dksX2_word_2 0 rfl rfl)
theorem dX2_word_127 : decode cX2_word 127 = .ok (.lreturn, 1) := dk_173 (dk_at dksX2_word_2 3 rfl rfl)
theorem dX2_word_128 : decode cX2_word 128 = .ok (.ldc2_w 166, 3) := dk_20 0 166 (dk_at dksX2_word_2 4 rfl rfl)
theorem dX2_word_131 : decode cX2_word 131 = .ok (.lreturn, 1) := dk_173 (dk_at dksX2_word_2 7 rfl rfl)
theorem dX2_word_132 : decode cX2_word 132 = .ok (.ldc2_w 168, 3) := dk_20 0 168 (dk_at dksX2_word_2 8 rfl rfl)
theorem dX2_word_135 : decode cX2_word 135 = .ok (.lreturn, 1) := dk_173 (dk_at dksX2_word_2 11 rfl rfl)
theorem dX2_word_136 : decode cX2_word 136 = .ok (.ldc2_w 170, 3) := dk_20 0 170 (dk_at dksX2_word_2 12 rfl rfl)
theorem dX2_word_139 : decode cX2_word 139 = .ok (.lreturn, 1) := dk_173 (dk_at dksX2_word_2 15 rfl rfl)
theorem dX2_word_140 : decode cX2_word 140 = .ok (.ldc2_w 172, 3) := dk_20 0 172 (dk_at dksX2_word_2 16 rfl rfl)
theorem dX2_word_143 : decode cX2_word 143 = .ok (.lreturn, 1) := dk_173 (dk_at dksX2_word_2 19 rfl rfl)
theorem dX2_word_144 : decode cX2_word 144 = .ok (.ldc2_w 174, 3) := dk_20 0 174 (dk_at dksX2_word_2 20 rfl rfl)
theorem dX2_word_147 : decode cX2_word 147 = .ok (.lreturn, 1) := dk_173 (dk_at dksX2_word_2 23 rfl rfl)
theorem dX2_word_148 : decode cX2_word 148 = .ok (.ldc2_w 176, 3) := dk_20 0 176 (dk_at dksX2_word_3 0 rfl rfl)
theorem dX2_word_151 : decode cX2_word 151 = .ok (.lreturn, 1) := dk_173 (dk_at dksX2_word_3 3 rfl rfl)
theorem dX2_word_152 : decode cX2_word 152 = .ok (.ldc2_w 178, 3) := dk_20 0 178 (dk_at dksX2_word_3 4 rfl rfl)
theorem dX2_word_155 : decode cX2_word 155 = .ok (.lreturn, 1) := dk_173 (dk_at dksX2_word_3 7 rfl rfl)
theorem dX2_word_156 : decode cX2_word 156 = .ok (.ldc2_w 180, 3) := dk_20 0 180 (dk_at dksX2_word_3 8 rfl rfl)
theorem dX2_word_159 : decode cX2_word 159 = .ok (.lreturn, 1) := dk_173 (dk_at dksX2_word_3 11 rfl rfl)
theorem dX2_word_160 : decode cX2_word 160 = .ok (.ldc2_w 182, 3) := dk_20 0 182 (dk_at dksX2_word_3 12 rfl rfl)
theorem dX2_word_163 : decode cX2_word 163 = .ok (.lreturn, 1) := dk_173 (dk_at dksX2_word_3 15 rfl rfl)
theorem dX2_word_164 : decode cX2_word 164 = .ok (.ldc2_w 184, 3) := dk_20 0 184 (dk_at dksX2_word_3 16 rfl rfl)
theorem dX2_word_167 : decode cX2_word 167 = .ok (.lreturn, 1) := dk_173 (dk_at dksX2_word_3 19 rfl rfl)
theorem dX2_word_168 : decode cX2_word 168 = .ok (.ldc2_w 186, 3) := dk_20 0 186 (dk_at dksX2_word_3 20 rfl rfl)
theorem dX2_word_171 : decode cX2_word 171 = .ok (.lreturn, 1) := dk_173 (dk_at dksX2_word_3 23 rfl rfl)
theorem dX2_word_172 : decode cX2_word 172 = .ok (.ldc2_w 188, 3) := dk_20 0 188 (dk_at dksX2_word_4 0 rfl rfl)
theorem dX2_word_175 : decode cX2_word 175 = .ok (.lreturn, 1) := dk_173 (dk_at dksX2_word_4 3 rfl rfl)
theorem dX2_word_176 : decode cX2_word 176 = .ok (.ldc2_w 190, 3) := dk_20 0 190 (dk_at dksX2_word_4 4 rfl rfl)
theorem dX2_word_179 : decode cX2_word 179 = .ok (.lreturn, 1) := dk_173 (dk_at dksX2_word_4 7 rfl rfl)
theorem dX2_word_180 : decode cX2_word 180 = .ok (.ldc2_w 192, 3) := dk_20 0 192 (dk_at dksX2_word_4 8 rfl rfl)
theorem dX2_word_183 : decode cX2_word 183 = .ok (.lreturn, 1) := dk_173 (dk_at dksX2_word_4 11 rfl rfl)
theorem dX2_word_184 : decode cX2_word 184 = .ok (.ldc2_w 194, 3) := dk_20 0 194 (dk_at dksX2_word_4 12 rfl rfl)
theorem dX2_word_187 : decode cX2_word 187 = .ok (.lreturn, 1) := dk_173 (dk_at dksX2_word_4 15 rfl rfl)
theorem dX2_word_188 : decode cX2_word 188 = .ok (.ldc2_w 196, 3) := dk_20 0 196 (dk_at dksX2_word_4 16 rfl rfl)
theorem dX2_word_191 : decode cX2_word 191 = .ok (.lreturn, 1) := dk_173 (dk_at dksX2_word_4 19 rfl rfl)
theorem dX2_word_192 : decode cX2_word 192 = .ok (.ldc2_w 198, 3) := dk_20 0 198 (dk_at dksX2_word_4 20 rfl rfl)
theorem dX2_word_195 : decode cX2_word 195 = .ok (.lreturn, 1) := dk_173 (dk_at dksX2_word_4 23 rfl rfl)
theorem dX2_word_196 : decode cX2_word 196 = .ok (.ldc2_w 200, 3) := dk_20 0 200 (dk_at dksX2_word_5 0 rfl rfl)
theorem dX2_word_199 : decode cX2_word 199 = .ok (.lreturn, 1) := dk_173 (dk_at dksX2_word_5 3 rfl rfl)
theorem dX2_word_200 : decode cX2_word 200 = .ok (.ldc2_w 202, 3) := dk_20 0 202 (dk_at dksX2_word_5 4 rfl rfl)
theorem dX2_word_203 : decode cX2_word 203 = .ok (.lreturn, 1) := dk_173 (dk_at dksX2_word_5 7 rfl rfl)
theorem dX2_word_204 : decode cX2_word 204 = .ok (.ldc2_w 204, 3) := dk_20 0 204 (dk_at dksX2_word_5 8 rfl rfl)
theorem dX2_word_207 : decode cX2_word 207 = .ok (.lreturn, 1) := dk_173 (dk_at dksX2_word_5 11 rfl rfl)
theorem dX2_word_208 : decode cX2_word 208 = .ok (.ldc2_w 206, 3) := dk_20 0 206 (dk_at dksX2_word_5 12 rfl rfl)
theorem dX2_word_211 : decode cX2_word 211 = .ok (.lreturn, 1) := dk_173 (dk_at dksX2_word_5 15 rfl rfl)
theorem dX2_word_212 : decode cX2_word 212 = .ok (.ldc2_w 208, 3) := dk_20 0 208 (dk_at dksX2_word_5 16 rfl rfl)
theorem dX2_word_215 : decode cX2_word 215 = .ok (.lreturn, 1) := dk_173 (dk_at dksX2_word_5 19 rfl rfl)
theorem dX2_word_216 : decode cX2_word 216 = .ok (.ldc2_w 210, 3) := dk_20 0 210 (dk_at dksX2_word_5 20 rfl rfl)
theorem dX2_word_219 : decode cX2_word 219 = .ok (.lreturn, 1) := dk_173 (dk_at dksX2_word_5 23 rfl rfl)
theorem dX2_word_220 : decode cX2_word 220 = .ok (.ldc2_w 212, 3) := dk_20 0 212 (dk_at dksX2_word_6 0 rfl rfl)
theorem dX2_word_223 : decode cX2_word 223 = .ok (.lreturn, 1) := dk_173 (dk_at dksX2_word_6 3 rfl rfl)
theorem dX2_word_224 : decode cX2_word 224 = .ok (.ldc2_w 214, 3) := dk_20 0 214 (dk_at dksX2_word_6 4 rfl rfl)
theorem dX2_word_227 : decode cX2_word 227 = .ok (.lreturn, 1) := dk_173 (dk_at dksX2_word_6 7 rfl rfl)
theorem dX2_word_228 : decode cX2_word 228 = .ok (.ldc2_w 216, 3) := dk_20 0 216 (dk_at dksX2_word_6 8 rfl rfl)
theorem dX2_word_231 : decode cX2_word 231 = .ok (.lreturn, 1) := dk_173 (dk_at dksX2_word_6 11 rfl rfl)
theorem dX2_word_232 : decode cX2_word 232 = .ok (.ldc2_w 218, 3) := dk_20 0 218 (dk_at dksX2_word_6 12 rfl rfl)
theorem dX2_word_235 : decode cX2_word 235 = .ok (.lreturn, 1) := dk_173 (dk_at dksX2_word_6 15 rfl rfl)
abbrev cX2_letters : ByteArray := prog_32_method_12_code
def yX2_letters : MethodName := ⟨RX2, "letters", "(J)I"⟩
def dkwX2_letters_1 : List UInt8 := [167, 255, 239, 29, 172]
abbrev dktX2_letters_1 : List UInt8 := dkwX2_letters_1 ++ []
def dkwX2_letters_0 : List UInt8 := [3, 62, 31, 55, 4, 22, 4, 9, 148, 153, 0, 16, 132, 3, 1, 22, 4, 16, 8, 123, 55, 4]
abbrev dktX2_letters_0 : List UInt8 := dkwX2_letters_0 ++ dktX2_letters_1
theorem dksX2_letters_0 : cX2_letters.data.toList.drop 0 = dktX2_letters_0 := by decide +kernel
theorem dksX2_letters_1 : cX2_letters.data.toList.drop 22 = dktX2_letters_1 := dk_seg dksX2_letters_0 22 rfl rfl
theorem dX2_letters_0 : decode cX2_letters 0 = .ok (.iconst 0, 1) := dk_3 (dk_at dksX2_letters_0 0 rfl rfl)
theorem dX2_letters_1 : decode cX2_letters 1 = .ok (.istore_n 3, 1) := dk_62 (dk_at dksX2_letters_0 1 rfl rfl)
theorem dX2_letters_2 : decode cX2_letters 2 = .ok (.lload_n 1, 1) := dk_31 (dk_at dksX2_letters_0 2 rfl rfl)
theorem dX2_letters_3 : decode cX2_letters 3 = .ok (.lstore 4, 2) := dk_55 4 (dk_at dksX2_letters_0 3 rfl rfl)
theorem dX2_letters_5 : decode cX2_letters 5 = .ok (.lload 4, 2) := dk_22 4 (dk_at dksX2_letters_0 5 rfl rfl)
theorem dX2_letters_7 : decode cX2_letters 7 = .ok (.lconst 0, 1) := dk_9 (dk_at dksX2_letters_0 7 rfl rfl)
theorem dX2_letters_8 : decode cX2_letters 8 = .ok (.lcmp, 1) := dk_148 (dk_at dksX2_letters_0 8 rfl rfl)
theorem dX2_letters_9 : decode cX2_letters 9 = .ok (.ifCond .eq 16, 3) := dk_153 0 16 (dk_at dksX2_letters_0 9 rfl rfl)
theorem dX2_letters_12 : decode cX2_letters 12 = .ok (.iinc 3 1, 3) := dk_132 3 1 (dk_at dksX2_letters_0 12 rfl rfl)
theorem dX2_letters_15 : decode cX2_letters 15 = .ok (.lload 4, 2) := dk_22 4 (dk_at dksX2_letters_0 15 rfl rfl)
theorem dX2_letters_17 : decode cX2_letters 17 = .ok (.bipush 8, 2) := dk_16 8 (dk_at dksX2_letters_0 17 rfl rfl)
theorem dX2_letters_19 : decode cX2_letters 19 = .ok (.lshr, 1) := dk_123 (dk_at dksX2_letters_0 19 rfl rfl)
theorem dX2_letters_20 : decode cX2_letters 20 = .ok (.lstore 4, 2) := dk_55 4 (dk_at dksX2_letters_0 20 rfl rfl)
theorem dX2_letters_22 : decode cX2_letters 22 = .ok (.goto (-17), 3) := dk_167 255 239 (dk_at dksX2_letters_1 0 rfl rfl)
theorem dX2_letters_25 : decode cX2_letters 25 = .ok (.iload_n 3, 1) := dk_29 (dk_at dksX2_letters_1 3 rfl rfl)
theorem dX2_letters_26 : decode cX2_letters 26 = .ok (.ireturn, 1) := dk_172 (dk_at dksX2_letters_1 4 rfl rfl)
abbrev cX2_lookAt : ByteArray := prog_32_method_7_code
def yX2_lookAt : MethodName := ⟨RX2, "lookAt", "(I)I"⟩
def dkwX2_lookAt_1 : List UInt8 := [167, 0, 4, 3, 172]
abbrev dktX2_lookAt_1 : List UInt8 := dkwX2_lookAt_1 ++ []
def dkwX2_lookAt_0 : List UInt8 := [42, 180, 0, 22, 27, 96, 42, 180, 0, 16, 162, 0, 17, 42, 180, 0, 39, 42, 180, 0, 22, 27, 96, 52]
abbrev dktX2_lookAt_0 : List UInt8 := dkwX2_lookAt_0 ++ dktX2_lookAt_1
theorem dksX2_lookAt_0 : cX2_lookAt.data.toList.drop 0 = dktX2_lookAt_0 := by decide +kernel
theorem dksX2_lookAt_1 : cX2_lookAt.data.toList.drop 24 = dktX2_lookAt_1 := dk_seg dksX2_lookAt_0 24 rfl rfl
theorem dX2_lookAt_0 : decode cX2_lookAt 0 = .ok (.aload_n 0, 1) := dk_42 (dk_at dksX2_lookAt_0 0 rfl rfl)
theorem dX2_lookAt_1 : decode cX2_lookAt 1 = .ok (.getfield 22, 3) := dk_180 0 22 (dk_at dksX2_lookAt_0 1 rfl rfl)
theorem dX2_lookAt_4 : decode cX2_lookAt 4 = .ok (.iload_n 1, 1) := dk_27 (dk_at dksX2_lookAt_0 4 rfl rfl)
theorem dX2_lookAt_5 : decode cX2_lookAt 5 = .ok (.iadd, 1) := dk_96 (dk_at dksX2_lookAt_0 5 rfl rfl)
theorem dX2_lookAt_6 : decode cX2_lookAt 6 = .ok (.aload_n 0, 1) := dk_42 (dk_at dksX2_lookAt_0 6 rfl rfl)
theorem dX2_lookAt_7 : decode cX2_lookAt 7 = .ok (.getfield 16, 3) := dk_180 0 16 (dk_at dksX2_lookAt_0 7 rfl rfl)
theorem dX2_lookAt_10 : decode cX2_lookAt 10 = .ok (.if_icmp .ge 17, 3) := dk_162 0 17 (dk_at dksX2_lookAt_0 10 rfl rfl)
theorem dX2_lookAt_13 : decode cX2_lookAt 13 = .ok (.aload_n 0, 1) := dk_42 (dk_at dksX2_lookAt_0 13 rfl rfl)
theorem dX2_lookAt_14 : decode cX2_lookAt 14 = .ok (.getfield 39, 3) := dk_180 0 39 (dk_at dksX2_lookAt_0 14 rfl rfl)
theorem dX2_lookAt_17 : decode cX2_lookAt 17 = .ok (.aload_n 0, 1) := dk_42 (dk_at dksX2_lookAt_0 17 rfl rfl)
theorem dX2_lookAt_18 : decode cX2_lookAt 18 = .ok (.getfield 22, 3) := dk_180 0 22 (dk_at dksX2_lookAt_0 18 rfl rfl)
theorem dX2_lookAt_21 : decode cX2_lookAt 21 = .ok (.iload_n 1, 1) := dk_27 (dk_at dksX2_lookAt_0 21 rfl rfl)
theorem dX2_lookAt_22 : decode cX2_lookAt 22 = .ok (.iadd, 1) := dk_96 (dk_at dksX2_lookAt_0 22 rfl rfl)
theorem dX2_lookAt_23 : decode cX2_lookAt 23 = .ok (.caload, 1) := dk_52 (dk_at dksX2_lookAt_0 23 rfl rfl)
theorem dX2_lookAt_24 : decode cX2_lookAt 24 = .ok (.goto 4, 3) := dk_167 0 4 (dk_at dksX2_lookAt_1 0 rfl rfl)
theorem dX2_lookAt_27 : decode cX2_lookAt 27 = .ok (.iconst 0, 1) := dk_3 (dk_at dksX2_lookAt_1 3 rfl rfl)
theorem dX2_lookAt_28 : decode cX2_lookAt 28 = .ok (.ireturn, 1) := dk_172 (dk_at dksX2_lookAt_1 4 rfl rfl)
abbrev cX2_target : ByteArray := prog_32_method_31_code
def yX2_target : MethodName := ⟨RX2, "target", "()V"⟩
def dkwX2_target_2 : List UInt8 := [42, 16, 44, 182, 0, 248, 42, 4, 42, 3, 182, 1, 30, 182, 1, 34, 42, 182, 1, 37, 177]
abbrev dktX2_target_2 : List UInt8 := dkwX2_target_2 ++ []
def dkwX2_target_1 : List UInt8 := [16, 26, 42, 182, 1, 27, 96, 182, 1, 23, 42, 182, 1, 11, 42, 3, 42, 3, 182, 1, 30, 182, 1, 34]
abbrev dktX2_target_1 : List UInt8 := dkwX2_target_1 ++ dktX2_target_2
def dkwX2_target_0 : List UInt8 := [42, 42, 182, 0, 156, 182, 0, 241, 154, 0, 13, 42, 3, 42, 182, 1, 5, 182, 1, 23, 177, 42, 3]
abbrev dktX2_target_0 : List UInt8 := dkwX2_target_0 ++ dktX2_target_1
theorem dksX2_target_0 : cX2_target.data.toList.drop 0 = dktX2_target_0 := by decide +kernel
theorem dksX2_target_1 : cX2_target.data.toList.drop 23 = dktX2_target_1 := dk_seg dksX2_target_0 23 rfl rfl
theorem dksX2_target_2 : cX2_target.data.toList.drop 47 = dktX2_target_2 := dk_seg dksX2_target_1 24 rfl rfl
theorem dX2_target_0 : decode cX2_target 0 = .ok (.aload_n 0, 1) := dk_42 (dk_at dksX2_target_0 0 rfl rfl)
theorem dX2_target_1 : decode cX2_target 1 = .ok (.aload_n 0, 1) := dk_42 (dk_at dksX2_target_0 1 rfl rfl)
theorem dX2_target_2 : decode cX2_target 2 = .ok (.invokevirtual 156, 3) := dk_182 0 156 (dk_at dksX2_target_0 2 rfl rfl)
theorem dX2_target_5 : decode cX2_target 5 = .ok (.invokevirtual 241, 3) := dk_182 0 241 (dk_at dksX2_target_0 5 rfl rfl)
theorem dX2_target_8 : decode cX2_target 8 = .ok (.ifCond .ne 13, 3) := dk_154 0 13 (dk_at dksX2_target_0 8 rfl rfl)
theorem dX2_target_11 : decode cX2_target 11 = .ok (.aload_n 0, 1) := dk_42 (dk_at dksX2_target_0 11 rfl rfl)
theorem dX2_target_12 : decode cX2_target 12 = .ok (.iconst 0, 1) := dk_3 (dk_at dksX2_target_0 12 rfl rfl)
theorem dX2_target_13 : decode cX2_target 13 = .ok (.aload_n 0, 1) := dk_42 (dk_at dksX2_target_0 13 rfl rfl)
theorem dX2_target_14 : decode cX2_target 14 = .ok (.invokevirtual 261, 3) := dk_182 1 5 (dk_at dksX2_target_0 14 rfl rfl)
theorem dX2_target_17 : decode cX2_target 17 = .ok (.invokevirtual 279, 3) := dk_182 1 23 (dk_at dksX2_target_0 17 rfl rfl)
theorem dX2_target_20 : decode cX2_target 20 = .ok (.return_, 1) := dk_177 (dk_at dksX2_target_0 20 rfl rfl)
theorem dX2_target_21 : decode cX2_target 21 = .ok (.aload_n 0, 1) := dk_42 (dk_at dksX2_target_0 21 rfl rfl)
theorem dX2_target_22 : decode cX2_target 22 = .ok (.iconst 0, 1) := dk_3 (dk_at dksX2_target_0 22 rfl rfl)
theorem dX2_target_23 : decode cX2_target 23 = .ok (.bipush 26, 2) := dk_16 26 (dk_at dksX2_target_1 0 rfl rfl)
theorem dX2_target_25 : decode cX2_target 25 = .ok (.aload_n 0, 1) := dk_42 (dk_at dksX2_target_1 2 rfl rfl)
theorem dX2_target_26 : decode cX2_target 26 = .ok (.invokevirtual 283, 3) := dk_182 1 27 (dk_at dksX2_target_1 3 rfl rfl)
theorem dX2_target_29 : decode cX2_target 29 = .ok (.iadd, 1) := dk_96 (dk_at dksX2_target_1 6 rfl rfl)
theorem dX2_target_30 : decode cX2_target 30 = .ok (.invokevirtual 279, 3) := dk_182 1 23 (dk_at dksX2_target_1 7 rfl rfl)
theorem dX2_target_33 : decode cX2_target 33 = .ok (.aload_n 0, 1) := dk_42 (dk_at dksX2_target_1 10 rfl rfl)
theorem dX2_target_34 : decode cX2_target 34 = .ok (.invokevirtual 267, 3) := dk_182 1 11 (dk_at dksX2_target_1 11 rfl rfl)
theorem dX2_target_37 : decode cX2_target 37 = .ok (.aload_n 0, 1) := dk_42 (dk_at dksX2_target_1 14 rfl rfl)
theorem dX2_target_38 : decode cX2_target 38 = .ok (.iconst 0, 1) := dk_3 (dk_at dksX2_target_1 15 rfl rfl)
theorem dX2_target_39 : decode cX2_target 39 = .ok (.aload_n 0, 1) := dk_42 (dk_at dksX2_target_1 16 rfl rfl)
theorem dX2_target_40 : decode cX2_target 40 = .ok (.iconst 0, 1) := dk_3 (dk_at dksX2_target_1 17 rfl rfl)
theorem dX2_target_41 : decode cX2_target 41 = .ok (.invokevirtual 286, 3) := dk_182 1 30 (dk_at dksX2_target_1 18 rfl rfl)
theorem dX2_target_44 : decode cX2_target 44 = .ok (.invokevirtual 290, 3) := dk_182 1 34 (dk_at dksX2_target_1 21 rfl rfl)
theorem dX2_target_47 : decode cX2_target 47 = .ok (.aload_n 0, 1) := dk_42 (dk_at dksX2_target_2 0 rfl rfl)
theorem dX2_target_48 : decode cX2_target 48 = .ok (.bipush 44, 2) := dk_16 44 (dk_at dksX2_target_2 1 rfl rfl)
theorem dX2_target_50 : decode cX2_target 50 = .ok (.invokevirtual 248, 3) := dk_182 0 248 (dk_at dksX2_target_2 3 rfl rfl)
theorem dX2_target_53 : decode cX2_target 53 = .ok (.aload_n 0, 1) := dk_42 (dk_at dksX2_target_2 6 rfl rfl)
theorem dX2_target_54 : decode cX2_target 54 = .ok (.iconst 1, 1) := dk_4 (dk_at dksX2_target_2 7 rfl rfl)
theorem dX2_target_55 : decode cX2_target 55 = .ok (.aload_n 0, 1) := dk_42 (dk_at dksX2_target_2 8 rfl rfl)
theorem dX2_target_56 : decode cX2_target 56 = .ok (.iconst 0, 1) := dk_3 (dk_at dksX2_target_2 9 rfl rfl)
theorem dX2_target_57 : decode cX2_target 57 = .ok (.invokevirtual 286, 3) := dk_182 1 30 (dk_at dksX2_target_2 10 rfl rfl)
theorem dX2_target_60 : decode cX2_target 60 = .ok (.invokevirtual 290, 3) := dk_182 1 34 (dk_at dksX2_target_2 13 rfl rfl)
theorem dX2_target_63 : decode cX2_target 63 = .ok (.aload_n 0, 1) := dk_42 (dk_at dksX2_target_2 16 rfl rfl)
theorem dX2_target_64 : decode cX2_target 64 = .ok (.invokevirtual 293, 3) := dk_182 1 37 (dk_at dksX2_target_2 17 rfl rfl)
theorem dX2_target_67 : decode cX2_target 67 = .ok (.return_, 1) := dk_177 (dk_at dksX2_target_2 20 rfl rfl)
abbrev cX2_isMatrix : ByteArray := prog_32_method_17_code
def yX2_isMatrix : MethodName := ⟨RX2, "isMatrix", "(I)Z"⟩
def dkwX2_isMatrix_0 : List UInt8 := [27, 16, 80, 161, 0, 13, 27, 16, 82, 163, 0, 7, 4, 167, 0, 4, 3, 172]
abbrev dktX2_isMatrix_0 : List UInt8 := dkwX2_isMatrix_0 ++ []
theorem dksX2_isMatrix_0 : cX2_isMatrix.data.toList.drop 0 = dktX2_isMatrix_0 := by decide +kernel
theorem dX2_isMatrix_0 : decode cX2_isMatrix 0 = .ok (.iload_n 1, 1) := dk_27 (dk_at dksX2_isMatrix_0 0 rfl rfl)
theorem dX2_isMatrix_1 : decode cX2_isMatrix 1 = .ok (.bipush 80, 2) := dk_16 80 (dk_at dksX2_isMatrix_0 1 rfl rfl)
theorem dX2_isMatrix_3 : decode cX2_isMatrix 3 = .ok (.if_icmp .lt 13, 3) := dk_161 0 13 (dk_at dksX2_isMatrix_0 3 rfl rfl)
theorem dX2_isMatrix_6 : decode cX2_isMatrix 6 = .ok (.iload_n 1, 1) := dk_27 (dk_at dksX2_isMatrix_0 6 rfl rfl)
theorem dX2_isMatrix_7 : decode cX2_isMatrix 7 = .ok (.bipush 82, 2) := dk_16 82 (dk_at dksX2_isMatrix_0 7 rfl rfl)
theorem dX2_isMatrix_9 : decode cX2_isMatrix 9 = .ok (.if_icmp .gt 7, 3) := dk_163 0 7 (dk_at dksX2_isMatrix_0 9 rfl rfl)
theorem dX2_isMatrix_12 : decode cX2_isMatrix 12 = .ok (.iconst 1, 1) := dk_4 (dk_at dksX2_isMatrix_0 12 rfl rfl)
theorem dX2_isMatrix_13 : decode cX2_isMatrix 13 = .ok (.goto 4, 3) := dk_167 0 4 (dk_at dksX2_isMatrix_0 13 rfl rfl)
theorem dX2_isMatrix_16 : decode cX2_isMatrix 16 = .ok (.iconst 0, 1) := dk_3 (dk_at dksX2_isMatrix_0 16 rfl rfl)
theorem dX2_isMatrix_17 : decode cX2_isMatrix 17 = .ok (.ireturn, 1) := dk_172 (dk_at dksX2_isMatrix_0 17 rfl rfl)
abbrev cX2_variable : ByteArray := prog_32_method_18_code
def yX2_variable : MethodName := ⟨RX2, "variable", "()I"⟩
def dkwX2_variable_2 : List UInt8 := [181, 0, 22, 27, 16, 65, 100, 172]
abbrev dktX2_variable_2 : List UInt8 := dkwX2_variable_2 ++ []
def dkwX2_variable_1 : List UInt8 := [42, 27, 182, 0, 241, 153, 0, 10, 42, 4, 181, 0, 31, 3, 172, 42, 89, 180, 0, 22, 4, 96]
abbrev dktX2_variable_1 : List UInt8 := dkwX2_variable_1 ++ dktX2_variable_2
def dkwX2_variable_0 : List UInt8 := [42, 182, 0, 156, 60, 42, 180, 0, 31, 154, 0, 23, 27, 16, 65, 161, 0, 17, 27, 16, 90, 163, 0, 11]
abbrev dktX2_variable_0 : List UInt8 := dkwX2_variable_0 ++ dktX2_variable_1
theorem dksX2_variable_0 : cX2_variable.data.toList.drop 0 = dktX2_variable_0 := by decide +kernel
theorem dksX2_variable_1 : cX2_variable.data.toList.drop 24 = dktX2_variable_1 := dk_seg dksX2_variable_0 24 rfl rfl
theorem dksX2_variable_2 : cX2_variable.data.toList.drop 46 = dktX2_variable_2 := dk_seg dksX2_variable_1 22 rfl rfl
theorem dX2_variable_0 : decode cX2_variable 0 = .ok (.aload_n 0, 1) := dk_42 (dk_at dksX2_variable_0 0 rfl rfl)
theorem dX2_variable_1 : decode cX2_variable 1 = .ok (.invokevirtual 156, 3) := dk_182 0 156 (dk_at dksX2_variable_0 1 rfl rfl)
theorem dX2_variable_4 : decode cX2_variable 4 = .ok (.istore_n 1, 1) := dk_60 (dk_at dksX2_variable_0 4 rfl rfl)
theorem dX2_variable_5 : decode cX2_variable 5 = .ok (.aload_n 0, 1) := dk_42 (dk_at dksX2_variable_0 5 rfl rfl)
theorem dX2_variable_6 : decode cX2_variable 6 = .ok (.getfield 31, 3) := dk_180 0 31 (dk_at dksX2_variable_0 6 rfl rfl)
theorem dX2_variable_9 : decode cX2_variable 9 = .ok (.ifCond .ne 23, 3) := dk_154 0 23 (dk_at dksX2_variable_0 9 rfl rfl)
theorem dX2_variable_12 : decode cX2_variable 12 = .ok (.iload_n 1, 1) := dk_27 (dk_at dksX2_variable_0 12 rfl rfl)
theorem dX2_variable_13 : decode cX2_variable 13 = .ok (.bipush 65, 2) := dk_16 65 (dk_at dksX2_variable_0 13 rfl rfl)
theorem dX2_variable_15 : decode cX2_variable 15 = .ok (.if_icmp .lt 17, 3) := dk_161 0 17 (dk_at dksX2_variable_0 15 rfl rfl)
theorem dX2_variable_18 : decode cX2_variable 18 = .ok (.iload_n 1, 1) := dk_27 (dk_at dksX2_variable_0 18 rfl rfl)
theorem dX2_variable_19 : decode cX2_variable 19 = .ok (.bipush 90, 2) := dk_16 90 (dk_at dksX2_variable_0 19 rfl rfl)
theorem dX2_variable_21 : decode cX2_variable 21 = .ok (.if_icmp .gt 11, 3) := dk_163 0 11 (dk_at dksX2_variable_0 21 rfl rfl)
theorem dX2_variable_24 : decode cX2_variable 24 = .ok (.aload_n 0, 1) := dk_42 (dk_at dksX2_variable_1 0 rfl rfl)
theorem dX2_variable_25 : decode cX2_variable 25 = .ok (.iload_n 1, 1) := dk_27 (dk_at dksX2_variable_1 1 rfl rfl)
theorem dX2_variable_26 : decode cX2_variable 26 = .ok (.invokevirtual 241, 3) := dk_182 0 241 (dk_at dksX2_variable_1 2 rfl rfl)
theorem dX2_variable_29 : decode cX2_variable 29 = .ok (.ifCond .eq 10, 3) := dk_153 0 10 (dk_at dksX2_variable_1 5 rfl rfl)
theorem dX2_variable_32 : decode cX2_variable 32 = .ok (.aload_n 0, 1) := dk_42 (dk_at dksX2_variable_1 8 rfl rfl)
theorem dX2_variable_33 : decode cX2_variable 33 = .ok (.iconst 1, 1) := dk_4 (dk_at dksX2_variable_1 9 rfl rfl)
theorem dX2_variable_34 : decode cX2_variable 34 = .ok (.putfield 31, 3) := dk_181 0 31 (dk_at dksX2_variable_1 10 rfl rfl)
theorem dX2_variable_37 : decode cX2_variable 37 = .ok (.iconst 0, 1) := dk_3 (dk_at dksX2_variable_1 13 rfl rfl)
theorem dX2_variable_38 : decode cX2_variable 38 = .ok (.ireturn, 1) := dk_172 (dk_at dksX2_variable_1 14 rfl rfl)
theorem dX2_variable_39 : decode cX2_variable 39 = .ok (.aload_n 0, 1) := dk_42 (dk_at dksX2_variable_1 15 rfl rfl)
theorem dX2_variable_40 : decode cX2_variable 40 = .ok (.dup, 1) := dk_89 (dk_at dksX2_variable_1 16 rfl rfl)
theorem dX2_variable_41 : decode cX2_variable 41 = .ok (.getfield 22, 3) := dk_180 0 22 (dk_at dksX2_variable_1 17 rfl rfl)
theorem dX2_variable_44 : decode cX2_variable 44 = .ok (.iconst 1, 1) := dk_4 (dk_at dksX2_variable_1 20 rfl rfl)
theorem dX2_variable_45 : decode cX2_variable 45 = .ok (.iadd, 1) := dk_96 (dk_at dksX2_variable_1 21 rfl rfl)
theorem dX2_variable_46 : decode cX2_variable 46 = .ok (.putfield 22, 3) := dk_181 0 22 (dk_at dksX2_variable_2 0 rfl rfl)
theorem dX2_variable_49 : decode cX2_variable 49 = .ok (.iload_n 1, 1) := dk_27 (dk_at dksX2_variable_2 3 rfl rfl)
theorem dX2_variable_50 : decode cX2_variable 50 = .ok (.bipush 65, 2) := dk_16 65 (dk_at dksX2_variable_2 4 rfl rfl)
theorem dX2_variable_52 : decode cX2_variable 52 = .ok (.isub, 1) := dk_100 (dk_at dksX2_variable_2 6 rfl rfl)
theorem dX2_variable_53 : decode cX2_variable 53 = .ok (.ireturn, 1) := dk_172 (dk_at dksX2_variable_2 7 rfl rfl)
abbrev cX2_setArg : ByteArray := prog_32_method_29_code
def yX2_setArg : MethodName := ⟨RX2, "setArg", "(II)V"⟩
def dkwX2_setArg_0 : List UInt8 := [42, 180, 0, 49, 17, 0, 192, 27, 96, 28, 79, 177]
abbrev dktX2_setArg_0 : List UInt8 := dkwX2_setArg_0 ++ []
theorem dksX2_setArg_0 : cX2_setArg.data.toList.drop 0 = dktX2_setArg_0 := by decide +kernel
theorem dX2_setArg_0 : decode cX2_setArg 0 = .ok (.aload_n 0, 1) := dk_42 (dk_at dksX2_setArg_0 0 rfl rfl)
theorem dX2_setArg_1 : decode cX2_setArg 1 = .ok (.getfield 49, 3) := dk_180 0 49 (dk_at dksX2_setArg_0 1 rfl rfl)
theorem dX2_setArg_4 : decode cX2_setArg 4 = .ok (.sipush 192, 3) := dk_17 0 192 (dk_at dksX2_setArg_0 4 rfl rfl)
theorem dX2_setArg_7 : decode cX2_setArg 7 = .ok (.iload_n 1, 1) := dk_27 (dk_at dksX2_setArg_0 7 rfl rfl)
theorem dX2_setArg_8 : decode cX2_setArg 8 = .ok (.iadd, 1) := dk_96 (dk_at dksX2_setArg_0 8 rfl rfl)
theorem dX2_setArg_9 : decode cX2_setArg 9 = .ok (.iload_n 2, 1) := dk_28 (dk_at dksX2_setArg_0 9 rfl rfl)
theorem dX2_setArg_10 : decode cX2_setArg 10 = .ok (.iastore, 1) := dk_79 (dk_at dksX2_setArg_0 10 rfl rfl)
theorem dX2_setArg_11 : decode cX2_setArg 11 = .ok (.return_, 1) := dk_177 (dk_at dksX2_setArg_0 11 rfl rfl)
abbrev cX2_matrix : ByteArray := prog_32_method_19_code
def yX2_matrix : MethodName := ⟨RX2, "matrix", "()I"⟩
def dkwX2_matrix_1 : List UInt8 := [181, 0, 31, 3, 172, 42, 89, 180, 0, 22, 4, 96, 181, 0, 22, 27, 16, 80, 100, 172]
abbrev dktX2_matrix_1 : List UInt8 := dkwX2_matrix_1 ++ []
def dkwX2_matrix_0 : List UInt8 := [42, 182, 0, 156, 60, 42, 180, 0, 31, 154, 0, 11, 42, 27, 182, 0, 241, 154, 0, 10, 42, 4]
abbrev dktX2_matrix_0 : List UInt8 := dkwX2_matrix_0 ++ dktX2_matrix_1
theorem dksX2_matrix_0 : cX2_matrix.data.toList.drop 0 = dktX2_matrix_0 := by decide +kernel
theorem dksX2_matrix_1 : cX2_matrix.data.toList.drop 22 = dktX2_matrix_1 := dk_seg dksX2_matrix_0 22 rfl rfl
theorem dX2_matrix_0 : decode cX2_matrix 0 = .ok (.aload_n 0, 1) := dk_42 (dk_at dksX2_matrix_0 0 rfl rfl)
theorem dX2_matrix_1 : decode cX2_matrix 1 = .ok (.invokevirtual 156, 3) := dk_182 0 156 (dk_at dksX2_matrix_0 1 rfl rfl)
theorem dX2_matrix_4 : decode cX2_matrix 4 = .ok (.istore_n 1, 1) := dk_60 (dk_at dksX2_matrix_0 4 rfl rfl)
theorem dX2_matrix_5 : decode cX2_matrix 5 = .ok (.aload_n 0, 1) := dk_42 (dk_at dksX2_matrix_0 5 rfl rfl)
theorem dX2_matrix_6 : decode cX2_matrix 6 = .ok (.getfield 31, 3) := dk_180 0 31 (dk_at dksX2_matrix_0 6 rfl rfl)
theorem dX2_matrix_9 : decode cX2_matrix 9 = .ok (.ifCond .ne 11, 3) := dk_154 0 11 (dk_at dksX2_matrix_0 9 rfl rfl)
theorem dX2_matrix_12 : decode cX2_matrix 12 = .ok (.aload_n 0, 1) := dk_42 (dk_at dksX2_matrix_0 12 rfl rfl)
theorem dX2_matrix_13 : decode cX2_matrix 13 = .ok (.iload_n 1, 1) := dk_27 (dk_at dksX2_matrix_0 13 rfl rfl)
theorem dX2_matrix_14 : decode cX2_matrix 14 = .ok (.invokevirtual 241, 3) := dk_182 0 241 (dk_at dksX2_matrix_0 14 rfl rfl)
theorem dX2_matrix_17 : decode cX2_matrix 17 = .ok (.ifCond .ne 10, 3) := dk_154 0 10 (dk_at dksX2_matrix_0 17 rfl rfl)
theorem dX2_matrix_20 : decode cX2_matrix 20 = .ok (.aload_n 0, 1) := dk_42 (dk_at dksX2_matrix_0 20 rfl rfl)
theorem dX2_matrix_21 : decode cX2_matrix 21 = .ok (.iconst 1, 1) := dk_4 (dk_at dksX2_matrix_0 21 rfl rfl)
theorem dX2_matrix_22 : decode cX2_matrix 22 = .ok (.putfield 31, 3) := dk_181 0 31 (dk_at dksX2_matrix_1 0 rfl rfl)
theorem dX2_matrix_25 : decode cX2_matrix 25 = .ok (.iconst 0, 1) := dk_3 (dk_at dksX2_matrix_1 3 rfl rfl)
theorem dX2_matrix_26 : decode cX2_matrix 26 = .ok (.ireturn, 1) := dk_172 (dk_at dksX2_matrix_1 4 rfl rfl)
theorem dX2_matrix_27 : decode cX2_matrix 27 = .ok (.aload_n 0, 1) := dk_42 (dk_at dksX2_matrix_1 5 rfl rfl)
theorem dX2_matrix_28 : decode cX2_matrix 28 = .ok (.dup, 1) := dk_89 (dk_at dksX2_matrix_1 6 rfl rfl)
theorem dX2_matrix_29 : decode cX2_matrix 29 = .ok (.getfield 22, 3) := dk_180 0 22 (dk_at dksX2_matrix_1 7 rfl rfl)
theorem dX2_matrix_32 : decode cX2_matrix 32 = .ok (.iconst 1, 1) := dk_4 (dk_at dksX2_matrix_1 10 rfl rfl)
theorem dX2_matrix_33 : decode cX2_matrix 33 = .ok (.iadd, 1) := dk_96 (dk_at dksX2_matrix_1 11 rfl rfl)
theorem dX2_matrix_34 : decode cX2_matrix 34 = .ok (.putfield 22, 3) := dk_181 0 22 (dk_at dksX2_matrix_1 12 rfl rfl)
theorem dX2_matrix_37 : decode cX2_matrix 37 = .ok (.iload_n 1, 1) := dk_27 (dk_at dksX2_matrix_1 15 rfl rfl)
theorem dX2_matrix_38 : decode cX2_matrix 38 = .ok (.bipush 80, 2) := dk_16 80 (dk_at dksX2_matrix_1 16 rfl rfl)
theorem dX2_matrix_40 : decode cX2_matrix 40 = .ok (.isub, 1) := dk_100 (dk_at dksX2_matrix_1 18 rfl rfl)
theorem dX2_matrix_41 : decode cX2_matrix 41 = .ok (.ireturn, 1) := dk_172 (dk_at dksX2_matrix_1 19 rfl rfl)
abbrev cX2_bracket : ByteArray := prog_32_method_21_code
def yX2_bracket : MethodName := ⟨RX2, "bracket", "()V"⟩
def dkwX2_bracket_1 : List UInt8 := [154, 0, 13, 42, 89, 180, 0, 25, 4, 96, 181, 0, 25, 177]
abbrev dktX2_bracket_1 : List UInt8 := dkwX2_bracket_1 ++ []
def dkwX2_bracket_0 : List UInt8 := [42, 180, 0, 25, 16, 6, 160, 0, 8, 42, 4, 181, 0, 31, 42, 16, 40, 182, 0, 248, 42, 180, 0, 31]
abbrev dktX2_bracket_0 : List UInt8 := dkwX2_bracket_0 ++ dktX2_bracket_1
theorem dksX2_bracket_0 : cX2_bracket.data.toList.drop 0 = dktX2_bracket_0 := by decide +kernel
theorem dksX2_bracket_1 : cX2_bracket.data.toList.drop 24 = dktX2_bracket_1 := dk_seg dksX2_bracket_0 24 rfl rfl
theorem dX2_bracket_0 : decode cX2_bracket 0 = .ok (.aload_n 0, 1) := dk_42 (dk_at dksX2_bracket_0 0 rfl rfl)
theorem dX2_bracket_1 : decode cX2_bracket 1 = .ok (.getfield 25, 3) := dk_180 0 25 (dk_at dksX2_bracket_0 1 rfl rfl)
theorem dX2_bracket_4 : decode cX2_bracket 4 = .ok (.bipush 6, 2) := dk_16 6 (dk_at dksX2_bracket_0 4 rfl rfl)
theorem dX2_bracket_6 : decode cX2_bracket 6 = .ok (.if_icmp .ne 8, 3) := dk_160 0 8 (dk_at dksX2_bracket_0 6 rfl rfl)
theorem dX2_bracket_9 : decode cX2_bracket 9 = .ok (.aload_n 0, 1) := dk_42 (dk_at dksX2_bracket_0 9 rfl rfl)
theorem dX2_bracket_10 : decode cX2_bracket 10 = .ok (.iconst 1, 1) := dk_4 (dk_at dksX2_bracket_0 10 rfl rfl)
theorem dX2_bracket_11 : decode cX2_bracket 11 = .ok (.putfield 31, 3) := dk_181 0 31 (dk_at dksX2_bracket_0 11 rfl rfl)
theorem dX2_bracket_14 : decode cX2_bracket 14 = .ok (.aload_n 0, 1) := dk_42 (dk_at dksX2_bracket_0 14 rfl rfl)
theorem dX2_bracket_15 : decode cX2_bracket 15 = .ok (.bipush 40, 2) := dk_16 40 (dk_at dksX2_bracket_0 15 rfl rfl)
theorem dX2_bracket_17 : decode cX2_bracket 17 = .ok (.invokevirtual 248, 3) := dk_182 0 248 (dk_at dksX2_bracket_0 17 rfl rfl)
theorem dX2_bracket_20 : decode cX2_bracket 20 = .ok (.aload_n 0, 1) := dk_42 (dk_at dksX2_bracket_0 20 rfl rfl)
theorem dX2_bracket_21 : decode cX2_bracket 21 = .ok (.getfield 31, 3) := dk_180 0 31 (dk_at dksX2_bracket_0 21 rfl rfl)
theorem dX2_bracket_24 : decode cX2_bracket 24 = .ok (.ifCond .ne 13, 3) := dk_154 0 13 (dk_at dksX2_bracket_1 0 rfl rfl)
theorem dX2_bracket_27 : decode cX2_bracket 27 = .ok (.aload_n 0, 1) := dk_42 (dk_at dksX2_bracket_1 3 rfl rfl)
theorem dX2_bracket_28 : decode cX2_bracket 28 = .ok (.dup, 1) := dk_89 (dk_at dksX2_bracket_1 4 rfl rfl)
theorem dX2_bracket_29 : decode cX2_bracket 29 = .ok (.getfield 25, 3) := dk_180 0 25 (dk_at dksX2_bracket_1 5 rfl rfl)
theorem dX2_bracket_32 : decode cX2_bracket 32 = .ok (.iconst 1, 1) := dk_4 (dk_at dksX2_bracket_1 8 rfl rfl)
theorem dX2_bracket_33 : decode cX2_bracket 33 = .ok (.iadd, 1) := dk_96 (dk_at dksX2_bracket_1 9 rfl rfl)
theorem dX2_bracket_34 : decode cX2_bracket 34 = .ok (.putfield 25, 3) := dk_181 0 25 (dk_at dksX2_bracket_1 10 rfl rfl)
theorem dX2_bracket_37 : decode cX2_bracket 37 = .ok (.return_, 1) := dk_177 (dk_at dksX2_bracket_1 13 rfl rfl)
abbrev cX2_need : ByteArray := prog_32_method_9_code
def yX2_need : MethodName := ⟨RX2, "need", "(I)V"⟩
def dkwX2_need_0 : List UInt8 := [42, 27, 182, 0, 160, 154, 0, 8, 42, 4, 181, 0, 31, 177]
abbrev dktX2_need_0 : List UInt8 := dkwX2_need_0 ++ []
theorem dksX2_need_0 : cX2_need.data.toList.drop 0 = dktX2_need_0 := by decide +kernel
theorem dX2_need_0 : decode cX2_need 0 = .ok (.aload_n 0, 1) := dk_42 (dk_at dksX2_need_0 0 rfl rfl)
theorem dX2_need_1 : decode cX2_need 1 = .ok (.iload_n 1, 1) := dk_27 (dk_at dksX2_need_0 1 rfl rfl)
theorem dX2_need_2 : decode cX2_need 2 = .ok (.invokevirtual 160, 3) := dk_182 0 160 (dk_at dksX2_need_0 2 rfl rfl)
theorem dX2_need_5 : decode cX2_need 5 = .ok (.ifCond .ne 8, 3) := dk_154 0 8 (dk_at dksX2_need_0 5 rfl rfl)
theorem dX2_need_8 : decode cX2_need 8 = .ok (.aload_n 0, 1) := dk_42 (dk_at dksX2_need_0 8 rfl rfl)
theorem dX2_need_9 : decode cX2_need 9 = .ok (.iconst 1, 1) := dk_4 (dk_at dksX2_need_0 9 rfl rfl)
theorem dX2_need_10 : decode cX2_need 10 = .ok (.putfield 31, 3) := dk_181 0 31 (dk_at dksX2_need_0 10 rfl rfl)
theorem dX2_need_13 : decode cX2_need 13 = .ok (.return_, 1) := dk_177 (dk_at dksX2_need_0 13 rfl rfl)
abbrev cX2_take : ByteArray := prog_32_method_8_code
def yX2_take : MethodName := ⟨RX2, "take", "(I)Z"⟩
def dkwX2_take_1 : List UInt8 := [181, 0, 22, 4, 172]
abbrev dktX2_take_1 : List UInt8 := dkwX2_take_1 ++ []
def dkwX2_take_0 : List UInt8 := [42, 180, 0, 31, 154, 0, 11, 42, 182, 0, 156, 27, 159, 0, 5, 3, 172, 42, 89, 180, 0, 22, 4, 96]
abbrev dktX2_take_0 : List UInt8 := dkwX2_take_0 ++ dktX2_take_1
theorem dksX2_take_0 : cX2_take.data.toList.drop 0 = dktX2_take_0 := by decide +kernel
theorem dksX2_take_1 : cX2_take.data.toList.drop 24 = dktX2_take_1 := dk_seg dksX2_take_0 24 rfl rfl
theorem dX2_take_0 : decode cX2_take 0 = .ok (.aload_n 0, 1) := dk_42 (dk_at dksX2_take_0 0 rfl rfl)
theorem dX2_take_1 : decode cX2_take 1 = .ok (.getfield 31, 3) := dk_180 0 31 (dk_at dksX2_take_0 1 rfl rfl)
theorem dX2_take_4 : decode cX2_take 4 = .ok (.ifCond .ne 11, 3) := dk_154 0 11 (dk_at dksX2_take_0 4 rfl rfl)
theorem dX2_take_7 : decode cX2_take 7 = .ok (.aload_n 0, 1) := dk_42 (dk_at dksX2_take_0 7 rfl rfl)
theorem dX2_take_8 : decode cX2_take 8 = .ok (.invokevirtual 156, 3) := dk_182 0 156 (dk_at dksX2_take_0 8 rfl rfl)
theorem dX2_take_11 : decode cX2_take 11 = .ok (.iload_n 1, 1) := dk_27 (dk_at dksX2_take_0 11 rfl rfl)
theorem dX2_take_12 : decode cX2_take 12 = .ok (.if_icmp .eq 5, 3) := dk_159 0 5 (dk_at dksX2_take_0 12 rfl rfl)
theorem dX2_take_15 : decode cX2_take 15 = .ok (.iconst 0, 1) := dk_3 (dk_at dksX2_take_0 15 rfl rfl)
theorem dX2_take_16 : decode cX2_take 16 = .ok (.ireturn, 1) := dk_172 (dk_at dksX2_take_0 16 rfl rfl)
theorem dX2_take_17 : decode cX2_take 17 = .ok (.aload_n 0, 1) := dk_42 (dk_at dksX2_take_0 17 rfl rfl)
theorem dX2_take_18 : decode cX2_take 18 = .ok (.dup, 1) := dk_89 (dk_at dksX2_take_0 18 rfl rfl)
theorem dX2_take_19 : decode cX2_take 19 = .ok (.getfield 22, 3) := dk_180 0 22 (dk_at dksX2_take_0 19 rfl rfl)
theorem dX2_take_22 : decode cX2_take 22 = .ok (.iconst 1, 1) := dk_4 (dk_at dksX2_take_0 22 rfl rfl)
theorem dX2_take_23 : decode cX2_take 23 = .ok (.iadd, 1) := dk_96 (dk_at dksX2_take_0 23 rfl rfl)
theorem dX2_take_24 : decode cX2_take 24 = .ok (.putfield 22, 3) := dk_181 0 22 (dk_at dksX2_take_1 0 rfl rfl)
theorem dX2_take_27 : decode cX2_take 27 = .ok (.iconst 1, 1) := dk_4 (dk_at dksX2_take_1 3 rfl rfl)
theorem dX2_take_28 : decode cX2_take 28 = .ok (.ireturn, 1) := dk_172 (dk_at dksX2_take_1 4 rfl rfl)
abbrev cX2_expression : ByteArray := prog_32_method_28_code
def yX2_expression : MethodName := ⟨RX2, "expression", "(Z)I"⟩
def dkwX2_expression_14 : List UInt8 := [182, 1, 17, 62, 42, 16, 14, 182, 0, 244, 28, 172]
abbrev dktX2_expression_14 : List UInt8 := dkwX2_expression_14 ++ []
def dkwX2_expression_13 : List UInt8 := [42, 89, 180, 0, 22, 4, 96, 181, 0, 22, 132, 3, 1, 4, 54, 5, 167, 254, 213, 42, 29, 4]
abbrev dktX2_expression_13 : List UInt8 := dkwX2_expression_13 ++ dktX2_expression_14
def dkwX2_expression_12 : List UInt8 := [167, 0, 11, 42, 4, 181, 0, 31, 167, 0, 35, 42, 89, 180, 0, 22, 4, 96, 181, 0, 22, 167, 254, 232]
abbrev dktX2_expression_12 : List UInt8 := dkwX2_expression_12 ++ dktX2_expression_13
def dkwX2_expression_11 : List UInt8 := [42, 21, 9, 182, 1, 20, 132, 3, 255, 132, 4, 255, 42, 89, 180, 0, 25, 4, 100, 181, 0, 25]
abbrev dktX2_expression_11 : List UInt8 := dkwX2_expression_11 ++ dktX2_expression_12
def dkwX2_expression_10 : List UInt8 := [167, 0, 57, 21, 7, 16, 41, 160, 0, 42, 21, 9, 16, 110, 161, 0, 10, 21, 9, 16, 119, 164, 0, 28]
abbrev dktX2_expression_10 : List UInt8 := dkwX2_expression_10 ++ dktX2_expression_11
def dkwX2_expression_9 : List UInt8 := [162, 0, 25, 42, 180, 0, 58, 29, 4, 100, 21, 9, 16, 10, 96, 79, 4, 54, 6, 4, 54, 5]
abbrev dktX2_expression_9 : List UInt8 := dkwX2_expression_9 ++ dktX2_expression_10
def dkwX2_expression_8 : List UInt8 := [100, 46, 54, 9, 21, 7, 16, 44, 160, 0, 39, 21, 9, 16, 109, 164, 0, 32, 21, 9, 16, 120]
abbrev dktX2_expression_8 : List UInt8 := dkwX2_expression_8 ++ dktX2_expression_9
def dkwX2_expression_7 : List UInt8 := [167, 0, 138, 21, 4, 154, 0, 6, 167, 0, 149, 42, 29, 4, 182, 1, 17, 62, 42, 180, 0, 58, 29, 4]
abbrev dktX2_expression_7 : List UInt8 := dkwX2_expression_7 ++ dktX2_expression_8
def dkwX2_expression_6 : List UInt8 := [158, 0, 26, 42, 29, 42, 21, 8, 182, 0, 251, 182, 1, 17, 62, 42, 180, 0, 58, 29, 21, 8, 79]
abbrev dktX2_expression_6 : List UInt8 := dkwX2_expression_6 ++ dktX2_expression_7
def dkwX2_expression_5 : List UInt8 := [132, 3, 1, 132, 4, 1, 4, 54, 6, 167, 255, 147, 42, 21, 7, 182, 1, 14, 54, 8, 21, 8]
abbrev dktX2_expression_5 : List UInt8 := dkwX2_expression_5 ++ dktX2_expression_6
def dkwX2_expression_4 : List UInt8 := [21, 8, 154, 0, 9, 3, 54, 5, 167, 255, 171, 42, 182, 1, 11, 42, 180, 0, 58, 29, 21, 8, 79]
abbrev dktX2_expression_4 : List UInt8 := dkwX2_expression_4 ++ dktX2_expression_5
def dkwX2_expression_3 : List UInt8 := [167, 255, 202, 3, 54, 6, 42, 27, 21, 4, 154, 0, 7, 4, 167, 0, 4, 3, 182, 1, 7, 54, 8]
abbrev dktX2_expression_3 : List UInt8 := dkwX2_expression_3 ++ dktX2_expression_4
def dkwX2_expression_2 : List UInt8 := [180, 0, 22, 4, 96, 181, 0, 22, 42, 180, 0, 58, 29, 16, 8, 79, 132, 3, 1, 3, 54, 6]
abbrev dktX2_expression_2 : List UInt8 := dkwX2_expression_2 ++ dktX2_expression_3
def dkwX2_expression_1 : List UInt8 := [182, 0, 156, 54, 7, 21, 5, 153, 0, 97, 21, 6, 153, 0, 37, 21, 7, 16, 45, 160, 0, 30, 42, 89]
abbrev dktX2_expression_1 : List UInt8 := dkwX2_expression_1 ++ dktX2_expression_2
def dkwX2_expression_0 : List UInt8 := [42, 180, 0, 28, 61, 3, 62, 3, 54, 4, 4, 54, 5, 4, 54, 6, 42, 180, 0, 31, 154, 1, 42, 42]
abbrev dktX2_expression_0 : List UInt8 := dkwX2_expression_0 ++ dktX2_expression_1
theorem dksX2_expression_0 : cX2_expression.data.toList.drop 0 = dktX2_expression_0 := by decide +kernel
theorem dksX2_expression_1 : cX2_expression.data.toList.drop 24 = dktX2_expression_1 := dk_seg dksX2_expression_0 24 rfl rfl
theorem dksX2_expression_2 : cX2_expression.data.toList.drop 48 = dktX2_expression_2 := dk_seg dksX2_expression_1 24 rfl rfl
theorem dksX2_expression_3 : cX2_expression.data.toList.drop 70 = dktX2_expression_3 := dk_seg dksX2_expression_2 22 rfl rfl
theorem dksX2_expression_4 : cX2_expression.data.toList.drop 93 = dktX2_expression_4 := dk_seg dksX2_expression_3 23 rfl rfl
theorem dksX2_expression_5 : cX2_expression.data.toList.drop 116 = dktX2_expression_5 := dk_seg dksX2_expression_4 23 rfl rfl
theorem dksX2_expression_6 : cX2_expression.data.toList.drop 138 = dktX2_expression_6 := dk_seg dksX2_expression_5 22 rfl rfl
theorem dksX2_expression_7 : cX2_expression.data.toList.drop 161 = dktX2_expression_7 := dk_seg dksX2_expression_6 23 rfl rfl
theorem dksX2_expression_8 : cX2_expression.data.toList.drop 185 = dktX2_expression_8 := dk_seg dksX2_expression_7 24 rfl rfl
theorem dksX2_expression_9 : cX2_expression.data.toList.drop 207 = dktX2_expression_9 := dk_seg dksX2_expression_8 22 rfl rfl
theorem dksX2_expression_10 : cX2_expression.data.toList.drop 229 = dktX2_expression_10 := dk_seg dksX2_expression_9 22 rfl rfl
theorem dksX2_expression_11 : cX2_expression.data.toList.drop 253 = dktX2_expression_11 := dk_seg dksX2_expression_10 24 rfl rfl
theorem dksX2_expression_12 : cX2_expression.data.toList.drop 275 = dktX2_expression_12 := dk_seg dksX2_expression_11 22 rfl rfl
theorem dksX2_expression_13 : cX2_expression.data.toList.drop 299 = dktX2_expression_13 := dk_seg dksX2_expression_12 24 rfl rfl
theorem dksX2_expression_14 : cX2_expression.data.toList.drop 321 = dktX2_expression_14 := dk_seg dksX2_expression_13 22 rfl rfl
theorem dX2_expression_0 : decode cX2_expression 0 = .ok (.aload_n 0, 1) := dk_42 (dk_at dksX2_expression_0 0 rfl rfl)
theorem dX2_expression_1 : decode cX2_expression 1 = .ok (.getfield 28, 3) := dk_180 0 28 (dk_at dksX2_expression_0 1 rfl rfl)
theorem dX2_expression_4 : decode cX2_expression 4 = .ok (.istore_n 2, 1) := dk_61 (dk_at dksX2_expression_0 4 rfl rfl)
theorem dX2_expression_5 : decode cX2_expression 5 = .ok (.iconst 0, 1) := dk_3 (dk_at dksX2_expression_0 5 rfl rfl)
theorem dX2_expression_6 : decode cX2_expression 6 = .ok (.istore_n 3, 1) := dk_62 (dk_at dksX2_expression_0 6 rfl rfl)
theorem dX2_expression_7 : decode cX2_expression 7 = .ok (.iconst 0, 1) := dk_3 (dk_at dksX2_expression_0 7 rfl rfl)
theorem dX2_expression_8 : decode cX2_expression 8 = .ok (.istore 4, 2) := dk_54 4 (dk_at dksX2_expression_0 8 rfl rfl)
theorem dX2_expression_10 : decode cX2_expression 10 = .ok (.iconst 1, 1) := dk_4 (dk_at dksX2_expression_0 10 rfl rfl)
theorem dX2_expression_11 : decode cX2_expression 11 = .ok (.istore 5, 2) := dk_54 5 (dk_at dksX2_expression_0 11 rfl rfl)
theorem dX2_expression_13 : decode cX2_expression 13 = .ok (.iconst 1, 1) := dk_4 (dk_at dksX2_expression_0 13 rfl rfl)
theorem dX2_expression_14 : decode cX2_expression 14 = .ok (.istore 6, 2) := dk_54 6 (dk_at dksX2_expression_0 14 rfl rfl)
theorem dX2_expression_16 : decode cX2_expression 16 = .ok (.aload_n 0, 1) := dk_42 (dk_at dksX2_expression_0 16 rfl rfl)
theorem dX2_expression_17 : decode cX2_expression 17 = .ok (.getfield 31, 3) := dk_180 0 31 (dk_at dksX2_expression_0 17 rfl rfl)
theorem dX2_expression_20 : decode cX2_expression 20 = .ok (.ifCond .ne 298, 3) := dk_154 1 42 (dk_at dksX2_expression_0 20 rfl rfl)
theorem dX2_expression_23 : decode cX2_expression 23 = .ok (.aload_n 0, 1) := dk_42 (dk_at dksX2_expression_0 23 rfl rfl)
theorem dX2_expression_24 : decode cX2_expression 24 = .ok (.invokevirtual 156, 3) := dk_182 0 156 (dk_at dksX2_expression_1 0 rfl rfl)
theorem dX2_expression_27 : decode cX2_expression 27 = .ok (.istore 7, 2) := dk_54 7 (dk_at dksX2_expression_1 3 rfl rfl)
theorem dX2_expression_29 : decode cX2_expression 29 = .ok (.iload 5, 2) := dk_21 5 (dk_at dksX2_expression_1 5 rfl rfl)
theorem dX2_expression_31 : decode cX2_expression 31 = .ok (.ifCond .eq 97, 3) := dk_153 0 97 (dk_at dksX2_expression_1 7 rfl rfl)
theorem dX2_expression_34 : decode cX2_expression 34 = .ok (.iload 6, 2) := dk_21 6 (dk_at dksX2_expression_1 10 rfl rfl)
theorem dX2_expression_36 : decode cX2_expression 36 = .ok (.ifCond .eq 37, 3) := dk_153 0 37 (dk_at dksX2_expression_1 12 rfl rfl)
theorem dX2_expression_39 : decode cX2_expression 39 = .ok (.iload 7, 2) := dk_21 7 (dk_at dksX2_expression_1 15 rfl rfl)
theorem dX2_expression_41 : decode cX2_expression 41 = .ok (.bipush 45, 2) := dk_16 45 (dk_at dksX2_expression_1 17 rfl rfl)
theorem dX2_expression_43 : decode cX2_expression 43 = .ok (.if_icmp .ne 30, 3) := dk_160 0 30 (dk_at dksX2_expression_1 19 rfl rfl)
theorem dX2_expression_46 : decode cX2_expression 46 = .ok (.aload_n 0, 1) := dk_42 (dk_at dksX2_expression_1 22 rfl rfl)
theorem dX2_expression_47 : decode cX2_expression 47 = .ok (.dup, 1) := dk_89 (dk_at dksX2_expression_1 23 rfl rfl)
theorem dX2_expression_48 : decode cX2_expression 48 = .ok (.getfield 22, 3) := dk_180 0 22 (dk_at dksX2_expression_2 0 rfl rfl)
theorem dX2_expression_51 : decode cX2_expression 51 = .ok (.iconst 1, 1) := dk_4 (dk_at dksX2_expression_2 3 rfl rfl)
theorem dX2_expression_52 : decode cX2_expression 52 = .ok (.iadd, 1) := dk_96 (dk_at dksX2_expression_2 4 rfl rfl)
theorem dX2_expression_53 : decode cX2_expression 53 = .ok (.putfield 22, 3) := dk_181 0 22 (dk_at dksX2_expression_2 5 rfl rfl)
theorem dX2_expression_56 : decode cX2_expression 56 = .ok (.aload_n 0, 1) := dk_42 (dk_at dksX2_expression_2 8 rfl rfl)
theorem dX2_expression_57 : decode cX2_expression 57 = .ok (.getfield 58, 3) := dk_180 0 58 (dk_at dksX2_expression_2 9 rfl rfl)
theorem dX2_expression_60 : decode cX2_expression 60 = .ok (.iload_n 3, 1) := dk_29 (dk_at dksX2_expression_2 12 rfl rfl)
theorem dX2_expression_61 : decode cX2_expression 61 = .ok (.bipush 8, 2) := dk_16 8 (dk_at dksX2_expression_2 13 rfl rfl)
theorem dX2_expression_63 : decode cX2_expression 63 = .ok (.iastore, 1) := dk_79 (dk_at dksX2_expression_2 15 rfl rfl)
theorem dX2_expression_64 : decode cX2_expression 64 = .ok (.iinc 3 1, 3) := dk_132 3 1 (dk_at dksX2_expression_2 16 rfl rfl)
theorem dX2_expression_67 : decode cX2_expression 67 = .ok (.iconst 0, 1) := dk_3 (dk_at dksX2_expression_2 19 rfl rfl)
theorem dX2_expression_68 : decode cX2_expression 68 = .ok (.istore 6, 2) := dk_54 6 (dk_at dksX2_expression_2 20 rfl rfl)
theorem dX2_expression_70 : decode cX2_expression 70 = .ok (.goto (-54), 3) := dk_167 255 202 (dk_at dksX2_expression_3 0 rfl rfl)
theorem dX2_expression_73 : decode cX2_expression 73 = .ok (.iconst 0, 1) := dk_3 (dk_at dksX2_expression_3 3 rfl rfl)
theorem dX2_expression_74 : decode cX2_expression 74 = .ok (.istore 6, 2) := dk_54 6 (dk_at dksX2_expression_3 4 rfl rfl)
theorem dX2_expression_76 : decode cX2_expression 76 = .ok (.aload_n 0, 1) := dk_42 (dk_at dksX2_expression_3 6 rfl rfl)
theorem dX2_expression_77 : decode cX2_expression 77 = .ok (.iload_n 1, 1) := dk_27 (dk_at dksX2_expression_3 7 rfl rfl)
theorem dX2_expression_78 : decode cX2_expression 78 = .ok (.iload 4, 2) := dk_21 4 (dk_at dksX2_expression_3 8 rfl rfl)
theorem dX2_expression_80 : decode cX2_expression 80 = .ok (.ifCond .ne 7, 3) := dk_154 0 7 (dk_at dksX2_expression_3 10 rfl rfl)
theorem dX2_expression_83 : decode cX2_expression 83 = .ok (.iconst 1, 1) := dk_4 (dk_at dksX2_expression_3 13 rfl rfl)
theorem dX2_expression_84 : decode cX2_expression 84 = .ok (.goto 4, 3) := dk_167 0 4 (dk_at dksX2_expression_3 14 rfl rfl)
theorem dX2_expression_87 : decode cX2_expression 87 = .ok (.iconst 0, 1) := dk_3 (dk_at dksX2_expression_3 17 rfl rfl)
theorem dX2_expression_88 : decode cX2_expression 88 = .ok (.invokevirtual 263, 3) := dk_182 1 7 (dk_at dksX2_expression_3 18 rfl rfl)
theorem dX2_expression_91 : decode cX2_expression 91 = .ok (.istore 8, 2) := dk_54 8 (dk_at dksX2_expression_3 21 rfl rfl)
theorem dX2_expression_93 : decode cX2_expression 93 = .ok (.iload 8, 2) := dk_21 8 (dk_at dksX2_expression_4 0 rfl rfl)
theorem dX2_expression_95 : decode cX2_expression 95 = .ok (.ifCond .ne 9, 3) := dk_154 0 9 (dk_at dksX2_expression_4 2 rfl rfl)
theorem dX2_expression_98 : decode cX2_expression 98 = .ok (.iconst 0, 1) := dk_3 (dk_at dksX2_expression_4 5 rfl rfl)
theorem dX2_expression_99 : decode cX2_expression 99 = .ok (.istore 5, 2) := dk_54 5 (dk_at dksX2_expression_4 6 rfl rfl)
theorem dX2_expression_101 : decode cX2_expression 101 = .ok (.goto (-85), 3) := dk_167 255 171 (dk_at dksX2_expression_4 8 rfl rfl)
theorem dX2_expression_104 : decode cX2_expression 104 = .ok (.aload_n 0, 1) := dk_42 (dk_at dksX2_expression_4 11 rfl rfl)
theorem dX2_expression_105 : decode cX2_expression 105 = .ok (.invokevirtual 267, 3) := dk_182 1 11 (dk_at dksX2_expression_4 12 rfl rfl)
theorem dX2_expression_108 : decode cX2_expression 108 = .ok (.aload_n 0, 1) := dk_42 (dk_at dksX2_expression_4 15 rfl rfl)
theorem dX2_expression_109 : decode cX2_expression 109 = .ok (.getfield 58, 3) := dk_180 0 58 (dk_at dksX2_expression_4 16 rfl rfl)
theorem dX2_expression_112 : decode cX2_expression 112 = .ok (.iload_n 3, 1) := dk_29 (dk_at dksX2_expression_4 19 rfl rfl)
theorem dX2_expression_113 : decode cX2_expression 113 = .ok (.iload 8, 2) := dk_21 8 (dk_at dksX2_expression_4 20 rfl rfl)
theorem dX2_expression_115 : decode cX2_expression 115 = .ok (.iastore, 1) := dk_79 (dk_at dksX2_expression_4 22 rfl rfl)
theorem dX2_expression_116 : decode cX2_expression 116 = .ok (.iinc 3 1, 3) := dk_132 3 1 (dk_at dksX2_expression_5 0 rfl rfl)
theorem dX2_expression_119 : decode cX2_expression 119 = .ok (.iinc 4 1, 3) := dk_132 4 1 (dk_at dksX2_expression_5 3 rfl rfl)
theorem dX2_expression_122 : decode cX2_expression 122 = .ok (.iconst 1, 1) := dk_4 (dk_at dksX2_expression_5 6 rfl rfl)
theorem dX2_expression_123 : decode cX2_expression 123 = .ok (.istore 6, 2) := dk_54 6 (dk_at dksX2_expression_5 7 rfl rfl)
theorem dX2_expression_125 : decode cX2_expression 125 = .ok (.goto (-109), 3) := dk_167 255 147 (dk_at dksX2_expression_5 9 rfl rfl)
theorem dX2_expression_128 : decode cX2_expression 128 = .ok (.aload_n 0, 1) := dk_42 (dk_at dksX2_expression_5 12 rfl rfl)
theorem dX2_expression_129 : decode cX2_expression 129 = .ok (.iload 7, 2) := dk_21 7 (dk_at dksX2_expression_5 13 rfl rfl)
theorem dX2_expression_131 : decode cX2_expression 131 = .ok (.invokevirtual 270, 3) := dk_182 1 14 (dk_at dksX2_expression_5 15 rfl rfl)
theorem dX2_expression_134 : decode cX2_expression 134 = .ok (.istore 8, 2) := dk_54 8 (dk_at dksX2_expression_5 18 rfl rfl)
theorem dX2_expression_136 : decode cX2_expression 136 = .ok (.iload 8, 2) := dk_21 8 (dk_at dksX2_expression_5 20 rfl rfl)
theorem dX2_expression_138 : decode cX2_expression 138 = .ok (.ifCond .le 26, 3) := dk_158 0 26 (dk_at dksX2_expression_6 0 rfl rfl)
theorem dX2_expression_141 : decode cX2_expression 141 = .ok (.aload_n 0, 1) := dk_42 (dk_at dksX2_expression_6 3 rfl rfl)
theorem dX2_expression_142 : decode cX2_expression 142 = .ok (.iload_n 3, 1) := dk_29 (dk_at dksX2_expression_6 4 rfl rfl)
theorem dX2_expression_143 : decode cX2_expression 143 = .ok (.aload_n 0, 1) := dk_42 (dk_at dksX2_expression_6 5 rfl rfl)
theorem dX2_expression_144 : decode cX2_expression 144 = .ok (.iload 8, 2) := dk_21 8 (dk_at dksX2_expression_6 6 rfl rfl)
theorem dX2_expression_146 : decode cX2_expression 146 = .ok (.invokevirtual 251, 3) := dk_182 0 251 (dk_at dksX2_expression_6 8 rfl rfl)
theorem dX2_expression_149 : decode cX2_expression 149 = .ok (.invokevirtual 273, 3) := dk_182 1 17 (dk_at dksX2_expression_6 11 rfl rfl)
theorem dX2_expression_152 : decode cX2_expression 152 = .ok (.istore_n 3, 1) := dk_62 (dk_at dksX2_expression_6 14 rfl rfl)
theorem dX2_expression_153 : decode cX2_expression 153 = .ok (.aload_n 0, 1) := dk_42 (dk_at dksX2_expression_6 15 rfl rfl)
theorem dX2_expression_154 : decode cX2_expression 154 = .ok (.getfield 58, 3) := dk_180 0 58 (dk_at dksX2_expression_6 16 rfl rfl)
theorem dX2_expression_157 : decode cX2_expression 157 = .ok (.iload_n 3, 1) := dk_29 (dk_at dksX2_expression_6 19 rfl rfl)
theorem dX2_expression_158 : decode cX2_expression 158 = .ok (.iload 8, 2) := dk_21 8 (dk_at dksX2_expression_6 20 rfl rfl)
theorem dX2_expression_160 : decode cX2_expression 160 = .ok (.iastore, 1) := dk_79 (dk_at dksX2_expression_6 22 rfl rfl)
theorem dX2_expression_161 : decode cX2_expression 161 = .ok (.goto 138, 3) := dk_167 0 138 (dk_at dksX2_expression_7 0 rfl rfl)
theorem dX2_expression_164 : decode cX2_expression 164 = .ok (.iload 4, 2) := dk_21 4 (dk_at dksX2_expression_7 3 rfl rfl)
theorem dX2_expression_166 : decode cX2_expression 166 = .ok (.ifCond .ne 6, 3) := dk_154 0 6 (dk_at dksX2_expression_7 5 rfl rfl)
theorem dX2_expression_169 : decode cX2_expression 169 = .ok (.goto 149, 3) := dk_167 0 149 (dk_at dksX2_expression_7 8 rfl rfl)
theorem dX2_expression_172 : decode cX2_expression 172 = .ok (.aload_n 0, 1) := dk_42 (dk_at dksX2_expression_7 11 rfl rfl)
theorem dX2_expression_173 : decode cX2_expression 173 = .ok (.iload_n 3, 1) := dk_29 (dk_at dksX2_expression_7 12 rfl rfl)
theorem dX2_expression_174 : decode cX2_expression 174 = .ok (.iconst 1, 1) := dk_4 (dk_at dksX2_expression_7 13 rfl rfl)
theorem dX2_expression_175 : decode cX2_expression 175 = .ok (.invokevirtual 273, 3) := dk_182 1 17 (dk_at dksX2_expression_7 14 rfl rfl)
theorem dX2_expression_178 : decode cX2_expression 178 = .ok (.istore_n 3, 1) := dk_62 (dk_at dksX2_expression_7 17 rfl rfl)
theorem dX2_expression_179 : decode cX2_expression 179 = .ok (.aload_n 0, 1) := dk_42 (dk_at dksX2_expression_7 18 rfl rfl)
theorem dX2_expression_180 : decode cX2_expression 180 = .ok (.getfield 58, 3) := dk_180 0 58 (dk_at dksX2_expression_7 19 rfl rfl)
theorem dX2_expression_183 : decode cX2_expression 183 = .ok (.iload_n 3, 1) := dk_29 (dk_at dksX2_expression_7 22 rfl rfl)
theorem dX2_expression_184 : decode cX2_expression 184 = .ok (.iconst 1, 1) := dk_4 (dk_at dksX2_expression_7 23 rfl rfl)
theorem dX2_expression_185 : decode cX2_expression 185 = .ok (.isub, 1) := dk_100 (dk_at dksX2_expression_8 0 rfl rfl)
theorem dX2_expression_186 : decode cX2_expression 186 = .ok (.iaload, 1) := dk_46 (dk_at dksX2_expression_8 1 rfl rfl)
theorem dX2_expression_187 : decode cX2_expression 187 = .ok (.istore 9, 2) := dk_54 9 (dk_at dksX2_expression_8 2 rfl rfl)
theorem dX2_expression_189 : decode cX2_expression 189 = .ok (.iload 7, 2) := dk_21 7 (dk_at dksX2_expression_8 4 rfl rfl)
theorem dX2_expression_191 : decode cX2_expression 191 = .ok (.bipush 44, 2) := dk_16 44 (dk_at dksX2_expression_8 6 rfl rfl)
theorem dX2_expression_193 : decode cX2_expression 193 = .ok (.if_icmp .ne 39, 3) := dk_160 0 39 (dk_at dksX2_expression_8 8 rfl rfl)
theorem dX2_expression_196 : decode cX2_expression 196 = .ok (.iload 9, 2) := dk_21 9 (dk_at dksX2_expression_8 11 rfl rfl)
theorem dX2_expression_198 : decode cX2_expression 198 = .ok (.bipush 109, 2) := dk_16 109 (dk_at dksX2_expression_8 13 rfl rfl)
theorem dX2_expression_200 : decode cX2_expression 200 = .ok (.if_icmp .le 32, 3) := dk_164 0 32 (dk_at dksX2_expression_8 15 rfl rfl)
theorem dX2_expression_203 : decode cX2_expression 203 = .ok (.iload 9, 2) := dk_21 9 (dk_at dksX2_expression_8 18 rfl rfl)
theorem dX2_expression_205 : decode cX2_expression 205 = .ok (.bipush 120, 2) := dk_16 120 (dk_at dksX2_expression_8 20 rfl rfl)
theorem dX2_expression_207 : decode cX2_expression 207 = .ok (.if_icmp .ge 25, 3) := dk_162 0 25 (dk_at dksX2_expression_9 0 rfl rfl)
theorem dX2_expression_210 : decode cX2_expression 210 = .ok (.aload_n 0, 1) := dk_42 (dk_at dksX2_expression_9 3 rfl rfl)
theorem dX2_expression_211 : decode cX2_expression 211 = .ok (.getfield 58, 3) := dk_180 0 58 (dk_at dksX2_expression_9 4 rfl rfl)
theorem dX2_expression_214 : decode cX2_expression 214 = .ok (.iload_n 3, 1) := dk_29 (dk_at dksX2_expression_9 7 rfl rfl)
theorem dX2_expression_215 : decode cX2_expression 215 = .ok (.iconst 1, 1) := dk_4 (dk_at dksX2_expression_9 8 rfl rfl)
theorem dX2_expression_216 : decode cX2_expression 216 = .ok (.isub, 1) := dk_100 (dk_at dksX2_expression_9 9 rfl rfl)
theorem dX2_expression_217 : decode cX2_expression 217 = .ok (.iload 9, 2) := dk_21 9 (dk_at dksX2_expression_9 10 rfl rfl)
theorem dX2_expression_219 : decode cX2_expression 219 = .ok (.bipush 10, 2) := dk_16 10 (dk_at dksX2_expression_9 12 rfl rfl)
theorem dX2_expression_221 : decode cX2_expression 221 = .ok (.iadd, 1) := dk_96 (dk_at dksX2_expression_9 14 rfl rfl)
theorem dX2_expression_222 : decode cX2_expression 222 = .ok (.iastore, 1) := dk_79 (dk_at dksX2_expression_9 15 rfl rfl)
theorem dX2_expression_223 : decode cX2_expression 223 = .ok (.iconst 1, 1) := dk_4 (dk_at dksX2_expression_9 16 rfl rfl)
theorem dX2_expression_224 : decode cX2_expression 224 = .ok (.istore 6, 2) := dk_54 6 (dk_at dksX2_expression_9 17 rfl rfl)
theorem dX2_expression_226 : decode cX2_expression 226 = .ok (.iconst 1, 1) := dk_4 (dk_at dksX2_expression_9 19 rfl rfl)
theorem dX2_expression_227 : decode cX2_expression 227 = .ok (.istore 5, 2) := dk_54 5 (dk_at dksX2_expression_9 20 rfl rfl)
theorem dX2_expression_229 : decode cX2_expression 229 = .ok (.goto 57, 3) := dk_167 0 57 (dk_at dksX2_expression_10 0 rfl rfl)
theorem dX2_expression_232 : decode cX2_expression 232 = .ok (.iload 7, 2) := dk_21 7 (dk_at dksX2_expression_10 3 rfl rfl)
theorem dX2_expression_234 : decode cX2_expression 234 = .ok (.bipush 41, 2) := dk_16 41 (dk_at dksX2_expression_10 5 rfl rfl)
theorem dX2_expression_236 : decode cX2_expression 236 = .ok (.if_icmp .ne 42, 3) := dk_160 0 42 (dk_at dksX2_expression_10 7 rfl rfl)
theorem dX2_expression_239 : decode cX2_expression 239 = .ok (.iload 9, 2) := dk_21 9 (dk_at dksX2_expression_10 10 rfl rfl)
theorem dX2_expression_241 : decode cX2_expression 241 = .ok (.bipush 110, 2) := dk_16 110 (dk_at dksX2_expression_10 12 rfl rfl)
theorem dX2_expression_243 : decode cX2_expression 243 = .ok (.if_icmp .lt 10, 3) := dk_161 0 10 (dk_at dksX2_expression_10 14 rfl rfl)
theorem dX2_expression_246 : decode cX2_expression 246 = .ok (.iload 9, 2) := dk_21 9 (dk_at dksX2_expression_10 17 rfl rfl)
theorem dX2_expression_248 : decode cX2_expression 248 = .ok (.bipush 119, 2) := dk_16 119 (dk_at dksX2_expression_10 19 rfl rfl)
theorem dX2_expression_250 : decode cX2_expression 250 = .ok (.if_icmp .le 28, 3) := dk_164 0 28 (dk_at dksX2_expression_10 21 rfl rfl)
theorem dX2_expression_253 : decode cX2_expression 253 = .ok (.aload_n 0, 1) := dk_42 (dk_at dksX2_expression_11 0 rfl rfl)
theorem dX2_expression_254 : decode cX2_expression 254 = .ok (.iload 9, 2) := dk_21 9 (dk_at dksX2_expression_11 1 rfl rfl)
theorem dX2_expression_256 : decode cX2_expression 256 = .ok (.invokevirtual 276, 3) := dk_182 1 20 (dk_at dksX2_expression_11 3 rfl rfl)
theorem dX2_expression_259 : decode cX2_expression 259 = .ok (.iinc 3 (-1), 3) := dk_132 3 255 (dk_at dksX2_expression_11 6 rfl rfl)
theorem dX2_expression_262 : decode cX2_expression 262 = .ok (.iinc 4 (-1), 3) := dk_132 4 255 (dk_at dksX2_expression_11 9 rfl rfl)
theorem dX2_expression_265 : decode cX2_expression 265 = .ok (.aload_n 0, 1) := dk_42 (dk_at dksX2_expression_11 12 rfl rfl)
theorem dX2_expression_266 : decode cX2_expression 266 = .ok (.dup, 1) := dk_89 (dk_at dksX2_expression_11 13 rfl rfl)
theorem dX2_expression_267 : decode cX2_expression 267 = .ok (.getfield 25, 3) := dk_180 0 25 (dk_at dksX2_expression_11 14 rfl rfl)
theorem dX2_expression_270 : decode cX2_expression 270 = .ok (.iconst 1, 1) := dk_4 (dk_at dksX2_expression_11 17 rfl rfl)
theorem dX2_expression_271 : decode cX2_expression 271 = .ok (.isub, 1) := dk_100 (dk_at dksX2_expression_11 18 rfl rfl)
theorem dX2_expression_272 : decode cX2_expression 272 = .ok (.putfield 25, 3) := dk_181 0 25 (dk_at dksX2_expression_11 19 rfl rfl)
theorem dX2_expression_275 : decode cX2_expression 275 = .ok (.goto 11, 3) := dk_167 0 11 (dk_at dksX2_expression_12 0 rfl rfl)
theorem dX2_expression_278 : decode cX2_expression 278 = .ok (.aload_n 0, 1) := dk_42 (dk_at dksX2_expression_12 3 rfl rfl)
theorem dX2_expression_279 : decode cX2_expression 279 = .ok (.iconst 1, 1) := dk_4 (dk_at dksX2_expression_12 4 rfl rfl)
theorem dX2_expression_280 : decode cX2_expression 280 = .ok (.putfield 31, 3) := dk_181 0 31 (dk_at dksX2_expression_12 5 rfl rfl)
theorem dX2_expression_283 : decode cX2_expression 283 = .ok (.goto 35, 3) := dk_167 0 35 (dk_at dksX2_expression_12 8 rfl rfl)
theorem dX2_expression_286 : decode cX2_expression 286 = .ok (.aload_n 0, 1) := dk_42 (dk_at dksX2_expression_12 11 rfl rfl)
theorem dX2_expression_287 : decode cX2_expression 287 = .ok (.dup, 1) := dk_89 (dk_at dksX2_expression_12 12 rfl rfl)
theorem dX2_expression_288 : decode cX2_expression 288 = .ok (.getfield 22, 3) := dk_180 0 22 (dk_at dksX2_expression_12 13 rfl rfl)
theorem dX2_expression_291 : decode cX2_expression 291 = .ok (.iconst 1, 1) := dk_4 (dk_at dksX2_expression_12 16 rfl rfl)
theorem dX2_expression_292 : decode cX2_expression 292 = .ok (.iadd, 1) := dk_96 (dk_at dksX2_expression_12 17 rfl rfl)
theorem dX2_expression_293 : decode cX2_expression 293 = .ok (.putfield 22, 3) := dk_181 0 22 (dk_at dksX2_expression_12 18 rfl rfl)
theorem dX2_expression_296 : decode cX2_expression 296 = .ok (.goto (-280), 3) := dk_167 254 232 (dk_at dksX2_expression_12 21 rfl rfl)
theorem dX2_expression_299 : decode cX2_expression 299 = .ok (.aload_n 0, 1) := dk_42 (dk_at dksX2_expression_13 0 rfl rfl)
theorem dX2_expression_300 : decode cX2_expression 300 = .ok (.dup, 1) := dk_89 (dk_at dksX2_expression_13 1 rfl rfl)
theorem dX2_expression_301 : decode cX2_expression 301 = .ok (.getfield 22, 3) := dk_180 0 22 (dk_at dksX2_expression_13 2 rfl rfl)
theorem dX2_expression_304 : decode cX2_expression 304 = .ok (.iconst 1, 1) := dk_4 (dk_at dksX2_expression_13 5 rfl rfl)
theorem dX2_expression_305 : decode cX2_expression 305 = .ok (.iadd, 1) := dk_96 (dk_at dksX2_expression_13 6 rfl rfl)
theorem dX2_expression_306 : decode cX2_expression 306 = .ok (.putfield 22, 3) := dk_181 0 22 (dk_at dksX2_expression_13 7 rfl rfl)
theorem dX2_expression_309 : decode cX2_expression 309 = .ok (.iinc 3 1, 3) := dk_132 3 1 (dk_at dksX2_expression_13 10 rfl rfl)
theorem dX2_expression_312 : decode cX2_expression 312 = .ok (.iconst 1, 1) := dk_4 (dk_at dksX2_expression_13 13 rfl rfl)
theorem dX2_expression_313 : decode cX2_expression 313 = .ok (.istore 5, 2) := dk_54 5 (dk_at dksX2_expression_13 14 rfl rfl)
theorem dX2_expression_315 : decode cX2_expression 315 = .ok (.goto (-299), 3) := dk_167 254 213 (dk_at dksX2_expression_13 16 rfl rfl)
theorem dX2_expression_318 : decode cX2_expression 318 = .ok (.aload_n 0, 1) := dk_42 (dk_at dksX2_expression_13 19 rfl rfl)
theorem dX2_expression_319 : decode cX2_expression 319 = .ok (.iload_n 3, 1) := dk_29 (dk_at dksX2_expression_13 20 rfl rfl)
theorem dX2_expression_320 : decode cX2_expression 320 = .ok (.iconst 1, 1) := dk_4 (dk_at dksX2_expression_13 21 rfl rfl)
theorem dX2_expression_321 : decode cX2_expression 321 = .ok (.invokevirtual 273, 3) := dk_182 1 17 (dk_at dksX2_expression_14 0 rfl rfl)
theorem dX2_expression_324 : decode cX2_expression 324 = .ok (.istore_n 3, 1) := dk_62 (dk_at dksX2_expression_14 3 rfl rfl)
theorem dX2_expression_325 : decode cX2_expression 325 = .ok (.aload_n 0, 1) := dk_42 (dk_at dksX2_expression_14 4 rfl rfl)
theorem dX2_expression_326 : decode cX2_expression 326 = .ok (.bipush 14, 2) := dk_16 14 (dk_at dksX2_expression_14 5 rfl rfl)
theorem dX2_expression_328 : decode cX2_expression 328 = .ok (.invokevirtual 244, 3) := dk_182 0 244 (dk_at dksX2_expression_14 7 rfl rfl)
theorem dX2_expression_331 : decode cX2_expression 331 = .ok (.iload_n 2, 1) := dk_28 (dk_at dksX2_expression_14 10 rfl rfl)
theorem dX2_expression_332 : decode cX2_expression 332 = .ok (.ireturn, 1) := dk_172 (dk_at dksX2_expression_14 11 rfl rfl)
abbrev cX2_partMark : ByteArray := prog_32_method_25_code
def yX2_partMark : MethodName := ⟨RX2, "partMark", "(ZZ)I"⟩
def dkwX2_partMark_13 : List UInt8 := [16, 65, 100, 172, 42, 182, 1, 5, 54, 6, 42, 4, 182, 0, 244, 42, 21, 6, 182, 0, 244, 3, 172]
abbrev dktX2_partMark_13 : List UInt8 := dkwX2_partMark_13 ++ []
def dkwX2_partMark_12 : List UInt8 := [96, 181, 0, 22, 42, 16, 12, 182, 0, 244, 42, 21, 6, 16, 65, 100, 182, 0, 244, 16, 104, 21, 6, 96]
abbrev dktX2_partMark_12 : List UInt8 := dkwX2_partMark_12 ++ dktX2_partMark_13
def dkwX2_partMark_11 : List UInt8 := [161, 0, 10, 21, 6, 16, 67, 164, 0, 11, 42, 4, 181, 0, 31, 167, 0, 13, 42, 89, 180, 0, 22, 4]
abbrev dktX2_partMark_11 : List UInt8 := dkwX2_partMark_11 ++ dktX2_partMark_12
def dkwX2_partMark_10 : List UInt8 := [160, 0, 75, 42, 89, 180, 0, 22, 5, 96, 181, 0, 22, 42, 182, 0, 156, 54, 6, 21, 6, 16, 65]
abbrev dktX2_partMark_10 : List UInt8 := dkwX2_partMark_10 ++ dktX2_partMark_11
def dkwX2_partMark_9 : List UInt8 := [182, 1, 1, 87, 16, 103, 172, 21, 5, 153, 0, 88, 29, 16, 70, 160, 0, 82, 21, 4, 16, 78]
abbrev dktX2_partMark_9 : List UInt8 := dkwX2_partMark_9 ++ dktX2_partMark_10
def dkwX2_partMark_8 : List UInt8 := [153, 0, 17, 28, 153, 0, 13, 42, 5, 182, 0, 230, 16, 79, 159, 0, 15, 42, 16, 26, 16, 26]
abbrev dktX2_partMark_8 : List UInt8 := dkwX2_partMark_8 ++ dktX2_partMark_9
def dkwX2_partMark_7 : List UInt8 := [87, 16, 102, 172, 21, 5, 153, 0, 46, 29, 16, 83, 160, 0, 40, 21, 4, 16, 71, 160, 0, 33, 27]
abbrev dktX2_partMark_7 : List UInt8 := dkwX2_partMark_7 ++ dktX2_partMark_8
def dkwX2_partMark_6 : List UInt8 := [153, 0, 28, 29, 16, 73, 160, 0, 22, 21, 4, 16, 78, 160, 0, 15, 42, 16, 25, 16, 25, 182, 1, 1]
abbrev dktX2_partMark_6 : List UInt8 := dkwX2_partMark_6 ++ dktX2_partMark_7
def dkwX2_partMark_5 : List UInt8 := [160, 0, 22, 21, 4, 16, 66, 160, 0, 15, 42, 16, 24, 16, 24, 182, 1, 1, 87, 16, 101, 172, 21, 5]
abbrev dktX2_partMark_5 : List UInt8 := dkwX2_partMark_5 ++ dktX2_partMark_6
def dkwX2_partMark_4 : List UInt8 := [161, 0, 15, 29, 16, 57, 163, 0, 9, 42, 182, 0, 254, 3, 172, 21, 5, 153, 0, 28, 29, 16, 65]
abbrev dktX2_partMark_4 : List UInt8 := dkwX2_partMark_4 ++ dktX2_partMark_5
def dkwX2_partMark_3 : List UInt8 := [153, 0, 21, 42, 89, 180, 0, 22, 4, 96, 181, 0, 22, 16, 110, 29, 96, 16, 80, 100, 172, 29, 16, 48]
abbrev dktX2_partMark_3 : List UInt8 := dkwX2_partMark_3 ++ dktX2_partMark_4
def dkwX2_partMark_2 : List UInt8 := [153, 0, 10, 42, 4, 181, 0, 31, 3, 172, 29, 16, 40, 160, 0, 6, 16, 100, 172, 42, 29, 182, 0, 241]
abbrev dktX2_partMark_2 : List UInt8 := dkwX2_partMark_2 ++ dktX2_partMark_3
def dkwX2_partMark_1 : List UInt8 := [167, 0, 4, 3, 54, 5, 21, 5, 154, 0, 24, 29, 16, 40, 159, 0, 11, 42, 29, 182, 0, 241]
abbrev dktX2_partMark_1 : List UInt8 := dkwX2_partMark_1 ++ dktX2_partMark_2
def dkwX2_partMark_0 : List UInt8 := [42, 182, 0, 156, 62, 42, 4, 182, 0, 230, 54, 4, 42, 180, 0, 25, 16, 6, 162, 0, 7, 4]
abbrev dktX2_partMark_0 : List UInt8 := dkwX2_partMark_0 ++ dktX2_partMark_1
theorem dksX2_partMark_0 : cX2_partMark.data.toList.drop 0 = dktX2_partMark_0 := by decide +kernel
theorem dksX2_partMark_1 : cX2_partMark.data.toList.drop 22 = dktX2_partMark_1 := dk_seg dksX2_partMark_0 22 rfl rfl
theorem dksX2_partMark_2 : cX2_partMark.data.toList.drop 44 = dktX2_partMark_2 := dk_seg dksX2_partMark_1 22 rfl rfl
theorem dksX2_partMark_3 : cX2_partMark.data.toList.drop 68 = dktX2_partMark_3 := dk_seg dksX2_partMark_2 24 rfl rfl
theorem dksX2_partMark_4 : cX2_partMark.data.toList.drop 92 = dktX2_partMark_4 := dk_seg dksX2_partMark_3 24 rfl rfl
theorem dksX2_partMark_5 : cX2_partMark.data.toList.drop 115 = dktX2_partMark_5 := dk_seg dksX2_partMark_4 23 rfl rfl
theorem dksX2_partMark_6 : cX2_partMark.data.toList.drop 139 = dktX2_partMark_6 := dk_seg dksX2_partMark_5 24 rfl rfl
theorem dksX2_partMark_7 : cX2_partMark.data.toList.drop 163 = dktX2_partMark_7 := dk_seg dksX2_partMark_6 24 rfl rfl
theorem dksX2_partMark_8 : cX2_partMark.data.toList.drop 186 = dktX2_partMark_8 := dk_seg dksX2_partMark_7 23 rfl rfl
theorem dksX2_partMark_9 : cX2_partMark.data.toList.drop 208 = dktX2_partMark_9 := dk_seg dksX2_partMark_8 22 rfl rfl
theorem dksX2_partMark_10 : cX2_partMark.data.toList.drop 230 = dktX2_partMark_10 := dk_seg dksX2_partMark_9 22 rfl rfl
theorem dksX2_partMark_11 : cX2_partMark.data.toList.drop 253 = dktX2_partMark_11 := dk_seg dksX2_partMark_10 23 rfl rfl
theorem dksX2_partMark_12 : cX2_partMark.data.toList.drop 277 = dktX2_partMark_12 := dk_seg dksX2_partMark_11 24 rfl rfl
theorem dksX2_partMark_13 : cX2_partMark.data.toList.drop 301 = dktX2_partMark_13 := dk_seg dksX2_partMark_12 24 rfl rfl
theorem dX2_partMark_0 : decode cX2_partMark 0 = .ok (.aload_n 0, 1) := dk_42 (dk_at dksX2_partMark_0 0 rfl rfl)
theorem dX2_partMark_1 : decode cX2_partMark 1 = .ok (.invokevirtual 156, 3) := dk_182 0 156 (dk_at dksX2_partMark_0 1 rfl rfl)
theorem dX2_partMark_4 : decode cX2_partMark 4 = .ok (.istore_n 3, 1) := dk_62 (dk_at dksX2_partMark_0 4 rfl rfl)
theorem dX2_partMark_5 : decode cX2_partMark 5 = .ok (.aload_n 0, 1) := dk_42 (dk_at dksX2_partMark_0 5 rfl rfl)
theorem dX2_partMark_6 : decode cX2_partMark 6 = .ok (.iconst 1, 1) := dk_4 (dk_at dksX2_partMark_0 6 rfl rfl)
theorem dX2_partMark_7 : decode cX2_partMark 7 = .ok (.invokevirtual 230, 3) := dk_182 0 230 (dk_at dksX2_partMark_0 7 rfl rfl)
theorem dX2_partMark_10 : decode cX2_partMark 10 = .ok (.istore 4, 2) := dk_54 4 (dk_at dksX2_partMark_0 10 rfl rfl)
theorem dX2_partMark_12 : decode cX2_partMark 12 = .ok (.aload_n 0, 1) := dk_42 (dk_at dksX2_partMark_0 12 rfl rfl)
theorem dX2_partMark_13 : decode cX2_partMark 13 = .ok (.getfield 25, 3) := dk_180 0 25 (dk_at dksX2_partMark_0 13 rfl rfl)
theorem dX2_partMark_16 : decode cX2_partMark 16 = .ok (.bipush 6, 2) := dk_16 6 (dk_at dksX2_partMark_0 16 rfl rfl)
theorem dX2_partMark_18 : decode cX2_partMark 18 = .ok (.if_icmp .ge 7, 3) := dk_162 0 7 (dk_at dksX2_partMark_0 18 rfl rfl)
theorem dX2_partMark_21 : decode cX2_partMark 21 = .ok (.iconst 1, 1) := dk_4 (dk_at dksX2_partMark_0 21 rfl rfl)
theorem dX2_partMark_22 : decode cX2_partMark 22 = .ok (.goto 4, 3) := dk_167 0 4 (dk_at dksX2_partMark_1 0 rfl rfl)
theorem dX2_partMark_25 : decode cX2_partMark 25 = .ok (.iconst 0, 1) := dk_3 (dk_at dksX2_partMark_1 3 rfl rfl)
theorem dX2_partMark_26 : decode cX2_partMark 26 = .ok (.istore 5, 2) := dk_54 5 (dk_at dksX2_partMark_1 4 rfl rfl)
theorem dX2_partMark_28 : decode cX2_partMark 28 = .ok (.iload 5, 2) := dk_21 5 (dk_at dksX2_partMark_1 6 rfl rfl)
theorem dX2_partMark_30 : decode cX2_partMark 30 = .ok (.ifCond .ne 24, 3) := dk_154 0 24 (dk_at dksX2_partMark_1 8 rfl rfl)
theorem dX2_partMark_33 : decode cX2_partMark 33 = .ok (.iload_n 3, 1) := dk_29 (dk_at dksX2_partMark_1 11 rfl rfl)
theorem dX2_partMark_34 : decode cX2_partMark 34 = .ok (.bipush 40, 2) := dk_16 40 (dk_at dksX2_partMark_1 12 rfl rfl)
theorem dX2_partMark_36 : decode cX2_partMark 36 = .ok (.if_icmp .eq 11, 3) := dk_159 0 11 (dk_at dksX2_partMark_1 14 rfl rfl)
theorem dX2_partMark_39 : decode cX2_partMark 39 = .ok (.aload_n 0, 1) := dk_42 (dk_at dksX2_partMark_1 17 rfl rfl)
theorem dX2_partMark_40 : decode cX2_partMark 40 = .ok (.iload_n 3, 1) := dk_29 (dk_at dksX2_partMark_1 18 rfl rfl)
theorem dX2_partMark_41 : decode cX2_partMark 41 = .ok (.invokevirtual 241, 3) := dk_182 0 241 (dk_at dksX2_partMark_1 19 rfl rfl)
theorem dX2_partMark_44 : decode cX2_partMark 44 = .ok (.ifCond .eq 10, 3) := dk_153 0 10 (dk_at dksX2_partMark_2 0 rfl rfl)
theorem dX2_partMark_47 : decode cX2_partMark 47 = .ok (.aload_n 0, 1) := dk_42 (dk_at dksX2_partMark_2 3 rfl rfl)
theorem dX2_partMark_48 : decode cX2_partMark 48 = .ok (.iconst 1, 1) := dk_4 (dk_at dksX2_partMark_2 4 rfl rfl)
theorem dX2_partMark_49 : decode cX2_partMark 49 = .ok (.putfield 31, 3) := dk_181 0 31 (dk_at dksX2_partMark_2 5 rfl rfl)
theorem dX2_partMark_52 : decode cX2_partMark 52 = .ok (.iconst 0, 1) := dk_3 (dk_at dksX2_partMark_2 8 rfl rfl)
theorem dX2_partMark_53 : decode cX2_partMark 53 = .ok (.ireturn, 1) := dk_172 (dk_at dksX2_partMark_2 9 rfl rfl)
theorem dX2_partMark_54 : decode cX2_partMark 54 = .ok (.iload_n 3, 1) := dk_29 (dk_at dksX2_partMark_2 10 rfl rfl)
theorem dX2_partMark_55 : decode cX2_partMark 55 = .ok (.bipush 40, 2) := dk_16 40 (dk_at dksX2_partMark_2 11 rfl rfl)
theorem dX2_partMark_57 : decode cX2_partMark 57 = .ok (.if_icmp .ne 6, 3) := dk_160 0 6 (dk_at dksX2_partMark_2 13 rfl rfl)
theorem dX2_partMark_60 : decode cX2_partMark 60 = .ok (.bipush 100, 2) := dk_16 100 (dk_at dksX2_partMark_2 16 rfl rfl)
theorem dX2_partMark_62 : decode cX2_partMark 62 = .ok (.ireturn, 1) := dk_172 (dk_at dksX2_partMark_2 18 rfl rfl)
theorem dX2_partMark_63 : decode cX2_partMark 63 = .ok (.aload_n 0, 1) := dk_42 (dk_at dksX2_partMark_2 19 rfl rfl)
theorem dX2_partMark_64 : decode cX2_partMark 64 = .ok (.iload_n 3, 1) := dk_29 (dk_at dksX2_partMark_2 20 rfl rfl)
theorem dX2_partMark_65 : decode cX2_partMark 65 = .ok (.invokevirtual 241, 3) := dk_182 0 241 (dk_at dksX2_partMark_2 21 rfl rfl)
theorem dX2_partMark_68 : decode cX2_partMark 68 = .ok (.ifCond .eq 21, 3) := dk_153 0 21 (dk_at dksX2_partMark_3 0 rfl rfl)
theorem dX2_partMark_71 : decode cX2_partMark 71 = .ok (.aload_n 0, 1) := dk_42 (dk_at dksX2_partMark_3 3 rfl rfl)
theorem dX2_partMark_72 : decode cX2_partMark 72 = .ok (.dup, 1) := dk_89 (dk_at dksX2_partMark_3 4 rfl rfl)
theorem dX2_partMark_73 : decode cX2_partMark 73 = .ok (.getfield 22, 3) := dk_180 0 22 (dk_at dksX2_partMark_3 5 rfl rfl)
theorem dX2_partMark_76 : decode cX2_partMark 76 = .ok (.iconst 1, 1) := dk_4 (dk_at dksX2_partMark_3 8 rfl rfl)
theorem dX2_partMark_77 : decode cX2_partMark 77 = .ok (.iadd, 1) := dk_96 (dk_at dksX2_partMark_3 9 rfl rfl)
theorem dX2_partMark_78 : decode cX2_partMark 78 = .ok (.putfield 22, 3) := dk_181 0 22 (dk_at dksX2_partMark_3 10 rfl rfl)
theorem dX2_partMark_81 : decode cX2_partMark 81 = .ok (.bipush 110, 2) := dk_16 110 (dk_at dksX2_partMark_3 13 rfl rfl)
theorem dX2_partMark_83 : decode cX2_partMark 83 = .ok (.iload_n 3, 1) := dk_29 (dk_at dksX2_partMark_3 15 rfl rfl)
theorem dX2_partMark_84 : decode cX2_partMark 84 = .ok (.iadd, 1) := dk_96 (dk_at dksX2_partMark_3 16 rfl rfl)
theorem dX2_partMark_85 : decode cX2_partMark 85 = .ok (.bipush 80, 2) := dk_16 80 (dk_at dksX2_partMark_3 17 rfl rfl)
theorem dX2_partMark_87 : decode cX2_partMark 87 = .ok (.isub, 1) := dk_100 (dk_at dksX2_partMark_3 19 rfl rfl)
theorem dX2_partMark_88 : decode cX2_partMark 88 = .ok (.ireturn, 1) := dk_172 (dk_at dksX2_partMark_3 20 rfl rfl)
theorem dX2_partMark_89 : decode cX2_partMark 89 = .ok (.iload_n 3, 1) := dk_29 (dk_at dksX2_partMark_3 21 rfl rfl)
theorem dX2_partMark_90 : decode cX2_partMark 90 = .ok (.bipush 48, 2) := dk_16 48 (dk_at dksX2_partMark_3 22 rfl rfl)
theorem dX2_partMark_92 : decode cX2_partMark 92 = .ok (.if_icmp .lt 15, 3) := dk_161 0 15 (dk_at dksX2_partMark_4 0 rfl rfl)
theorem dX2_partMark_95 : decode cX2_partMark 95 = .ok (.iload_n 3, 1) := dk_29 (dk_at dksX2_partMark_4 3 rfl rfl)
theorem dX2_partMark_96 : decode cX2_partMark 96 = .ok (.bipush 57, 2) := dk_16 57 (dk_at dksX2_partMark_4 4 rfl rfl)
theorem dX2_partMark_98 : decode cX2_partMark 98 = .ok (.if_icmp .gt 9, 3) := dk_163 0 9 (dk_at dksX2_partMark_4 6 rfl rfl)
theorem dX2_partMark_101 : decode cX2_partMark 101 = .ok (.aload_n 0, 1) := dk_42 (dk_at dksX2_partMark_4 9 rfl rfl)
theorem dX2_partMark_102 : decode cX2_partMark 102 = .ok (.invokevirtual 254, 3) := dk_182 0 254 (dk_at dksX2_partMark_4 10 rfl rfl)
theorem dX2_partMark_105 : decode cX2_partMark 105 = .ok (.iconst 0, 1) := dk_3 (dk_at dksX2_partMark_4 13 rfl rfl)
theorem dX2_partMark_106 : decode cX2_partMark 106 = .ok (.ireturn, 1) := dk_172 (dk_at dksX2_partMark_4 14 rfl rfl)
theorem dX2_partMark_107 : decode cX2_partMark 107 = .ok (.iload 5, 2) := dk_21 5 (dk_at dksX2_partMark_4 15 rfl rfl)
theorem dX2_partMark_109 : decode cX2_partMark 109 = .ok (.ifCond .eq 28, 3) := dk_153 0 28 (dk_at dksX2_partMark_4 17 rfl rfl)
theorem dX2_partMark_112 : decode cX2_partMark 112 = .ok (.iload_n 3, 1) := dk_29 (dk_at dksX2_partMark_4 20 rfl rfl)
theorem dX2_partMark_113 : decode cX2_partMark 113 = .ok (.bipush 65, 2) := dk_16 65 (dk_at dksX2_partMark_4 21 rfl rfl)
theorem dX2_partMark_115 : decode cX2_partMark 115 = .ok (.if_icmp .ne 22, 3) := dk_160 0 22 (dk_at dksX2_partMark_5 0 rfl rfl)
theorem dX2_partMark_118 : decode cX2_partMark 118 = .ok (.iload 4, 2) := dk_21 4 (dk_at dksX2_partMark_5 3 rfl rfl)
theorem dX2_partMark_120 : decode cX2_partMark 120 = .ok (.bipush 66, 2) := dk_16 66 (dk_at dksX2_partMark_5 5 rfl rfl)
theorem dX2_partMark_122 : decode cX2_partMark 122 = .ok (.if_icmp .ne 15, 3) := dk_160 0 15 (dk_at dksX2_partMark_5 7 rfl rfl)
theorem dX2_partMark_125 : decode cX2_partMark 125 = .ok (.aload_n 0, 1) := dk_42 (dk_at dksX2_partMark_5 10 rfl rfl)
theorem dX2_partMark_126 : decode cX2_partMark 126 = .ok (.bipush 24, 2) := dk_16 24 (dk_at dksX2_partMark_5 11 rfl rfl)
theorem dX2_partMark_128 : decode cX2_partMark 128 = .ok (.bipush 24, 2) := dk_16 24 (dk_at dksX2_partMark_5 13 rfl rfl)
theorem dX2_partMark_130 : decode cX2_partMark 130 = .ok (.invokevirtual 257, 3) := dk_182 1 1 (dk_at dksX2_partMark_5 15 rfl rfl)
theorem dX2_partMark_133 : decode cX2_partMark 133 = .ok (.pop, 1) := dk_87 (dk_at dksX2_partMark_5 18 rfl rfl)
theorem dX2_partMark_134 : decode cX2_partMark 134 = .ok (.bipush 101, 2) := dk_16 101 (dk_at dksX2_partMark_5 19 rfl rfl)
theorem dX2_partMark_136 : decode cX2_partMark 136 = .ok (.ireturn, 1) := dk_172 (dk_at dksX2_partMark_5 21 rfl rfl)
theorem dX2_partMark_137 : decode cX2_partMark 137 = .ok (.iload 5, 2) := dk_21 5 (dk_at dksX2_partMark_5 22 rfl rfl)
theorem dX2_partMark_139 : decode cX2_partMark 139 = .ok (.ifCond .eq 28, 3) := dk_153 0 28 (dk_at dksX2_partMark_6 0 rfl rfl)
theorem dX2_partMark_142 : decode cX2_partMark 142 = .ok (.iload_n 3, 1) := dk_29 (dk_at dksX2_partMark_6 3 rfl rfl)
theorem dX2_partMark_143 : decode cX2_partMark 143 = .ok (.bipush 73, 2) := dk_16 73 (dk_at dksX2_partMark_6 4 rfl rfl)
theorem dX2_partMark_145 : decode cX2_partMark 145 = .ok (.if_icmp .ne 22, 3) := dk_160 0 22 (dk_at dksX2_partMark_6 6 rfl rfl)
theorem dX2_partMark_148 : decode cX2_partMark 148 = .ok (.iload 4, 2) := dk_21 4 (dk_at dksX2_partMark_6 9 rfl rfl)
theorem dX2_partMark_150 : decode cX2_partMark 150 = .ok (.bipush 78, 2) := dk_16 78 (dk_at dksX2_partMark_6 11 rfl rfl)
theorem dX2_partMark_152 : decode cX2_partMark 152 = .ok (.if_icmp .ne 15, 3) := dk_160 0 15 (dk_at dksX2_partMark_6 13 rfl rfl)
theorem dX2_partMark_155 : decode cX2_partMark 155 = .ok (.aload_n 0, 1) := dk_42 (dk_at dksX2_partMark_6 16 rfl rfl)
theorem dX2_partMark_156 : decode cX2_partMark 156 = .ok (.bipush 25, 2) := dk_16 25 (dk_at dksX2_partMark_6 17 rfl rfl)
theorem dX2_partMark_158 : decode cX2_partMark 158 = .ok (.bipush 25, 2) := dk_16 25 (dk_at dksX2_partMark_6 19 rfl rfl)
theorem dX2_partMark_160 : decode cX2_partMark 160 = .ok (.invokevirtual 257, 3) := dk_182 1 1 (dk_at dksX2_partMark_6 21 rfl rfl)
theorem dX2_partMark_163 : decode cX2_partMark 163 = .ok (.pop, 1) := dk_87 (dk_at dksX2_partMark_7 0 rfl rfl)
theorem dX2_partMark_164 : decode cX2_partMark 164 = .ok (.bipush 102, 2) := dk_16 102 (dk_at dksX2_partMark_7 1 rfl rfl)
theorem dX2_partMark_166 : decode cX2_partMark 166 = .ok (.ireturn, 1) := dk_172 (dk_at dksX2_partMark_7 3 rfl rfl)
theorem dX2_partMark_167 : decode cX2_partMark 167 = .ok (.iload 5, 2) := dk_21 5 (dk_at dksX2_partMark_7 4 rfl rfl)
theorem dX2_partMark_169 : decode cX2_partMark 169 = .ok (.ifCond .eq 46, 3) := dk_153 0 46 (dk_at dksX2_partMark_7 6 rfl rfl)
theorem dX2_partMark_172 : decode cX2_partMark 172 = .ok (.iload_n 3, 1) := dk_29 (dk_at dksX2_partMark_7 9 rfl rfl)
theorem dX2_partMark_173 : decode cX2_partMark 173 = .ok (.bipush 83, 2) := dk_16 83 (dk_at dksX2_partMark_7 10 rfl rfl)
theorem dX2_partMark_175 : decode cX2_partMark 175 = .ok (.if_icmp .ne 40, 3) := dk_160 0 40 (dk_at dksX2_partMark_7 12 rfl rfl)
theorem dX2_partMark_178 : decode cX2_partMark 178 = .ok (.iload 4, 2) := dk_21 4 (dk_at dksX2_partMark_7 15 rfl rfl)
theorem dX2_partMark_180 : decode cX2_partMark 180 = .ok (.bipush 71, 2) := dk_16 71 (dk_at dksX2_partMark_7 17 rfl rfl)
theorem dX2_partMark_182 : decode cX2_partMark 182 = .ok (.if_icmp .ne 33, 3) := dk_160 0 33 (dk_at dksX2_partMark_7 19 rfl rfl)
theorem dX2_partMark_185 : decode cX2_partMark 185 = .ok (.iload_n 1, 1) := dk_27 (dk_at dksX2_partMark_7 22 rfl rfl)
theorem dX2_partMark_186 : decode cX2_partMark 186 = .ok (.ifCond .eq 17, 3) := dk_153 0 17 (dk_at dksX2_partMark_8 0 rfl rfl)
theorem dX2_partMark_189 : decode cX2_partMark 189 = .ok (.iload_n 2, 1) := dk_28 (dk_at dksX2_partMark_8 3 rfl rfl)
theorem dX2_partMark_190 : decode cX2_partMark 190 = .ok (.ifCond .eq 13, 3) := dk_153 0 13 (dk_at dksX2_partMark_8 4 rfl rfl)
theorem dX2_partMark_193 : decode cX2_partMark 193 = .ok (.aload_n 0, 1) := dk_42 (dk_at dksX2_partMark_8 7 rfl rfl)
theorem dX2_partMark_194 : decode cX2_partMark 194 = .ok (.iconst 2, 1) := dk_5 (dk_at dksX2_partMark_8 8 rfl rfl)
theorem dX2_partMark_195 : decode cX2_partMark 195 = .ok (.invokevirtual 230, 3) := dk_182 0 230 (dk_at dksX2_partMark_8 9 rfl rfl)
theorem dX2_partMark_198 : decode cX2_partMark 198 = .ok (.bipush 79, 2) := dk_16 79 (dk_at dksX2_partMark_8 12 rfl rfl)
theorem dX2_partMark_200 : decode cX2_partMark 200 = .ok (.if_icmp .eq 15, 3) := dk_159 0 15 (dk_at dksX2_partMark_8 14 rfl rfl)
theorem dX2_partMark_203 : decode cX2_partMark 203 = .ok (.aload_n 0, 1) := dk_42 (dk_at dksX2_partMark_8 17 rfl rfl)
theorem dX2_partMark_204 : decode cX2_partMark 204 = .ok (.bipush 26, 2) := dk_16 26 (dk_at dksX2_partMark_8 18 rfl rfl)
theorem dX2_partMark_206 : decode cX2_partMark 206 = .ok (.bipush 26, 2) := dk_16 26 (dk_at dksX2_partMark_8 20 rfl rfl)
theorem dX2_partMark_208 : decode cX2_partMark 208 = .ok (.invokevirtual 257, 3) := dk_182 1 1 (dk_at dksX2_partMark_9 0 rfl rfl)
theorem dX2_partMark_211 : decode cX2_partMark 211 = .ok (.pop, 1) := dk_87 (dk_at dksX2_partMark_9 3 rfl rfl)
theorem dX2_partMark_212 : decode cX2_partMark 212 = .ok (.bipush 103, 2) := dk_16 103 (dk_at dksX2_partMark_9 4 rfl rfl)
theorem dX2_partMark_214 : decode cX2_partMark 214 = .ok (.ireturn, 1) := dk_172 (dk_at dksX2_partMark_9 6 rfl rfl)
theorem dX2_partMark_215 : decode cX2_partMark 215 = .ok (.iload 5, 2) := dk_21 5 (dk_at dksX2_partMark_9 7 rfl rfl)
theorem dX2_partMark_217 : decode cX2_partMark 217 = .ok (.ifCond .eq 88, 3) := dk_153 0 88 (dk_at dksX2_partMark_9 9 rfl rfl)
theorem dX2_partMark_220 : decode cX2_partMark 220 = .ok (.iload_n 3, 1) := dk_29 (dk_at dksX2_partMark_9 12 rfl rfl)
theorem dX2_partMark_221 : decode cX2_partMark 221 = .ok (.bipush 70, 2) := dk_16 70 (dk_at dksX2_partMark_9 13 rfl rfl)
theorem dX2_partMark_223 : decode cX2_partMark 223 = .ok (.if_icmp .ne 82, 3) := dk_160 0 82 (dk_at dksX2_partMark_9 15 rfl rfl)
theorem dX2_partMark_226 : decode cX2_partMark 226 = .ok (.iload 4, 2) := dk_21 4 (dk_at dksX2_partMark_9 18 rfl rfl)
theorem dX2_partMark_228 : decode cX2_partMark 228 = .ok (.bipush 78, 2) := dk_16 78 (dk_at dksX2_partMark_9 20 rfl rfl)
theorem dX2_partMark_230 : decode cX2_partMark 230 = .ok (.if_icmp .ne 75, 3) := dk_160 0 75 (dk_at dksX2_partMark_10 0 rfl rfl)
theorem dX2_partMark_233 : decode cX2_partMark 233 = .ok (.aload_n 0, 1) := dk_42 (dk_at dksX2_partMark_10 3 rfl rfl)
theorem dX2_partMark_234 : decode cX2_partMark 234 = .ok (.dup, 1) := dk_89 (dk_at dksX2_partMark_10 4 rfl rfl)
theorem dX2_partMark_235 : decode cX2_partMark 235 = .ok (.getfield 22, 3) := dk_180 0 22 (dk_at dksX2_partMark_10 5 rfl rfl)
theorem dX2_partMark_238 : decode cX2_partMark 238 = .ok (.iconst 2, 1) := dk_5 (dk_at dksX2_partMark_10 8 rfl rfl)
theorem dX2_partMark_239 : decode cX2_partMark 239 = .ok (.iadd, 1) := dk_96 (dk_at dksX2_partMark_10 9 rfl rfl)
theorem dX2_partMark_240 : decode cX2_partMark 240 = .ok (.putfield 22, 3) := dk_181 0 22 (dk_at dksX2_partMark_10 10 rfl rfl)
theorem dX2_partMark_243 : decode cX2_partMark 243 = .ok (.aload_n 0, 1) := dk_42 (dk_at dksX2_partMark_10 13 rfl rfl)
theorem dX2_partMark_244 : decode cX2_partMark 244 = .ok (.invokevirtual 156, 3) := dk_182 0 156 (dk_at dksX2_partMark_10 14 rfl rfl)
theorem dX2_partMark_247 : decode cX2_partMark 247 = .ok (.istore 6, 2) := dk_54 6 (dk_at dksX2_partMark_10 17 rfl rfl)
theorem dX2_partMark_249 : decode cX2_partMark 249 = .ok (.iload 6, 2) := dk_21 6 (dk_at dksX2_partMark_10 19 rfl rfl)
theorem dX2_partMark_251 : decode cX2_partMark 251 = .ok (.bipush 65, 2) := dk_16 65 (dk_at dksX2_partMark_10 21 rfl rfl)
theorem dX2_partMark_253 : decode cX2_partMark 253 = .ok (.if_icmp .lt 10, 3) := dk_161 0 10 (dk_at dksX2_partMark_11 0 rfl rfl)
theorem dX2_partMark_256 : decode cX2_partMark 256 = .ok (.iload 6, 2) := dk_21 6 (dk_at dksX2_partMark_11 3 rfl rfl)
theorem dX2_partMark_258 : decode cX2_partMark 258 = .ok (.bipush 67, 2) := dk_16 67 (dk_at dksX2_partMark_11 5 rfl rfl)
theorem dX2_partMark_260 : decode cX2_partMark 260 = .ok (.if_icmp .le 11, 3) := dk_164 0 11 (dk_at dksX2_partMark_11 7 rfl rfl)
theorem dX2_partMark_263 : decode cX2_partMark 263 = .ok (.aload_n 0, 1) := dk_42 (dk_at dksX2_partMark_11 10 rfl rfl)
theorem dX2_partMark_264 : decode cX2_partMark 264 = .ok (.iconst 1, 1) := dk_4 (dk_at dksX2_partMark_11 11 rfl rfl)
theorem dX2_partMark_265 : decode cX2_partMark 265 = .ok (.putfield 31, 3) := dk_181 0 31 (dk_at dksX2_partMark_11 12 rfl rfl)
theorem dX2_partMark_268 : decode cX2_partMark 268 = .ok (.goto 13, 3) := dk_167 0 13 (dk_at dksX2_partMark_11 15 rfl rfl)
theorem dX2_partMark_271 : decode cX2_partMark 271 = .ok (.aload_n 0, 1) := dk_42 (dk_at dksX2_partMark_11 18 rfl rfl)
theorem dX2_partMark_272 : decode cX2_partMark 272 = .ok (.dup, 1) := dk_89 (dk_at dksX2_partMark_11 19 rfl rfl)
theorem dX2_partMark_273 : decode cX2_partMark 273 = .ok (.getfield 22, 3) := dk_180 0 22 (dk_at dksX2_partMark_11 20 rfl rfl)
theorem dX2_partMark_276 : decode cX2_partMark 276 = .ok (.iconst 1, 1) := dk_4 (dk_at dksX2_partMark_11 23 rfl rfl)
theorem dX2_partMark_277 : decode cX2_partMark 277 = .ok (.iadd, 1) := dk_96 (dk_at dksX2_partMark_12 0 rfl rfl)
theorem dX2_partMark_278 : decode cX2_partMark 278 = .ok (.putfield 22, 3) := dk_181 0 22 (dk_at dksX2_partMark_12 1 rfl rfl)
theorem dX2_partMark_281 : decode cX2_partMark 281 = .ok (.aload_n 0, 1) := dk_42 (dk_at dksX2_partMark_12 4 rfl rfl)
theorem dX2_partMark_282 : decode cX2_partMark 282 = .ok (.bipush 12, 2) := dk_16 12 (dk_at dksX2_partMark_12 5 rfl rfl)
theorem dX2_partMark_284 : decode cX2_partMark 284 = .ok (.invokevirtual 244, 3) := dk_182 0 244 (dk_at dksX2_partMark_12 7 rfl rfl)
theorem dX2_partMark_287 : decode cX2_partMark 287 = .ok (.aload_n 0, 1) := dk_42 (dk_at dksX2_partMark_12 10 rfl rfl)
theorem dX2_partMark_288 : decode cX2_partMark 288 = .ok (.iload 6, 2) := dk_21 6 (dk_at dksX2_partMark_12 11 rfl rfl)
theorem dX2_partMark_290 : decode cX2_partMark 290 = .ok (.bipush 65, 2) := dk_16 65 (dk_at dksX2_partMark_12 13 rfl rfl)
theorem dX2_partMark_292 : decode cX2_partMark 292 = .ok (.isub, 1) := dk_100 (dk_at dksX2_partMark_12 15 rfl rfl)
theorem dX2_partMark_293 : decode cX2_partMark 293 = .ok (.invokevirtual 244, 3) := dk_182 0 244 (dk_at dksX2_partMark_12 16 rfl rfl)
theorem dX2_partMark_296 : decode cX2_partMark 296 = .ok (.bipush 104, 2) := dk_16 104 (dk_at dksX2_partMark_12 19 rfl rfl)
theorem dX2_partMark_298 : decode cX2_partMark 298 = .ok (.iload 6, 2) := dk_21 6 (dk_at dksX2_partMark_12 21 rfl rfl)
theorem dX2_partMark_300 : decode cX2_partMark 300 = .ok (.iadd, 1) := dk_96 (dk_at dksX2_partMark_12 23 rfl rfl)
theorem dX2_partMark_301 : decode cX2_partMark 301 = .ok (.bipush 65, 2) := dk_16 65 (dk_at dksX2_partMark_13 0 rfl rfl)
theorem dX2_partMark_303 : decode cX2_partMark 303 = .ok (.isub, 1) := dk_100 (dk_at dksX2_partMark_13 2 rfl rfl)
theorem dX2_partMark_304 : decode cX2_partMark 304 = .ok (.ireturn, 1) := dk_172 (dk_at dksX2_partMark_13 3 rfl rfl)
theorem dX2_partMark_305 : decode cX2_partMark 305 = .ok (.aload_n 0, 1) := dk_42 (dk_at dksX2_partMark_13 4 rfl rfl)
theorem dX2_partMark_306 : decode cX2_partMark 306 = .ok (.invokevirtual 261, 3) := dk_182 1 5 (dk_at dksX2_partMark_13 5 rfl rfl)
theorem dX2_partMark_309 : decode cX2_partMark 309 = .ok (.istore 6, 2) := dk_54 6 (dk_at dksX2_partMark_13 8 rfl rfl)
theorem dX2_partMark_311 : decode cX2_partMark 311 = .ok (.aload_n 0, 1) := dk_42 (dk_at dksX2_partMark_13 10 rfl rfl)
theorem dX2_partMark_312 : decode cX2_partMark 312 = .ok (.iconst 1, 1) := dk_4 (dk_at dksX2_partMark_13 11 rfl rfl)
theorem dX2_partMark_313 : decode cX2_partMark 313 = .ok (.invokevirtual 244, 3) := dk_182 0 244 (dk_at dksX2_partMark_13 12 rfl rfl)
theorem dX2_partMark_316 : decode cX2_partMark 316 = .ok (.aload_n 0, 1) := dk_42 (dk_at dksX2_partMark_13 15 rfl rfl)
theorem dX2_partMark_317 : decode cX2_partMark 317 = .ok (.iload 6, 2) := dk_21 6 (dk_at dksX2_partMark_13 16 rfl rfl)
theorem dX2_partMark_319 : decode cX2_partMark 319 = .ok (.invokevirtual 244, 3) := dk_182 0 244 (dk_at dksX2_partMark_13 18 rfl rfl)
theorem dX2_partMark_322 : decode cX2_partMark 322 = .ok (.iconst 0, 1) := dk_3 (dk_at dksX2_partMark_13 21 rfl rfl)
theorem dX2_partMark_323 : decode cX2_partMark 323 = .ok (.ireturn, 1) := dk_172 (dk_at dksX2_partMark_13 22 rfl rfl)
abbrev cX2_numeral : ByteArray := prog_32_method_20_code
def yX2_numeral : MethodName := ⟨RX2, "numeral", "()V"⟩
def dkwX2_numeral_6 : List UInt8 := [182, 0, 244, 42, 27, 182, 0, 244, 42, 29, 182, 0, 244, 177]
abbrev dktX2_numeral_6 : List UInt8 := dkwX2_numeral_6 ++ []
def dkwX2_numeral_5 : List UInt8 := [16, 48, 100, 60, 42, 89, 180, 0, 22, 4, 96, 181, 0, 22, 132, 3, 1, 167, 255, 211, 42, 3]
abbrev dktX2_numeral_5 : List UInt8 := dkwX2_numeral_5 ++ dktX2_numeral_6
def dkwX2_numeral_4 : List UInt8 := [154, 0, 44, 42, 182, 0, 237, 153, 0, 37, 29, 6, 162, 0, 32, 27, 16, 10, 104, 42, 182, 0, 156, 96]
abbrev dktX2_numeral_4 : List UInt8 := dkwX2_numeral_4 ++ dktX2_numeral_5
def dkwX2_numeral_3 : List UInt8 := [182, 0, 160, 153, 0, 63, 42, 182, 0, 237, 154, 0, 8, 42, 4, 181, 0, 31, 42, 180, 0, 31]
abbrev dktX2_numeral_3 : List UInt8 := dkwX2_numeral_3 ++ dktX2_numeral_4
def dkwX2_numeral_2 : List UInt8 := [96, 16, 48, 100, 60, 42, 89, 180, 0, 22, 4, 96, 181, 0, 22, 132, 2, 1, 167, 255, 210, 42, 16, 46]
abbrev dktX2_numeral_2 : List UInt8 := dkwX2_numeral_2 ++ dktX2_numeral_3
def dkwX2_numeral_1 : List UInt8 := [154, 0, 45, 42, 182, 0, 237, 153, 0, 38, 28, 16, 6, 162, 0, 32, 27, 16, 10, 104, 42, 182, 0, 156]
abbrev dktX2_numeral_1 : List UInt8 := dkwX2_numeral_1 ++ dktX2_numeral_2
def dkwX2_numeral_0 : List UInt8 := [3, 60, 3, 61, 3, 62, 42, 182, 0, 237, 154, 0, 8, 42, 4, 181, 0, 31, 42, 180, 0, 31]
abbrev dktX2_numeral_0 : List UInt8 := dkwX2_numeral_0 ++ dktX2_numeral_1
theorem dksX2_numeral_0 : cX2_numeral.data.toList.drop 0 = dktX2_numeral_0 := by decide +kernel
theorem dksX2_numeral_1 : cX2_numeral.data.toList.drop 22 = dktX2_numeral_1 := dk_seg dksX2_numeral_0 22 rfl rfl
theorem dksX2_numeral_2 : cX2_numeral.data.toList.drop 46 = dktX2_numeral_2 := dk_seg dksX2_numeral_1 24 rfl rfl
theorem dksX2_numeral_3 : cX2_numeral.data.toList.drop 70 = dktX2_numeral_3 := dk_seg dksX2_numeral_2 24 rfl rfl
theorem dksX2_numeral_4 : cX2_numeral.data.toList.drop 92 = dktX2_numeral_4 := dk_seg dksX2_numeral_3 22 rfl rfl
theorem dksX2_numeral_5 : cX2_numeral.data.toList.drop 116 = dktX2_numeral_5 := dk_seg dksX2_numeral_4 24 rfl rfl
theorem dksX2_numeral_6 : cX2_numeral.data.toList.drop 138 = dktX2_numeral_6 := dk_seg dksX2_numeral_5 22 rfl rfl
theorem dX2_numeral_0 : decode cX2_numeral 0 = .ok (.iconst 0, 1) := dk_3 (dk_at dksX2_numeral_0 0 rfl rfl)
theorem dX2_numeral_1 : decode cX2_numeral 1 = .ok (.istore_n 1, 1) := dk_60 (dk_at dksX2_numeral_0 1 rfl rfl)
theorem dX2_numeral_2 : decode cX2_numeral 2 = .ok (.iconst 0, 1) := dk_3 (dk_at dksX2_numeral_0 2 rfl rfl)
theorem dX2_numeral_3 : decode cX2_numeral 3 = .ok (.istore_n 2, 1) := dk_61 (dk_at dksX2_numeral_0 3 rfl rfl)
theorem dX2_numeral_4 : decode cX2_numeral 4 = .ok (.iconst 0, 1) := dk_3 (dk_at dksX2_numeral_0 4 rfl rfl)
theorem dX2_numeral_5 : decode cX2_numeral 5 = .ok (.istore_n 3, 1) := dk_62 (dk_at dksX2_numeral_0 5 rfl rfl)
theorem dX2_numeral_6 : decode cX2_numeral 6 = .ok (.aload_n 0, 1) := dk_42 (dk_at dksX2_numeral_0 6 rfl rfl)
theorem dX2_numeral_7 : decode cX2_numeral 7 = .ok (.invokevirtual 237, 3) := dk_182 0 237 (dk_at dksX2_numeral_0 7 rfl rfl)
theorem dX2_numeral_10 : decode cX2_numeral 10 = .ok (.ifCond .ne 8, 3) := dk_154 0 8 (dk_at dksX2_numeral_0 10 rfl rfl)
theorem dX2_numeral_13 : decode cX2_numeral 13 = .ok (.aload_n 0, 1) := dk_42 (dk_at dksX2_numeral_0 13 rfl rfl)
theorem dX2_numeral_14 : decode cX2_numeral 14 = .ok (.iconst 1, 1) := dk_4 (dk_at dksX2_numeral_0 14 rfl rfl)
theorem dX2_numeral_15 : decode cX2_numeral 15 = .ok (.putfield 31, 3) := dk_181 0 31 (dk_at dksX2_numeral_0 15 rfl rfl)
theorem dX2_numeral_18 : decode cX2_numeral 18 = .ok (.aload_n 0, 1) := dk_42 (dk_at dksX2_numeral_0 18 rfl rfl)
theorem dX2_numeral_19 : decode cX2_numeral 19 = .ok (.getfield 31, 3) := dk_180 0 31 (dk_at dksX2_numeral_0 19 rfl rfl)
theorem dX2_numeral_22 : decode cX2_numeral 22 = .ok (.ifCond .ne 45, 3) := dk_154 0 45 (dk_at dksX2_numeral_1 0 rfl rfl)
theorem dX2_numeral_25 : decode cX2_numeral 25 = .ok (.aload_n 0, 1) := dk_42 (dk_at dksX2_numeral_1 3 rfl rfl)
theorem dX2_numeral_26 : decode cX2_numeral 26 = .ok (.invokevirtual 237, 3) := dk_182 0 237 (dk_at dksX2_numeral_1 4 rfl rfl)
theorem dX2_numeral_29 : decode cX2_numeral 29 = .ok (.ifCond .eq 38, 3) := dk_153 0 38 (dk_at dksX2_numeral_1 7 rfl rfl)
theorem dX2_numeral_32 : decode cX2_numeral 32 = .ok (.iload_n 2, 1) := dk_28 (dk_at dksX2_numeral_1 10 rfl rfl)
theorem dX2_numeral_33 : decode cX2_numeral 33 = .ok (.bipush 6, 2) := dk_16 6 (dk_at dksX2_numeral_1 11 rfl rfl)
theorem dX2_numeral_35 : decode cX2_numeral 35 = .ok (.if_icmp .ge 32, 3) := dk_162 0 32 (dk_at dksX2_numeral_1 13 rfl rfl)
theorem dX2_numeral_38 : decode cX2_numeral 38 = .ok (.iload_n 1, 1) := dk_27 (dk_at dksX2_numeral_1 16 rfl rfl)
theorem dX2_numeral_39 : decode cX2_numeral 39 = .ok (.bipush 10, 2) := dk_16 10 (dk_at dksX2_numeral_1 17 rfl rfl)
theorem dX2_numeral_41 : decode cX2_numeral 41 = .ok (.imul, 1) := dk_104 (dk_at dksX2_numeral_1 19 rfl rfl)
theorem dX2_numeral_42 : decode cX2_numeral 42 = .ok (.aload_n 0, 1) := dk_42 (dk_at dksX2_numeral_1 20 rfl rfl)
theorem dX2_numeral_43 : decode cX2_numeral 43 = .ok (.invokevirtual 156, 3) := dk_182 0 156 (dk_at dksX2_numeral_1 21 rfl rfl)
theorem dX2_numeral_46 : decode cX2_numeral 46 = .ok (.iadd, 1) := dk_96 (dk_at dksX2_numeral_2 0 rfl rfl)
theorem dX2_numeral_47 : decode cX2_numeral 47 = .ok (.bipush 48, 2) := dk_16 48 (dk_at dksX2_numeral_2 1 rfl rfl)
theorem dX2_numeral_49 : decode cX2_numeral 49 = .ok (.isub, 1) := dk_100 (dk_at dksX2_numeral_2 3 rfl rfl)
theorem dX2_numeral_50 : decode cX2_numeral 50 = .ok (.istore_n 1, 1) := dk_60 (dk_at dksX2_numeral_2 4 rfl rfl)
theorem dX2_numeral_51 : decode cX2_numeral 51 = .ok (.aload_n 0, 1) := dk_42 (dk_at dksX2_numeral_2 5 rfl rfl)
theorem dX2_numeral_52 : decode cX2_numeral 52 = .ok (.dup, 1) := dk_89 (dk_at dksX2_numeral_2 6 rfl rfl)
theorem dX2_numeral_53 : decode cX2_numeral 53 = .ok (.getfield 22, 3) := dk_180 0 22 (dk_at dksX2_numeral_2 7 rfl rfl)
theorem dX2_numeral_56 : decode cX2_numeral 56 = .ok (.iconst 1, 1) := dk_4 (dk_at dksX2_numeral_2 10 rfl rfl)
theorem dX2_numeral_57 : decode cX2_numeral 57 = .ok (.iadd, 1) := dk_96 (dk_at dksX2_numeral_2 11 rfl rfl)
theorem dX2_numeral_58 : decode cX2_numeral 58 = .ok (.putfield 22, 3) := dk_181 0 22 (dk_at dksX2_numeral_2 12 rfl rfl)
theorem dX2_numeral_61 : decode cX2_numeral 61 = .ok (.iinc 2 1, 3) := dk_132 2 1 (dk_at dksX2_numeral_2 15 rfl rfl)
theorem dX2_numeral_64 : decode cX2_numeral 64 = .ok (.goto (-46), 3) := dk_167 255 210 (dk_at dksX2_numeral_2 18 rfl rfl)
theorem dX2_numeral_67 : decode cX2_numeral 67 = .ok (.aload_n 0, 1) := dk_42 (dk_at dksX2_numeral_2 21 rfl rfl)
theorem dX2_numeral_68 : decode cX2_numeral 68 = .ok (.bipush 46, 2) := dk_16 46 (dk_at dksX2_numeral_2 22 rfl rfl)
theorem dX2_numeral_70 : decode cX2_numeral 70 = .ok (.invokevirtual 160, 3) := dk_182 0 160 (dk_at dksX2_numeral_3 0 rfl rfl)
theorem dX2_numeral_73 : decode cX2_numeral 73 = .ok (.ifCond .eq 63, 3) := dk_153 0 63 (dk_at dksX2_numeral_3 3 rfl rfl)
theorem dX2_numeral_76 : decode cX2_numeral 76 = .ok (.aload_n 0, 1) := dk_42 (dk_at dksX2_numeral_3 6 rfl rfl)
theorem dX2_numeral_77 : decode cX2_numeral 77 = .ok (.invokevirtual 237, 3) := dk_182 0 237 (dk_at dksX2_numeral_3 7 rfl rfl)
theorem dX2_numeral_80 : decode cX2_numeral 80 = .ok (.ifCond .ne 8, 3) := dk_154 0 8 (dk_at dksX2_numeral_3 10 rfl rfl)
theorem dX2_numeral_83 : decode cX2_numeral 83 = .ok (.aload_n 0, 1) := dk_42 (dk_at dksX2_numeral_3 13 rfl rfl)
theorem dX2_numeral_84 : decode cX2_numeral 84 = .ok (.iconst 1, 1) := dk_4 (dk_at dksX2_numeral_3 14 rfl rfl)
theorem dX2_numeral_85 : decode cX2_numeral 85 = .ok (.putfield 31, 3) := dk_181 0 31 (dk_at dksX2_numeral_3 15 rfl rfl)
theorem dX2_numeral_88 : decode cX2_numeral 88 = .ok (.aload_n 0, 1) := dk_42 (dk_at dksX2_numeral_3 18 rfl rfl)
theorem dX2_numeral_89 : decode cX2_numeral 89 = .ok (.getfield 31, 3) := dk_180 0 31 (dk_at dksX2_numeral_3 19 rfl rfl)
theorem dX2_numeral_92 : decode cX2_numeral 92 = .ok (.ifCond .ne 44, 3) := dk_154 0 44 (dk_at dksX2_numeral_4 0 rfl rfl)
theorem dX2_numeral_95 : decode cX2_numeral 95 = .ok (.aload_n 0, 1) := dk_42 (dk_at dksX2_numeral_4 3 rfl rfl)
theorem dX2_numeral_96 : decode cX2_numeral 96 = .ok (.invokevirtual 237, 3) := dk_182 0 237 (dk_at dksX2_numeral_4 4 rfl rfl)
theorem dX2_numeral_99 : decode cX2_numeral 99 = .ok (.ifCond .eq 37, 3) := dk_153 0 37 (dk_at dksX2_numeral_4 7 rfl rfl)
theorem dX2_numeral_102 : decode cX2_numeral 102 = .ok (.iload_n 3, 1) := dk_29 (dk_at dksX2_numeral_4 10 rfl rfl)
theorem dX2_numeral_103 : decode cX2_numeral 103 = .ok (.iconst 3, 1) := dk_6 (dk_at dksX2_numeral_4 11 rfl rfl)
theorem dX2_numeral_104 : decode cX2_numeral 104 = .ok (.if_icmp .ge 32, 3) := dk_162 0 32 (dk_at dksX2_numeral_4 12 rfl rfl)
theorem dX2_numeral_107 : decode cX2_numeral 107 = .ok (.iload_n 1, 1) := dk_27 (dk_at dksX2_numeral_4 15 rfl rfl)
theorem dX2_numeral_108 : decode cX2_numeral 108 = .ok (.bipush 10, 2) := dk_16 10 (dk_at dksX2_numeral_4 16 rfl rfl)
theorem dX2_numeral_110 : decode cX2_numeral 110 = .ok (.imul, 1) := dk_104 (dk_at dksX2_numeral_4 18 rfl rfl)
theorem dX2_numeral_111 : decode cX2_numeral 111 = .ok (.aload_n 0, 1) := dk_42 (dk_at dksX2_numeral_4 19 rfl rfl)
theorem dX2_numeral_112 : decode cX2_numeral 112 = .ok (.invokevirtual 156, 3) := dk_182 0 156 (dk_at dksX2_numeral_4 20 rfl rfl)
theorem dX2_numeral_115 : decode cX2_numeral 115 = .ok (.iadd, 1) := dk_96 (dk_at dksX2_numeral_4 23 rfl rfl)
theorem dX2_numeral_116 : decode cX2_numeral 116 = .ok (.bipush 48, 2) := dk_16 48 (dk_at dksX2_numeral_5 0 rfl rfl)
theorem dX2_numeral_118 : decode cX2_numeral 118 = .ok (.isub, 1) := dk_100 (dk_at dksX2_numeral_5 2 rfl rfl)
theorem dX2_numeral_119 : decode cX2_numeral 119 = .ok (.istore_n 1, 1) := dk_60 (dk_at dksX2_numeral_5 3 rfl rfl)
theorem dX2_numeral_120 : decode cX2_numeral 120 = .ok (.aload_n 0, 1) := dk_42 (dk_at dksX2_numeral_5 4 rfl rfl)
theorem dX2_numeral_121 : decode cX2_numeral 121 = .ok (.dup, 1) := dk_89 (dk_at dksX2_numeral_5 5 rfl rfl)
theorem dX2_numeral_122 : decode cX2_numeral 122 = .ok (.getfield 22, 3) := dk_180 0 22 (dk_at dksX2_numeral_5 6 rfl rfl)
theorem dX2_numeral_125 : decode cX2_numeral 125 = .ok (.iconst 1, 1) := dk_4 (dk_at dksX2_numeral_5 9 rfl rfl)
theorem dX2_numeral_126 : decode cX2_numeral 126 = .ok (.iadd, 1) := dk_96 (dk_at dksX2_numeral_5 10 rfl rfl)
theorem dX2_numeral_127 : decode cX2_numeral 127 = .ok (.putfield 22, 3) := dk_181 0 22 (dk_at dksX2_numeral_5 11 rfl rfl)
theorem dX2_numeral_130 : decode cX2_numeral 130 = .ok (.iinc 3 1, 3) := dk_132 3 1 (dk_at dksX2_numeral_5 14 rfl rfl)
theorem dX2_numeral_133 : decode cX2_numeral 133 = .ok (.goto (-45), 3) := dk_167 255 211 (dk_at dksX2_numeral_5 17 rfl rfl)
theorem dX2_numeral_136 : decode cX2_numeral 136 = .ok (.aload_n 0, 1) := dk_42 (dk_at dksX2_numeral_5 20 rfl rfl)
theorem dX2_numeral_137 : decode cX2_numeral 137 = .ok (.iconst 0, 1) := dk_3 (dk_at dksX2_numeral_5 21 rfl rfl)
theorem dX2_numeral_138 : decode cX2_numeral 138 = .ok (.invokevirtual 244, 3) := dk_182 0 244 (dk_at dksX2_numeral_6 0 rfl rfl)
theorem dX2_numeral_141 : decode cX2_numeral 141 = .ok (.aload_n 0, 1) := dk_42 (dk_at dksX2_numeral_6 3 rfl rfl)
theorem dX2_numeral_142 : decode cX2_numeral 142 = .ok (.iload_n 1, 1) := dk_27 (dk_at dksX2_numeral_6 4 rfl rfl)
theorem dX2_numeral_143 : decode cX2_numeral 143 = .ok (.invokevirtual 244, 3) := dk_182 0 244 (dk_at dksX2_numeral_6 5 rfl rfl)
theorem dX2_numeral_146 : decode cX2_numeral 146 = .ok (.aload_n 0, 1) := dk_42 (dk_at dksX2_numeral_6 8 rfl rfl)
theorem dX2_numeral_147 : decode cX2_numeral 147 = .ok (.iload_n 3, 1) := dk_29 (dk_at dksX2_numeral_6 9 rfl rfl)
theorem dX2_numeral_148 : decode cX2_numeral 148 = .ok (.invokevirtual 244, 3) := dk_182 0 244 (dk_at dksX2_numeral_6 10 rfl rfl)
theorem dX2_numeral_151 : decode cX2_numeral 151 = .ok (.return_, 1) := dk_177 (dk_at dksX2_numeral_6 13 rfl rfl)
abbrev cX2_make : ByteArray := prog_32_method_16_code
def yX2_make : MethodName := ⟨RX2, "make", "(I)V"⟩
def dkwX2_make_1 : List UInt8 := [177]
abbrev dktX2_make_1 : List UInt8 := dkwX2_make_1 ++ []
def dkwX2_make_0 : List UInt8 := [42, 180, 0, 55, 17, 15, 0, 42, 180, 0, 28, 96, 27, 79, 42, 89, 180, 0, 28, 4, 96, 181, 0, 28]
abbrev dktX2_make_0 : List UInt8 := dkwX2_make_0 ++ dktX2_make_1
theorem dksX2_make_0 : cX2_make.data.toList.drop 0 = dktX2_make_0 := by decide +kernel
theorem dksX2_make_1 : cX2_make.data.toList.drop 24 = dktX2_make_1 := dk_seg dksX2_make_0 24 rfl rfl
theorem dX2_make_0 : decode cX2_make 0 = .ok (.aload_n 0, 1) := dk_42 (dk_at dksX2_make_0 0 rfl rfl)
theorem dX2_make_1 : decode cX2_make 1 = .ok (.getfield 55, 3) := dk_180 0 55 (dk_at dksX2_make_0 1 rfl rfl)
theorem dX2_make_4 : decode cX2_make 4 = .ok (.sipush 3840, 3) := dk_17 15 0 (dk_at dksX2_make_0 4 rfl rfl)
theorem dX2_make_7 : decode cX2_make 7 = .ok (.aload_n 0, 1) := dk_42 (dk_at dksX2_make_0 7 rfl rfl)
theorem dX2_make_8 : decode cX2_make 8 = .ok (.getfield 28, 3) := dk_180 0 28 (dk_at dksX2_make_0 8 rfl rfl)
theorem dX2_make_11 : decode cX2_make 11 = .ok (.iadd, 1) := dk_96 (dk_at dksX2_make_0 11 rfl rfl)
theorem dX2_make_12 : decode cX2_make 12 = .ok (.iload_n 1, 1) := dk_27 (dk_at dksX2_make_0 12 rfl rfl)
theorem dX2_make_13 : decode cX2_make 13 = .ok (.iastore, 1) := dk_79 (dk_at dksX2_make_0 13 rfl rfl)
theorem dX2_make_14 : decode cX2_make 14 = .ok (.aload_n 0, 1) := dk_42 (dk_at dksX2_make_0 14 rfl rfl)
theorem dX2_make_15 : decode cX2_make 15 = .ok (.dup, 1) := dk_89 (dk_at dksX2_make_0 15 rfl rfl)
theorem dX2_make_16 : decode cX2_make 16 = .ok (.getfield 28, 3) := dk_180 0 28 (dk_at dksX2_make_0 16 rfl rfl)
theorem dX2_make_19 : decode cX2_make 19 = .ok (.iconst 1, 1) := dk_4 (dk_at dksX2_make_0 19 rfl rfl)
theorem dX2_make_20 : decode cX2_make 20 = .ok (.iadd, 1) := dk_96 (dk_at dksX2_make_0 20 rfl rfl)
theorem dX2_make_21 : decode cX2_make 21 = .ok (.putfield 28, 3) := dk_181 0 28 (dk_at dksX2_make_0 21 rfl rfl)
theorem dX2_make_24 : decode cX2_make 24 = .ok (.return_, 1) := dk_177 (dk_at dksX2_make_1 0 rfl rfl)
abbrev cX2_operator : ByteArray := prog_32_method_27_code
def yX2_operator : MethodName := ⟨RX2, "operator", "(I)I"⟩
def dkwX2_operator_2 : List UInt8 := [16, 7, 167, 0, 4, 3, 172]
abbrev dktX2_operator_2 : List UInt8 := dkwX2_operator_2 ++ []
def dkwX2_operator_1 : List UInt8 := [160, 0, 7, 8, 167, 0, 26, 27, 16, 47, 160, 0, 8, 16, 6, 167, 0, 15, 27, 16, 94, 160, 0, 8]
abbrev dktX2_operator_1 : List UInt8 := dkwX2_operator_1 ++ dktX2_operator_2
def dkwX2_operator_0 : List UInt8 := [27, 16, 43, 160, 0, 7, 6, 167, 0, 46, 27, 16, 45, 160, 0, 7, 7, 167, 0, 36, 27, 16, 42]
abbrev dktX2_operator_0 : List UInt8 := dkwX2_operator_0 ++ dktX2_operator_1
theorem dksX2_operator_0 : cX2_operator.data.toList.drop 0 = dktX2_operator_0 := by decide +kernel
theorem dksX2_operator_1 : cX2_operator.data.toList.drop 23 = dktX2_operator_1 := dk_seg dksX2_operator_0 23 rfl rfl
theorem dksX2_operator_2 : cX2_operator.data.toList.drop 47 = dktX2_operator_2 := dk_seg dksX2_operator_1 24 rfl rfl
theorem dX2_operator_0 : decode cX2_operator 0 = .ok (.iload_n 1, 1) := dk_27 (dk_at dksX2_operator_0 0 rfl rfl)
theorem dX2_operator_1 : decode cX2_operator 1 = .ok (.bipush 43, 2) := dk_16 43 (dk_at dksX2_operator_0 1 rfl rfl)
theorem dX2_operator_3 : decode cX2_operator 3 = .ok (.if_icmp .ne 7, 3) := dk_160 0 7 (dk_at dksX2_operator_0 3 rfl rfl)
theorem dX2_operator_6 : decode cX2_operator 6 = .ok (.iconst 3, 1) := dk_6 (dk_at dksX2_operator_0 6 rfl rfl)
theorem dX2_operator_7 : decode cX2_operator 7 = .ok (.goto 46, 3) := dk_167 0 46 (dk_at dksX2_operator_0 7 rfl rfl)
theorem dX2_operator_10 : decode cX2_operator 10 = .ok (.iload_n 1, 1) := dk_27 (dk_at dksX2_operator_0 10 rfl rfl)
theorem dX2_operator_11 : decode cX2_operator 11 = .ok (.bipush 45, 2) := dk_16 45 (dk_at dksX2_operator_0 11 rfl rfl)
theorem dX2_operator_13 : decode cX2_operator 13 = .ok (.if_icmp .ne 7, 3) := dk_160 0 7 (dk_at dksX2_operator_0 13 rfl rfl)
theorem dX2_operator_16 : decode cX2_operator 16 = .ok (.iconst 4, 1) := dk_7 (dk_at dksX2_operator_0 16 rfl rfl)
theorem dX2_operator_17 : decode cX2_operator 17 = .ok (.goto 36, 3) := dk_167 0 36 (dk_at dksX2_operator_0 17 rfl rfl)
theorem dX2_operator_20 : decode cX2_operator 20 = .ok (.iload_n 1, 1) := dk_27 (dk_at dksX2_operator_0 20 rfl rfl)
theorem dX2_operator_21 : decode cX2_operator 21 = .ok (.bipush 42, 2) := dk_16 42 (dk_at dksX2_operator_0 21 rfl rfl)
theorem dX2_operator_23 : decode cX2_operator 23 = .ok (.if_icmp .ne 7, 3) := dk_160 0 7 (dk_at dksX2_operator_1 0 rfl rfl)
theorem dX2_operator_26 : decode cX2_operator 26 = .ok (.iconst 5, 1) := dk_8 (dk_at dksX2_operator_1 3 rfl rfl)
theorem dX2_operator_27 : decode cX2_operator 27 = .ok (.goto 26, 3) := dk_167 0 26 (dk_at dksX2_operator_1 4 rfl rfl)
theorem dX2_operator_30 : decode cX2_operator 30 = .ok (.iload_n 1, 1) := dk_27 (dk_at dksX2_operator_1 7 rfl rfl)
theorem dX2_operator_31 : decode cX2_operator 31 = .ok (.bipush 47, 2) := dk_16 47 (dk_at dksX2_operator_1 8 rfl rfl)
theorem dX2_operator_33 : decode cX2_operator 33 = .ok (.if_icmp .ne 8, 3) := dk_160 0 8 (dk_at dksX2_operator_1 10 rfl rfl)
theorem dX2_operator_36 : decode cX2_operator 36 = .ok (.bipush 6, 2) := dk_16 6 (dk_at dksX2_operator_1 13 rfl rfl)
theorem dX2_operator_38 : decode cX2_operator 38 = .ok (.goto 15, 3) := dk_167 0 15 (dk_at dksX2_operator_1 15 rfl rfl)
theorem dX2_operator_41 : decode cX2_operator 41 = .ok (.iload_n 1, 1) := dk_27 (dk_at dksX2_operator_1 18 rfl rfl)
theorem dX2_operator_42 : decode cX2_operator 42 = .ok (.bipush 94, 2) := dk_16 94 (dk_at dksX2_operator_1 19 rfl rfl)
theorem dX2_operator_44 : decode cX2_operator 44 = .ok (.if_icmp .ne 8, 3) := dk_160 0 8 (dk_at dksX2_operator_1 21 rfl rfl)
theorem dX2_operator_47 : decode cX2_operator 47 = .ok (.bipush 7, 2) := dk_16 7 (dk_at dksX2_operator_2 0 rfl rfl)
theorem dX2_operator_49 : decode cX2_operator 49 = .ok (.goto 4, 3) := dk_167 0 4 (dk_at dksX2_operator_2 2 rfl rfl)
theorem dX2_operator_52 : decode cX2_operator 52 = .ok (.iconst 0, 1) := dk_3 (dk_at dksX2_operator_2 5 rfl rfl)
theorem dX2_operator_53 : decode cX2_operator 53 = .ok (.ireturn, 1) := dk_172 (dk_at dksX2_operator_2 6 rfl rfl)
abbrev cX2_rank : ByteArray := prog_32_method_23_code
def yX2_rank : MethodName := ⟨RX2, "rank", "(I)I"⟩
def dkwX2_rank_1 : List UInt8 := [159, 0, 9, 27, 16, 6, 160, 0, 7, 5, 167, 0, 4, 4, 172]
abbrev dktX2_rank_1 : List UInt8 := dkwX2_rank_1 ++ []
def dkwX2_rank_0 : List UInt8 := [27, 16, 99, 164, 0, 7, 3, 167, 0, 29, 27, 16, 7, 160, 0, 7, 6, 167, 0, 19, 27, 8]
abbrev dktX2_rank_0 : List UInt8 := dkwX2_rank_0 ++ dktX2_rank_1
theorem dksX2_rank_0 : cX2_rank.data.toList.drop 0 = dktX2_rank_0 := by decide +kernel
theorem dksX2_rank_1 : cX2_rank.data.toList.drop 22 = dktX2_rank_1 := dk_seg dksX2_rank_0 22 rfl rfl
theorem dX2_rank_0 : decode cX2_rank 0 = .ok (.iload_n 1, 1) := dk_27 (dk_at dksX2_rank_0 0 rfl rfl)
theorem dX2_rank_1 : decode cX2_rank 1 = .ok (.bipush 99, 2) := dk_16 99 (dk_at dksX2_rank_0 1 rfl rfl)
theorem dX2_rank_3 : decode cX2_rank 3 = .ok (.if_icmp .le 7, 3) := dk_164 0 7 (dk_at dksX2_rank_0 3 rfl rfl)
theorem dX2_rank_6 : decode cX2_rank 6 = .ok (.iconst 0, 1) := dk_3 (dk_at dksX2_rank_0 6 rfl rfl)
theorem dX2_rank_7 : decode cX2_rank 7 = .ok (.goto 29, 3) := dk_167 0 29 (dk_at dksX2_rank_0 7 rfl rfl)
theorem dX2_rank_10 : decode cX2_rank 10 = .ok (.iload_n 1, 1) := dk_27 (dk_at dksX2_rank_0 10 rfl rfl)
theorem dX2_rank_11 : decode cX2_rank 11 = .ok (.bipush 7, 2) := dk_16 7 (dk_at dksX2_rank_0 11 rfl rfl)
theorem dX2_rank_13 : decode cX2_rank 13 = .ok (.if_icmp .ne 7, 3) := dk_160 0 7 (dk_at dksX2_rank_0 13 rfl rfl)
theorem dX2_rank_16 : decode cX2_rank 16 = .ok (.iconst 3, 1) := dk_6 (dk_at dksX2_rank_0 16 rfl rfl)
theorem dX2_rank_17 : decode cX2_rank 17 = .ok (.goto 19, 3) := dk_167 0 19 (dk_at dksX2_rank_0 17 rfl rfl)
theorem dX2_rank_20 : decode cX2_rank 20 = .ok (.iload_n 1, 1) := dk_27 (dk_at dksX2_rank_0 20 rfl rfl)
theorem dX2_rank_21 : decode cX2_rank 21 = .ok (.iconst 5, 1) := dk_8 (dk_at dksX2_rank_0 21 rfl rfl)
theorem dX2_rank_22 : decode cX2_rank 22 = .ok (.if_icmp .eq 9, 3) := dk_159 0 9 (dk_at dksX2_rank_1 0 rfl rfl)
theorem dX2_rank_25 : decode cX2_rank 25 = .ok (.iload_n 1, 1) := dk_27 (dk_at dksX2_rank_1 3 rfl rfl)
theorem dX2_rank_26 : decode cX2_rank 26 = .ok (.bipush 6, 2) := dk_16 6 (dk_at dksX2_rank_1 4 rfl rfl)
theorem dX2_rank_28 : decode cX2_rank 28 = .ok (.if_icmp .ne 7, 3) := dk_160 0 7 (dk_at dksX2_rank_1 6 rfl rfl)
theorem dX2_rank_31 : decode cX2_rank 31 = .ok (.iconst 2, 1) := dk_5 (dk_at dksX2_rank_1 9 rfl rfl)
theorem dX2_rank_32 : decode cX2_rank 32 = .ok (.goto 4, 3) := dk_167 0 4 (dk_at dksX2_rank_1 10 rfl rfl)
theorem dX2_rank_35 : decode cX2_rank 35 = .ok (.iconst 1, 1) := dk_4 (dk_at dksX2_rank_1 13 rfl rfl)
theorem dX2_rank_36 : decode cX2_rank 36 = .ok (.ireturn, 1) := dk_172 (dk_at dksX2_rank_1 14 rfl rfl)
abbrev cX2_settle : ByteArray := prog_32_method_24_code
def yX2_settle : MethodName := ⟨RX2, "settle", "(II)I"⟩
def dkwX2_settle_2 : List UInt8 := [132, 3, 255, 167, 255, 208, 29, 172]
abbrev dktX2_settle_2 : List UInt8 := dkwX2_settle_2 ++ []
def dkwX2_settle_1 : List UInt8 := [29, 4, 100, 46, 182, 0, 251, 28, 161, 0, 21, 42, 42, 180, 0, 58, 29, 4, 100, 46, 182, 0, 244]
abbrev dktX2_settle_1 : List UInt8 := dkwX2_settle_1 ++ dktX2_settle_2
def dkwX2_settle_0 : List UInt8 := [27, 62, 29, 158, 0, 50, 42, 180, 0, 58, 29, 4, 100, 46, 16, 100, 162, 0, 37, 42, 42, 180, 0, 58]
abbrev dktX2_settle_0 : List UInt8 := dkwX2_settle_0 ++ dktX2_settle_1
theorem dksX2_settle_0 : cX2_settle.data.toList.drop 0 = dktX2_settle_0 := by decide +kernel
theorem dksX2_settle_1 : cX2_settle.data.toList.drop 24 = dktX2_settle_1 := dk_seg dksX2_settle_0 24 rfl rfl
theorem dksX2_settle_2 : cX2_settle.data.toList.drop 47 = dktX2_settle_2 := dk_seg dksX2_settle_1 23 rfl rfl
theorem dX2_settle_0 : decode cX2_settle 0 = .ok (.iload_n 1, 1) := dk_27 (dk_at dksX2_settle_0 0 rfl rfl)
theorem dX2_settle_1 : decode cX2_settle 1 = .ok (.istore_n 3, 1) := dk_62 (dk_at dksX2_settle_0 1 rfl rfl)
theorem dX2_settle_2 : decode cX2_settle 2 = .ok (.iload_n 3, 1) := dk_29 (dk_at dksX2_settle_0 2 rfl rfl)
theorem dX2_settle_3 : decode cX2_settle 3 = .ok (.ifCond .le 50, 3) := dk_158 0 50 (dk_at dksX2_settle_0 3 rfl rfl)
theorem dX2_settle_6 : decode cX2_settle 6 = .ok (.aload_n 0, 1) := dk_42 (dk_at dksX2_settle_0 6 rfl rfl)
theorem dX2_settle_7 : decode cX2_settle 7 = .ok (.getfield 58, 3) := dk_180 0 58 (dk_at dksX2_settle_0 7 rfl rfl)
theorem dX2_settle_10 : decode cX2_settle 10 = .ok (.iload_n 3, 1) := dk_29 (dk_at dksX2_settle_0 10 rfl rfl)
theorem dX2_settle_11 : decode cX2_settle 11 = .ok (.iconst 1, 1) := dk_4 (dk_at dksX2_settle_0 11 rfl rfl)
theorem dX2_settle_12 : decode cX2_settle 12 = .ok (.isub, 1) := dk_100 (dk_at dksX2_settle_0 12 rfl rfl)
theorem dX2_settle_13 : decode cX2_settle 13 = .ok (.iaload, 1) := dk_46 (dk_at dksX2_settle_0 13 rfl rfl)
theorem dX2_settle_14 : decode cX2_settle 14 = .ok (.bipush 100, 2) := dk_16 100 (dk_at dksX2_settle_0 14 rfl rfl)
theorem dX2_settle_16 : decode cX2_settle 16 = .ok (.if_icmp .ge 37, 3) := dk_162 0 37 (dk_at dksX2_settle_0 16 rfl rfl)
theorem dX2_settle_19 : decode cX2_settle 19 = .ok (.aload_n 0, 1) := dk_42 (dk_at dksX2_settle_0 19 rfl rfl)
theorem dX2_settle_20 : decode cX2_settle 20 = .ok (.aload_n 0, 1) := dk_42 (dk_at dksX2_settle_0 20 rfl rfl)
theorem dX2_settle_21 : decode cX2_settle 21 = .ok (.getfield 58, 3) := dk_180 0 58 (dk_at dksX2_settle_0 21 rfl rfl)
theorem dX2_settle_24 : decode cX2_settle 24 = .ok (.iload_n 3, 1) := dk_29 (dk_at dksX2_settle_1 0 rfl rfl)
theorem dX2_settle_25 : decode cX2_settle 25 = .ok (.iconst 1, 1) := dk_4 (dk_at dksX2_settle_1 1 rfl rfl)
theorem dX2_settle_26 : decode cX2_settle 26 = .ok (.isub, 1) := dk_100 (dk_at dksX2_settle_1 2 rfl rfl)
theorem dX2_settle_27 : decode cX2_settle 27 = .ok (.iaload, 1) := dk_46 (dk_at dksX2_settle_1 3 rfl rfl)
theorem dX2_settle_28 : decode cX2_settle 28 = .ok (.invokevirtual 251, 3) := dk_182 0 251 (dk_at dksX2_settle_1 4 rfl rfl)
theorem dX2_settle_31 : decode cX2_settle 31 = .ok (.iload_n 2, 1) := dk_28 (dk_at dksX2_settle_1 7 rfl rfl)
theorem dX2_settle_32 : decode cX2_settle 32 = .ok (.if_icmp .lt 21, 3) := dk_161 0 21 (dk_at dksX2_settle_1 8 rfl rfl)
theorem dX2_settle_35 : decode cX2_settle 35 = .ok (.aload_n 0, 1) := dk_42 (dk_at dksX2_settle_1 11 rfl rfl)
theorem dX2_settle_36 : decode cX2_settle 36 = .ok (.aload_n 0, 1) := dk_42 (dk_at dksX2_settle_1 12 rfl rfl)
theorem dX2_settle_37 : decode cX2_settle 37 = .ok (.getfield 58, 3) := dk_180 0 58 (dk_at dksX2_settle_1 13 rfl rfl)
theorem dX2_settle_40 : decode cX2_settle 40 = .ok (.iload_n 3, 1) := dk_29 (dk_at dksX2_settle_1 16 rfl rfl)
theorem dX2_settle_41 : decode cX2_settle 41 = .ok (.iconst 1, 1) := dk_4 (dk_at dksX2_settle_1 17 rfl rfl)
theorem dX2_settle_42 : decode cX2_settle 42 = .ok (.isub, 1) := dk_100 (dk_at dksX2_settle_1 18 rfl rfl)
theorem dX2_settle_43 : decode cX2_settle 43 = .ok (.iaload, 1) := dk_46 (dk_at dksX2_settle_1 19 rfl rfl)
theorem dX2_settle_44 : decode cX2_settle 44 = .ok (.invokevirtual 244, 3) := dk_182 0 244 (dk_at dksX2_settle_1 20 rfl rfl)
theorem dX2_settle_47 : decode cX2_settle 47 = .ok (.iinc 3 (-1), 3) := dk_132 3 255 (dk_at dksX2_settle_2 0 rfl rfl)
theorem dX2_settle_50 : decode cX2_settle 50 = .ok (.goto (-48), 3) := dk_167 255 208 (dk_at dksX2_settle_2 3 rfl rfl)
theorem dX2_settle_53 : decode cX2_settle 53 = .ok (.iload_n 3, 1) := dk_29 (dk_at dksX2_settle_2 6 rfl rfl)
theorem dX2_settle_54 : decode cX2_settle 54 = .ok (.ireturn, 1) := dk_172 (dk_at dksX2_settle_2 7 rfl rfl)
abbrev cX2_closeMark : ByteArray := prog_32_method_26_code
def yX2_closeMark : MethodName := ⟨RX2, "closeMark", "(I)V"⟩
def dkwX2_closeMark_2 : List UInt8 := [167, 0, 16, 42, 5, 182, 0, 244, 42, 27, 16, 120, 100, 182, 0, 244, 177]
abbrev dktX2_closeMark_2 : List UInt8 := dkwX2_closeMark_2 ++ []
def dkwX2_closeMark_1 : List UInt8 := [167, 0, 39, 27, 16, 110, 162, 0, 20, 42, 16, 13, 182, 0, 244, 42, 27, 16, 104, 100, 182, 0, 244]
abbrev dktX2_closeMark_1 : List UInt8 := dkwX2_closeMark_1 ++ dktX2_closeMark_2
def dkwX2_closeMark_0 : List UInt8 := [27, 16, 100, 160, 0, 4, 177, 27, 16, 104, 162, 0, 17, 42, 16, 9, 27, 96, 16, 101, 100, 182, 0, 244]
abbrev dktX2_closeMark_0 : List UInt8 := dkwX2_closeMark_0 ++ dktX2_closeMark_1
theorem dksX2_closeMark_0 : cX2_closeMark.data.toList.drop 0 = dktX2_closeMark_0 := by decide +kernel
theorem dksX2_closeMark_1 : cX2_closeMark.data.toList.drop 24 = dktX2_closeMark_1 := dk_seg dksX2_closeMark_0 24 rfl rfl
theorem dksX2_closeMark_2 : cX2_closeMark.data.toList.drop 47 = dktX2_closeMark_2 := dk_seg dksX2_closeMark_1 23 rfl rfl
theorem dX2_closeMark_0 : decode cX2_closeMark 0 = .ok (.iload_n 1, 1) := dk_27 (dk_at dksX2_closeMark_0 0 rfl rfl)
theorem dX2_closeMark_1 : decode cX2_closeMark 1 = .ok (.bipush 100, 2) := dk_16 100 (dk_at dksX2_closeMark_0 1 rfl rfl)
theorem dX2_closeMark_3 : decode cX2_closeMark 3 = .ok (.if_icmp .ne 4, 3) := dk_160 0 4 (dk_at dksX2_closeMark_0 3 rfl rfl)
theorem dX2_closeMark_6 : decode cX2_closeMark 6 = .ok (.return_, 1) := dk_177 (dk_at dksX2_closeMark_0 6 rfl rfl)
theorem dX2_closeMark_7 : decode cX2_closeMark 7 = .ok (.iload_n 1, 1) := dk_27 (dk_at dksX2_closeMark_0 7 rfl rfl)
theorem dX2_closeMark_8 : decode cX2_closeMark 8 = .ok (.bipush 104, 2) := dk_16 104 (dk_at dksX2_closeMark_0 8 rfl rfl)
theorem dX2_closeMark_10 : decode cX2_closeMark 10 = .ok (.if_icmp .ge 17, 3) := dk_162 0 17 (dk_at dksX2_closeMark_0 10 rfl rfl)
theorem dX2_closeMark_13 : decode cX2_closeMark 13 = .ok (.aload_n 0, 1) := dk_42 (dk_at dksX2_closeMark_0 13 rfl rfl)
theorem dX2_closeMark_14 : decode cX2_closeMark 14 = .ok (.bipush 9, 2) := dk_16 9 (dk_at dksX2_closeMark_0 14 rfl rfl)
theorem dX2_closeMark_16 : decode cX2_closeMark 16 = .ok (.iload_n 1, 1) := dk_27 (dk_at dksX2_closeMark_0 16 rfl rfl)
theorem dX2_closeMark_17 : decode cX2_closeMark 17 = .ok (.iadd, 1) := dk_96 (dk_at dksX2_closeMark_0 17 rfl rfl)
theorem dX2_closeMark_18 : decode cX2_closeMark 18 = .ok (.bipush 101, 2) := dk_16 101 (dk_at dksX2_closeMark_0 18 rfl rfl)
theorem dX2_closeMark_20 : decode cX2_closeMark 20 = .ok (.isub, 1) := dk_100 (dk_at dksX2_closeMark_0 20 rfl rfl)
theorem dX2_closeMark_21 : decode cX2_closeMark 21 = .ok (.invokevirtual 244, 3) := dk_182 0 244 (dk_at dksX2_closeMark_0 21 rfl rfl)
theorem dX2_closeMark_24 : decode cX2_closeMark 24 = .ok (.goto 39, 3) := dk_167 0 39 (dk_at dksX2_closeMark_1 0 rfl rfl)
theorem dX2_closeMark_27 : decode cX2_closeMark 27 = .ok (.iload_n 1, 1) := dk_27 (dk_at dksX2_closeMark_1 3 rfl rfl)
theorem dX2_closeMark_28 : decode cX2_closeMark 28 = .ok (.bipush 110, 2) := dk_16 110 (dk_at dksX2_closeMark_1 4 rfl rfl)
theorem dX2_closeMark_30 : decode cX2_closeMark 30 = .ok (.if_icmp .ge 20, 3) := dk_162 0 20 (dk_at dksX2_closeMark_1 6 rfl rfl)
theorem dX2_closeMark_33 : decode cX2_closeMark 33 = .ok (.aload_n 0, 1) := dk_42 (dk_at dksX2_closeMark_1 9 rfl rfl)
theorem dX2_closeMark_34 : decode cX2_closeMark 34 = .ok (.bipush 13, 2) := dk_16 13 (dk_at dksX2_closeMark_1 10 rfl rfl)
theorem dX2_closeMark_36 : decode cX2_closeMark 36 = .ok (.invokevirtual 244, 3) := dk_182 0 244 (dk_at dksX2_closeMark_1 12 rfl rfl)
theorem dX2_closeMark_39 : decode cX2_closeMark 39 = .ok (.aload_n 0, 1) := dk_42 (dk_at dksX2_closeMark_1 15 rfl rfl)
theorem dX2_closeMark_40 : decode cX2_closeMark 40 = .ok (.iload_n 1, 1) := dk_27 (dk_at dksX2_closeMark_1 16 rfl rfl)
theorem dX2_closeMark_41 : decode cX2_closeMark 41 = .ok (.bipush 104, 2) := dk_16 104 (dk_at dksX2_closeMark_1 17 rfl rfl)
theorem dX2_closeMark_43 : decode cX2_closeMark 43 = .ok (.isub, 1) := dk_100 (dk_at dksX2_closeMark_1 19 rfl rfl)
theorem dX2_closeMark_44 : decode cX2_closeMark 44 = .ok (.invokevirtual 244, 3) := dk_182 0 244 (dk_at dksX2_closeMark_1 20 rfl rfl)
theorem dX2_closeMark_47 : decode cX2_closeMark 47 = .ok (.goto 16, 3) := dk_167 0 16 (dk_at dksX2_closeMark_2 0 rfl rfl)
theorem dX2_closeMark_50 : decode cX2_closeMark 50 = .ok (.aload_n 0, 1) := dk_42 (dk_at dksX2_closeMark_2 3 rfl rfl)
theorem dX2_closeMark_51 : decode cX2_closeMark 51 = .ok (.iconst 2, 1) := dk_5 (dk_at dksX2_closeMark_2 4 rfl rfl)
theorem dX2_closeMark_52 : decode cX2_closeMark 52 = .ok (.invokevirtual 244, 3) := dk_182 0 244 (dk_at dksX2_closeMark_2 5 rfl rfl)
theorem dX2_closeMark_55 : decode cX2_closeMark 55 = .ok (.aload_n 0, 1) := dk_42 (dk_at dksX2_closeMark_2 8 rfl rfl)
theorem dX2_closeMark_56 : decode cX2_closeMark 56 = .ok (.iload_n 1, 1) := dk_27 (dk_at dksX2_closeMark_2 9 rfl rfl)
theorem dX2_closeMark_57 : decode cX2_closeMark 57 = .ok (.bipush 120, 2) := dk_16 120 (dk_at dksX2_closeMark_2 10 rfl rfl)
theorem dX2_closeMark_59 : decode cX2_closeMark 59 = .ok (.isub, 1) := dk_100 (dk_at dksX2_closeMark_2 12 rfl rfl)
theorem dX2_closeMark_60 : decode cX2_closeMark 60 = .ok (.invokevirtual 244, 3) := dk_182 0 244 (dk_at dksX2_closeMark_2 13 rfl rfl)
theorem dX2_closeMark_63 : decode cX2_closeMark 63 = .ok (.return_, 1) := dk_177 (dk_at dksX2_closeMark_2 16 rfl rfl)
abbrev cX2_setExpr : ByteArray := prog_32_method_30_code
def yX2_setExpr : MethodName := ⟨RX2, "setExpr", "(II)V"⟩
def dkwX2_setExpr_0 : List UInt8 := [42, 180, 0, 52, 16, 96, 27, 96, 28, 79, 177]
abbrev dktX2_setExpr_0 : List UInt8 := dkwX2_setExpr_0 ++ []
theorem dksX2_setExpr_0 : cX2_setExpr.data.toList.drop 0 = dktX2_setExpr_0 := by decide +kernel
theorem dX2_setExpr_0 : decode cX2_setExpr 0 = .ok (.aload_n 0, 1) := dk_42 (dk_at dksX2_setExpr_0 0 rfl rfl)
theorem dX2_setExpr_1 : decode cX2_setExpr 1 = .ok (.getfield 52, 3) := dk_180 0 52 (dk_at dksX2_setExpr_0 1 rfl rfl)
theorem dX2_setExpr_4 : decode cX2_setExpr 4 = .ok (.bipush 96, 2) := dk_16 96 (dk_at dksX2_setExpr_0 4 rfl rfl)
theorem dX2_setExpr_6 : decode cX2_setExpr 6 = .ok (.iload_n 1, 1) := dk_27 (dk_at dksX2_setExpr_0 6 rfl rfl)
theorem dX2_setExpr_7 : decode cX2_setExpr 7 = .ok (.iadd, 1) := dk_96 (dk_at dksX2_setExpr_0 7 rfl rfl)
theorem dX2_setExpr_8 : decode cX2_setExpr 8 = .ok (.iload_n 2, 1) := dk_28 (dk_at dksX2_setExpr_0 8 rfl rfl)
theorem dX2_setExpr_9 : decode cX2_setExpr 9 = .ok (.iastore, 1) := dk_79 (dk_at dksX2_setExpr_0 9 rfl rfl)
theorem dX2_setExpr_10 : decode cX2_setExpr 10 = .ok (.return_, 1) := dk_177 (dk_at dksX2_setExpr_0 10 rfl rfl)
abbrev cX2_shut : ByteArray := prog_32_method_22_code
def yX2_shut : MethodName := ⟨RX2, "shut", "()V"⟩
def dkwX2_shut_0 : List UInt8 := [42, 16, 41, 182, 0, 248, 42, 180, 0, 31, 154, 0, 13, 42, 89, 180, 0, 25, 4, 100, 181, 0, 25, 177]
abbrev dktX2_shut_0 : List UInt8 := dkwX2_shut_0 ++ []
theorem dksX2_shut_0 : cX2_shut.data.toList.drop 0 = dktX2_shut_0 := by decide +kernel
theorem dX2_shut_0 : decode cX2_shut 0 = .ok (.aload_n 0, 1) := dk_42 (dk_at dksX2_shut_0 0 rfl rfl)
theorem dX2_shut_1 : decode cX2_shut 1 = .ok (.bipush 41, 2) := dk_16 41 (dk_at dksX2_shut_0 1 rfl rfl)
theorem dX2_shut_3 : decode cX2_shut 3 = .ok (.invokevirtual 248, 3) := dk_182 0 248 (dk_at dksX2_shut_0 3 rfl rfl)
theorem dX2_shut_6 : decode cX2_shut 6 = .ok (.aload_n 0, 1) := dk_42 (dk_at dksX2_shut_0 6 rfl rfl)
theorem dX2_shut_7 : decode cX2_shut 7 = .ok (.getfield 31, 3) := dk_180 0 31 (dk_at dksX2_shut_0 7 rfl rfl)
theorem dX2_shut_10 : decode cX2_shut 10 = .ok (.ifCond .ne 13, 3) := dk_154 0 13 (dk_at dksX2_shut_0 10 rfl rfl)
theorem dX2_shut_13 : decode cX2_shut 13 = .ok (.aload_n 0, 1) := dk_42 (dk_at dksX2_shut_0 13 rfl rfl)
theorem dX2_shut_14 : decode cX2_shut 14 = .ok (.dup, 1) := dk_89 (dk_at dksX2_shut_0 14 rfl rfl)
theorem dX2_shut_15 : decode cX2_shut 15 = .ok (.getfield 25, 3) := dk_180 0 25 (dk_at dksX2_shut_0 15 rfl rfl)
theorem dX2_shut_18 : decode cX2_shut 18 = .ok (.iconst 1, 1) := dk_4 (dk_at dksX2_shut_0 18 rfl rfl)
theorem dX2_shut_19 : decode cX2_shut 19 = .ok (.isub, 1) := dk_100 (dk_at dksX2_shut_0 19 rfl rfl)
theorem dX2_shut_20 : decode cX2_shut 20 = .ok (.putfield 25, 3) := dk_181 0 25 (dk_at dksX2_shut_0 20 rfl rfl)
theorem dX2_shut_23 : decode cX2_shut 23 = .ok (.return_, 1) := dk_177 (dk_at dksX2_shut_0 23 rfl rfl)
abbrev cX2_condition : ByteArray := prog_32_method_32_code
def yX2_condition : MethodName := ⟨RX2, "condition", "()V"⟩
def dkwX2_condition_5 : List UInt8 := [182, 1, 1, 87, 42, 3, 42, 182, 1, 40, 182, 1, 23, 177]
abbrev dktX2_condition_5 : List UInt8 := dkwX2_condition_5 ++ []
def dkwX2_condition_4 : List UInt8 := [181, 0, 31, 42, 4, 27, 182, 1, 23, 42, 4, 42, 3, 182, 1, 30, 182, 1, 34, 42, 16, 17, 16, 17]
abbrev dktX2_condition_4 : List UInt8 := dkwX2_condition_4 ++ dktX2_condition_5
def dkwX2_condition_3 : List UInt8 := [16, 61, 182, 0, 160, 153, 0, 7, 7, 167, 0, 8, 5, 167, 0, 4, 2, 60, 27, 156, 0, 8, 42, 4]
abbrev dktX2_condition_3 : List UInt8 := dkwX2_condition_3 ++ dktX2_condition_4
def dkwX2_condition_2 : List UInt8 := [182, 0, 160, 153, 0, 7, 8, 167, 0, 34, 4, 167, 0, 30, 42, 16, 62, 182, 0, 160, 153, 0, 20, 42]
abbrev dktX2_condition_2 : List UInt8 := dkwX2_condition_2 ++ dktX2_condition_3
def dkwX2_condition_1 : List UInt8 := [16, 60, 182, 0, 160, 153, 0, 33, 42, 16, 61, 182, 0, 160, 153, 0, 7, 6, 167, 0, 47, 42, 16, 62]
abbrev dktX2_condition_1 : List UInt8 := dkwX2_condition_1 ++ dktX2_condition_2
def dkwX2_condition_0 : List UInt8 := [42, 3, 42, 3, 182, 1, 30, 182, 1, 34, 42, 16, 61, 182, 0, 160, 153, 0, 7, 3, 167, 0, 69, 42]
abbrev dktX2_condition_0 : List UInt8 := dkwX2_condition_0 ++ dktX2_condition_1
theorem dksX2_condition_0 : cX2_condition.data.toList.drop 0 = dktX2_condition_0 := by decide +kernel
theorem dksX2_condition_1 : cX2_condition.data.toList.drop 24 = dktX2_condition_1 := dk_seg dksX2_condition_0 24 rfl rfl
theorem dksX2_condition_2 : cX2_condition.data.toList.drop 48 = dktX2_condition_2 := dk_seg dksX2_condition_1 24 rfl rfl
theorem dksX2_condition_3 : cX2_condition.data.toList.drop 72 = dktX2_condition_3 := dk_seg dksX2_condition_2 24 rfl rfl
theorem dksX2_condition_4 : cX2_condition.data.toList.drop 96 = dktX2_condition_4 := dk_seg dksX2_condition_3 24 rfl rfl
theorem dksX2_condition_5 : cX2_condition.data.toList.drop 120 = dktX2_condition_5 := dk_seg dksX2_condition_4 24 rfl rfl
theorem dX2_condition_0 : decode cX2_condition 0 = .ok (.aload_n 0, 1) := dk_42 (dk_at dksX2_condition_0 0 rfl rfl)
theorem dX2_condition_1 : decode cX2_condition 1 = .ok (.iconst 0, 1) := dk_3 (dk_at dksX2_condition_0 1 rfl rfl)
theorem dX2_condition_2 : decode cX2_condition 2 = .ok (.aload_n 0, 1) := dk_42 (dk_at dksX2_condition_0 2 rfl rfl)
theorem dX2_condition_3 : decode cX2_condition 3 = .ok (.iconst 0, 1) := dk_3 (dk_at dksX2_condition_0 3 rfl rfl)
theorem dX2_condition_4 : decode cX2_condition 4 = .ok (.invokevirtual 286, 3) := dk_182 1 30 (dk_at dksX2_condition_0 4 rfl rfl)
theorem dX2_condition_7 : decode cX2_condition 7 = .ok (.invokevirtual 290, 3) := dk_182 1 34 (dk_at dksX2_condition_0 7 rfl rfl)
theorem dX2_condition_10 : decode cX2_condition 10 = .ok (.aload_n 0, 1) := dk_42 (dk_at dksX2_condition_0 10 rfl rfl)
theorem dX2_condition_11 : decode cX2_condition 11 = .ok (.bipush 61, 2) := dk_16 61 (dk_at dksX2_condition_0 11 rfl rfl)
theorem dX2_condition_13 : decode cX2_condition 13 = .ok (.invokevirtual 160, 3) := dk_182 0 160 (dk_at dksX2_condition_0 13 rfl rfl)
theorem dX2_condition_16 : decode cX2_condition 16 = .ok (.ifCond .eq 7, 3) := dk_153 0 7 (dk_at dksX2_condition_0 16 rfl rfl)
theorem dX2_condition_19 : decode cX2_condition 19 = .ok (.iconst 0, 1) := dk_3 (dk_at dksX2_condition_0 19 rfl rfl)
theorem dX2_condition_20 : decode cX2_condition 20 = .ok (.goto 69, 3) := dk_167 0 69 (dk_at dksX2_condition_0 20 rfl rfl)
theorem dX2_condition_23 : decode cX2_condition 23 = .ok (.aload_n 0, 1) := dk_42 (dk_at dksX2_condition_0 23 rfl rfl)
theorem dX2_condition_24 : decode cX2_condition 24 = .ok (.bipush 60, 2) := dk_16 60 (dk_at dksX2_condition_1 0 rfl rfl)
theorem dX2_condition_26 : decode cX2_condition 26 = .ok (.invokevirtual 160, 3) := dk_182 0 160 (dk_at dksX2_condition_1 2 rfl rfl)
theorem dX2_condition_29 : decode cX2_condition 29 = .ok (.ifCond .eq 33, 3) := dk_153 0 33 (dk_at dksX2_condition_1 5 rfl rfl)
theorem dX2_condition_32 : decode cX2_condition 32 = .ok (.aload_n 0, 1) := dk_42 (dk_at dksX2_condition_1 8 rfl rfl)
theorem dX2_condition_33 : decode cX2_condition 33 = .ok (.bipush 61, 2) := dk_16 61 (dk_at dksX2_condition_1 9 rfl rfl)
theorem dX2_condition_35 : decode cX2_condition 35 = .ok (.invokevirtual 160, 3) := dk_182 0 160 (dk_at dksX2_condition_1 11 rfl rfl)
theorem dX2_condition_38 : decode cX2_condition 38 = .ok (.ifCond .eq 7, 3) := dk_153 0 7 (dk_at dksX2_condition_1 14 rfl rfl)
theorem dX2_condition_41 : decode cX2_condition 41 = .ok (.iconst 3, 1) := dk_6 (dk_at dksX2_condition_1 17 rfl rfl)
theorem dX2_condition_42 : decode cX2_condition 42 = .ok (.goto 47, 3) := dk_167 0 47 (dk_at dksX2_condition_1 18 rfl rfl)
theorem dX2_condition_45 : decode cX2_condition 45 = .ok (.aload_n 0, 1) := dk_42 (dk_at dksX2_condition_1 21 rfl rfl)
theorem dX2_condition_46 : decode cX2_condition 46 = .ok (.bipush 62, 2) := dk_16 62 (dk_at dksX2_condition_1 22 rfl rfl)
theorem dX2_condition_48 : decode cX2_condition 48 = .ok (.invokevirtual 160, 3) := dk_182 0 160 (dk_at dksX2_condition_2 0 rfl rfl)
theorem dX2_condition_51 : decode cX2_condition 51 = .ok (.ifCond .eq 7, 3) := dk_153 0 7 (dk_at dksX2_condition_2 3 rfl rfl)
theorem dX2_condition_54 : decode cX2_condition 54 = .ok (.iconst 5, 1) := dk_8 (dk_at dksX2_condition_2 6 rfl rfl)
theorem dX2_condition_55 : decode cX2_condition 55 = .ok (.goto 34, 3) := dk_167 0 34 (dk_at dksX2_condition_2 7 rfl rfl)
theorem dX2_condition_58 : decode cX2_condition 58 = .ok (.iconst 1, 1) := dk_4 (dk_at dksX2_condition_2 10 rfl rfl)
theorem dX2_condition_59 : decode cX2_condition 59 = .ok (.goto 30, 3) := dk_167 0 30 (dk_at dksX2_condition_2 11 rfl rfl)
theorem dX2_condition_62 : decode cX2_condition 62 = .ok (.aload_n 0, 1) := dk_42 (dk_at dksX2_condition_2 14 rfl rfl)
theorem dX2_condition_63 : decode cX2_condition 63 = .ok (.bipush 62, 2) := dk_16 62 (dk_at dksX2_condition_2 15 rfl rfl)
theorem dX2_condition_65 : decode cX2_condition 65 = .ok (.invokevirtual 160, 3) := dk_182 0 160 (dk_at dksX2_condition_2 17 rfl rfl)
theorem dX2_condition_68 : decode cX2_condition 68 = .ok (.ifCond .eq 20, 3) := dk_153 0 20 (dk_at dksX2_condition_2 20 rfl rfl)
theorem dX2_condition_71 : decode cX2_condition 71 = .ok (.aload_n 0, 1) := dk_42 (dk_at dksX2_condition_2 23 rfl rfl)
theorem dX2_condition_72 : decode cX2_condition 72 = .ok (.bipush 61, 2) := dk_16 61 (dk_at dksX2_condition_3 0 rfl rfl)
theorem dX2_condition_74 : decode cX2_condition 74 = .ok (.invokevirtual 160, 3) := dk_182 0 160 (dk_at dksX2_condition_3 2 rfl rfl)
theorem dX2_condition_77 : decode cX2_condition 77 = .ok (.ifCond .eq 7, 3) := dk_153 0 7 (dk_at dksX2_condition_3 5 rfl rfl)
theorem dX2_condition_80 : decode cX2_condition 80 = .ok (.iconst 4, 1) := dk_7 (dk_at dksX2_condition_3 8 rfl rfl)
theorem dX2_condition_81 : decode cX2_condition 81 = .ok (.goto 8, 3) := dk_167 0 8 (dk_at dksX2_condition_3 9 rfl rfl)
theorem dX2_condition_84 : decode cX2_condition 84 = .ok (.iconst 2, 1) := dk_5 (dk_at dksX2_condition_3 12 rfl rfl)
theorem dX2_condition_85 : decode cX2_condition 85 = .ok (.goto 4, 3) := dk_167 0 4 (dk_at dksX2_condition_3 13 rfl rfl)
theorem dX2_condition_88 : decode cX2_condition 88 = .ok (.iconst (-1), 1) := dk_2 (dk_at dksX2_condition_3 16 rfl rfl)
theorem dX2_condition_89 : decode cX2_condition 89 = .ok (.istore_n 1, 1) := dk_60 (dk_at dksX2_condition_3 17 rfl rfl)
theorem dX2_condition_90 : decode cX2_condition 90 = .ok (.iload_n 1, 1) := dk_27 (dk_at dksX2_condition_3 18 rfl rfl)
theorem dX2_condition_91 : decode cX2_condition 91 = .ok (.ifCond .ge 8, 3) := dk_156 0 8 (dk_at dksX2_condition_3 19 rfl rfl)
theorem dX2_condition_94 : decode cX2_condition 94 = .ok (.aload_n 0, 1) := dk_42 (dk_at dksX2_condition_3 22 rfl rfl)
theorem dX2_condition_95 : decode cX2_condition 95 = .ok (.iconst 1, 1) := dk_4 (dk_at dksX2_condition_3 23 rfl rfl)
theorem dX2_condition_96 : decode cX2_condition 96 = .ok (.putfield 31, 3) := dk_181 0 31 (dk_at dksX2_condition_4 0 rfl rfl)
theorem dX2_condition_99 : decode cX2_condition 99 = .ok (.aload_n 0, 1) := dk_42 (dk_at dksX2_condition_4 3 rfl rfl)
theorem dX2_condition_100 : decode cX2_condition 100 = .ok (.iconst 1, 1) := dk_4 (dk_at dksX2_condition_4 4 rfl rfl)
theorem dX2_condition_101 : decode cX2_condition 101 = .ok (.iload_n 1, 1) := dk_27 (dk_at dksX2_condition_4 5 rfl rfl)
theorem dX2_condition_102 : decode cX2_condition 102 = .ok (.invokevirtual 279, 3) := dk_182 1 23 (dk_at dksX2_condition_4 6 rfl rfl)
theorem dX2_condition_105 : decode cX2_condition 105 = .ok (.aload_n 0, 1) := dk_42 (dk_at dksX2_condition_4 9 rfl rfl)
theorem dX2_condition_106 : decode cX2_condition 106 = .ok (.iconst 1, 1) := dk_4 (dk_at dksX2_condition_4 10 rfl rfl)
theorem dX2_condition_107 : decode cX2_condition 107 = .ok (.aload_n 0, 1) := dk_42 (dk_at dksX2_condition_4 11 rfl rfl)
theorem dX2_condition_108 : decode cX2_condition 108 = .ok (.iconst 0, 1) := dk_3 (dk_at dksX2_condition_4 12 rfl rfl)
theorem dX2_condition_109 : decode cX2_condition 109 = .ok (.invokevirtual 286, 3) := dk_182 1 30 (dk_at dksX2_condition_4 13 rfl rfl)
theorem dX2_condition_112 : decode cX2_condition 112 = .ok (.invokevirtual 290, 3) := dk_182 1 34 (dk_at dksX2_condition_4 16 rfl rfl)
theorem dX2_condition_115 : decode cX2_condition 115 = .ok (.aload_n 0, 1) := dk_42 (dk_at dksX2_condition_4 19 rfl rfl)
theorem dX2_condition_116 : decode cX2_condition 116 = .ok (.bipush 17, 2) := dk_16 17 (dk_at dksX2_condition_4 20 rfl rfl)
theorem dX2_condition_118 : decode cX2_condition 118 = .ok (.bipush 17, 2) := dk_16 17 (dk_at dksX2_condition_4 22 rfl rfl)
theorem dX2_condition_120 : decode cX2_condition 120 = .ok (.invokevirtual 257, 3) := dk_182 1 1 (dk_at dksX2_condition_5 0 rfl rfl)
theorem dX2_condition_123 : decode cX2_condition 123 = .ok (.pop, 1) := dk_87 (dk_at dksX2_condition_5 3 rfl rfl)
theorem dX2_condition_124 : decode cX2_condition 124 = .ok (.aload_n 0, 1) := dk_42 (dk_at dksX2_condition_5 4 rfl rfl)
theorem dX2_condition_125 : decode cX2_condition 125 = .ok (.iconst 0, 1) := dk_3 (dk_at dksX2_condition_5 5 rfl rfl)
theorem dX2_condition_126 : decode cX2_condition 126 = .ok (.aload_n 0, 1) := dk_42 (dk_at dksX2_condition_5 6 rfl rfl)
theorem dX2_condition_127 : decode cX2_condition 127 = .ok (.invokevirtual 296, 3) := dk_182 1 40 (dk_at dksX2_condition_5 7 rfl rfl)
theorem dX2_condition_130 : decode cX2_condition 130 = .ok (.invokevirtual 279, 3) := dk_182 1 23 (dk_at dksX2_condition_5 10 rfl rfl)
theorem dX2_condition_133 : decode cX2_condition 133 = .ok (.return_, 1) := dk_177 (dk_at dksX2_condition_5 13 rfl rfl)
abbrev cX2_choice : ByteArray := prog_32_method_33_code
def yX2_choice : MethodName := ⟨RX2, "choice", "()V"⟩
def dkwX2_choice_2 : List UInt8 := [159, 0, 15, 42, 16, 44, 182, 0, 160, 154, 255, 221, 167, 0, 3, 42, 3, 27, 182, 1, 23, 177]
abbrev dktX2_choice_2 : List UInt8 := dkwX2_choice_2 ++ []
def dkwX2_choice_1 : List UInt8 := [154, 0, 37, 27, 7, 162, 0, 32, 132, 1, 1, 42, 27, 42, 182, 1, 40, 182, 1, 23, 27, 7]
abbrev dktX2_choice_1 : List UInt8 := dkwX2_choice_1 ++ dktX2_choice_2
def dkwX2_choice_0 : List UInt8 := [42, 3, 42, 4, 182, 1, 30, 182, 1, 34, 42, 6, 6, 182, 1, 1, 87, 3, 60, 42, 180, 0, 31]
abbrev dktX2_choice_0 : List UInt8 := dkwX2_choice_0 ++ dktX2_choice_1
theorem dksX2_choice_0 : cX2_choice.data.toList.drop 0 = dktX2_choice_0 := by decide +kernel
theorem dksX2_choice_1 : cX2_choice.data.toList.drop 23 = dktX2_choice_1 := dk_seg dksX2_choice_0 23 rfl rfl
theorem dksX2_choice_2 : cX2_choice.data.toList.drop 45 = dktX2_choice_2 := dk_seg dksX2_choice_1 22 rfl rfl
theorem dX2_choice_0 : decode cX2_choice 0 = .ok (.aload_n 0, 1) := dk_42 (dk_at dksX2_choice_0 0 rfl rfl)
theorem dX2_choice_1 : decode cX2_choice 1 = .ok (.iconst 0, 1) := dk_3 (dk_at dksX2_choice_0 1 rfl rfl)
theorem dX2_choice_2 : decode cX2_choice 2 = .ok (.aload_n 0, 1) := dk_42 (dk_at dksX2_choice_0 2 rfl rfl)
theorem dX2_choice_3 : decode cX2_choice 3 = .ok (.iconst 1, 1) := dk_4 (dk_at dksX2_choice_0 3 rfl rfl)
theorem dX2_choice_4 : decode cX2_choice 4 = .ok (.invokevirtual 286, 3) := dk_182 1 30 (dk_at dksX2_choice_0 4 rfl rfl)
theorem dX2_choice_7 : decode cX2_choice 7 = .ok (.invokevirtual 290, 3) := dk_182 1 34 (dk_at dksX2_choice_0 7 rfl rfl)
theorem dX2_choice_10 : decode cX2_choice 10 = .ok (.aload_n 0, 1) := dk_42 (dk_at dksX2_choice_0 10 rfl rfl)
theorem dX2_choice_11 : decode cX2_choice 11 = .ok (.iconst 3, 1) := dk_6 (dk_at dksX2_choice_0 11 rfl rfl)
theorem dX2_choice_12 : decode cX2_choice 12 = .ok (.iconst 3, 1) := dk_6 (dk_at dksX2_choice_0 12 rfl rfl)
theorem dX2_choice_13 : decode cX2_choice 13 = .ok (.invokevirtual 257, 3) := dk_182 1 1 (dk_at dksX2_choice_0 13 rfl rfl)
theorem dX2_choice_16 : decode cX2_choice 16 = .ok (.pop, 1) := dk_87 (dk_at dksX2_choice_0 16 rfl rfl)
theorem dX2_choice_17 : decode cX2_choice 17 = .ok (.iconst 0, 1) := dk_3 (dk_at dksX2_choice_0 17 rfl rfl)
theorem dX2_choice_18 : decode cX2_choice 18 = .ok (.istore_n 1, 1) := dk_60 (dk_at dksX2_choice_0 18 rfl rfl)
theorem dX2_choice_19 : decode cX2_choice 19 = .ok (.aload_n 0, 1) := dk_42 (dk_at dksX2_choice_0 19 rfl rfl)
theorem dX2_choice_20 : decode cX2_choice 20 = .ok (.getfield 31, 3) := dk_180 0 31 (dk_at dksX2_choice_0 20 rfl rfl)
theorem dX2_choice_23 : decode cX2_choice 23 = .ok (.ifCond .ne 37, 3) := dk_154 0 37 (dk_at dksX2_choice_1 0 rfl rfl)
theorem dX2_choice_26 : decode cX2_choice 26 = .ok (.iload_n 1, 1) := dk_27 (dk_at dksX2_choice_1 3 rfl rfl)
theorem dX2_choice_27 : decode cX2_choice 27 = .ok (.iconst 4, 1) := dk_7 (dk_at dksX2_choice_1 4 rfl rfl)
theorem dX2_choice_28 : decode cX2_choice 28 = .ok (.if_icmp .ge 32, 3) := dk_162 0 32 (dk_at dksX2_choice_1 5 rfl rfl)
theorem dX2_choice_31 : decode cX2_choice 31 = .ok (.iinc 1 1, 3) := dk_132 1 1 (dk_at dksX2_choice_1 8 rfl rfl)
theorem dX2_choice_34 : decode cX2_choice 34 = .ok (.aload_n 0, 1) := dk_42 (dk_at dksX2_choice_1 11 rfl rfl)
theorem dX2_choice_35 : decode cX2_choice 35 = .ok (.iload_n 1, 1) := dk_27 (dk_at dksX2_choice_1 12 rfl rfl)
theorem dX2_choice_36 : decode cX2_choice 36 = .ok (.aload_n 0, 1) := dk_42 (dk_at dksX2_choice_1 13 rfl rfl)
theorem dX2_choice_37 : decode cX2_choice 37 = .ok (.invokevirtual 296, 3) := dk_182 1 40 (dk_at dksX2_choice_1 14 rfl rfl)
theorem dX2_choice_40 : decode cX2_choice 40 = .ok (.invokevirtual 279, 3) := dk_182 1 23 (dk_at dksX2_choice_1 17 rfl rfl)
theorem dX2_choice_43 : decode cX2_choice 43 = .ok (.iload_n 1, 1) := dk_27 (dk_at dksX2_choice_1 20 rfl rfl)
theorem dX2_choice_44 : decode cX2_choice 44 = .ok (.iconst 4, 1) := dk_7 (dk_at dksX2_choice_1 21 rfl rfl)
theorem dX2_choice_45 : decode cX2_choice 45 = .ok (.if_icmp .eq 15, 3) := dk_159 0 15 (dk_at dksX2_choice_2 0 rfl rfl)
theorem dX2_choice_48 : decode cX2_choice 48 = .ok (.aload_n 0, 1) := dk_42 (dk_at dksX2_choice_2 3 rfl rfl)
theorem dX2_choice_49 : decode cX2_choice 49 = .ok (.bipush 44, 2) := dk_16 44 (dk_at dksX2_choice_2 4 rfl rfl)
theorem dX2_choice_51 : decode cX2_choice 51 = .ok (.invokevirtual 160, 3) := dk_182 0 160 (dk_at dksX2_choice_2 6 rfl rfl)
theorem dX2_choice_54 : decode cX2_choice 54 = .ok (.ifCond .ne (-35), 3) := dk_154 255 221 (dk_at dksX2_choice_2 9 rfl rfl)
theorem dX2_choice_57 : decode cX2_choice 57 = .ok (.goto 3, 3) := dk_167 0 3 (dk_at dksX2_choice_2 12 rfl rfl)
theorem dX2_choice_60 : decode cX2_choice 60 = .ok (.aload_n 0, 1) := dk_42 (dk_at dksX2_choice_2 15 rfl rfl)
theorem dX2_choice_61 : decode cX2_choice 61 = .ok (.iconst 0, 1) := dk_3 (dk_at dksX2_choice_2 16 rfl rfl)
theorem dX2_choice_62 : decode cX2_choice 62 = .ok (.iload_n 1, 1) := dk_27 (dk_at dksX2_choice_2 17 rfl rfl)
theorem dX2_choice_63 : decode cX2_choice 63 = .ok (.invokevirtual 279, 3) := dk_182 1 23 (dk_at dksX2_choice_2 18 rfl rfl)
theorem dX2_choice_66 : decode cX2_choice 66 = .ok (.return_, 1) := dk_177 (dk_at dksX2_choice_2 21 rfl rfl)
abbrev cX2_loop : ByteArray := prog_32_method_34_code
def yX2_loop : MethodName := ⟨RX2, "loop", "()V"⟩
def dkwX2_loop_3 : List UInt8 := [16, 19, 182, 1, 1, 87, 42, 4, 4, 182, 1, 23, 42, 5, 42, 3, 182, 1, 30, 182, 1, 34, 177]
abbrev dktX2_loop_3 : List UInt8 := dkwX2_loop_3 ++ []
def dkwX2_loop_2 : List UInt8 := [3, 182, 1, 23, 42, 180, 0, 31, 154, 0, 12, 42, 182, 0, 156, 16, 83, 159, 0, 4, 177, 42, 16, 19]
abbrev dktX2_loop_2 : List UInt8 := dkwX2_loop_2 ++ dktX2_loop_3
def dkwX2_loop_1 : List UInt8 := [182, 1, 34, 42, 16, 18, 16, 18, 182, 1, 1, 87, 42, 4, 42, 3, 182, 1, 30, 182, 1, 34, 42, 4]
abbrev dktX2_loop_1 : List UInt8 := dkwX2_loop_1 ++ dktX2_loop_2
def dkwX2_loop_0 : List UInt8 := [42, 3, 42, 182, 1, 5, 182, 1, 23, 42, 16, 61, 182, 0, 248, 42, 3, 42, 3, 182, 1, 30]
abbrev dktX2_loop_0 : List UInt8 := dkwX2_loop_0 ++ dktX2_loop_1
theorem dksX2_loop_0 : cX2_loop.data.toList.drop 0 = dktX2_loop_0 := by decide +kernel
theorem dksX2_loop_1 : cX2_loop.data.toList.drop 22 = dktX2_loop_1 := dk_seg dksX2_loop_0 22 rfl rfl
theorem dksX2_loop_2 : cX2_loop.data.toList.drop 46 = dktX2_loop_2 := dk_seg dksX2_loop_1 24 rfl rfl
theorem dksX2_loop_3 : cX2_loop.data.toList.drop 70 = dktX2_loop_3 := dk_seg dksX2_loop_2 24 rfl rfl
theorem dX2_loop_0 : decode cX2_loop 0 = .ok (.aload_n 0, 1) := dk_42 (dk_at dksX2_loop_0 0 rfl rfl)
theorem dX2_loop_1 : decode cX2_loop 1 = .ok (.iconst 0, 1) := dk_3 (dk_at dksX2_loop_0 1 rfl rfl)
theorem dX2_loop_2 : decode cX2_loop 2 = .ok (.aload_n 0, 1) := dk_42 (dk_at dksX2_loop_0 2 rfl rfl)
theorem dX2_loop_3 : decode cX2_loop 3 = .ok (.invokevirtual 261, 3) := dk_182 1 5 (dk_at dksX2_loop_0 3 rfl rfl)
theorem dX2_loop_6 : decode cX2_loop 6 = .ok (.invokevirtual 279, 3) := dk_182 1 23 (dk_at dksX2_loop_0 6 rfl rfl)
theorem dX2_loop_9 : decode cX2_loop 9 = .ok (.aload_n 0, 1) := dk_42 (dk_at dksX2_loop_0 9 rfl rfl)
theorem dX2_loop_10 : decode cX2_loop 10 = .ok (.bipush 61, 2) := dk_16 61 (dk_at dksX2_loop_0 10 rfl rfl)
theorem dX2_loop_12 : decode cX2_loop 12 = .ok (.invokevirtual 248, 3) := dk_182 0 248 (dk_at dksX2_loop_0 12 rfl rfl)
theorem dX2_loop_15 : decode cX2_loop 15 = .ok (.aload_n 0, 1) := dk_42 (dk_at dksX2_loop_0 15 rfl rfl)
theorem dX2_loop_16 : decode cX2_loop 16 = .ok (.iconst 0, 1) := dk_3 (dk_at dksX2_loop_0 16 rfl rfl)
theorem dX2_loop_17 : decode cX2_loop 17 = .ok (.aload_n 0, 1) := dk_42 (dk_at dksX2_loop_0 17 rfl rfl)
theorem dX2_loop_18 : decode cX2_loop 18 = .ok (.iconst 0, 1) := dk_3 (dk_at dksX2_loop_0 18 rfl rfl)
theorem dX2_loop_19 : decode cX2_loop 19 = .ok (.invokevirtual 286, 3) := dk_182 1 30 (dk_at dksX2_loop_0 19 rfl rfl)
theorem dX2_loop_22 : decode cX2_loop 22 = .ok (.invokevirtual 290, 3) := dk_182 1 34 (dk_at dksX2_loop_1 0 rfl rfl)
theorem dX2_loop_25 : decode cX2_loop 25 = .ok (.aload_n 0, 1) := dk_42 (dk_at dksX2_loop_1 3 rfl rfl)
theorem dX2_loop_26 : decode cX2_loop 26 = .ok (.bipush 18, 2) := dk_16 18 (dk_at dksX2_loop_1 4 rfl rfl)
theorem dX2_loop_28 : decode cX2_loop 28 = .ok (.bipush 18, 2) := dk_16 18 (dk_at dksX2_loop_1 6 rfl rfl)
theorem dX2_loop_30 : decode cX2_loop 30 = .ok (.invokevirtual 257, 3) := dk_182 1 1 (dk_at dksX2_loop_1 8 rfl rfl)
theorem dX2_loop_33 : decode cX2_loop 33 = .ok (.pop, 1) := dk_87 (dk_at dksX2_loop_1 11 rfl rfl)
theorem dX2_loop_34 : decode cX2_loop 34 = .ok (.aload_n 0, 1) := dk_42 (dk_at dksX2_loop_1 12 rfl rfl)
theorem dX2_loop_35 : decode cX2_loop 35 = .ok (.iconst 1, 1) := dk_4 (dk_at dksX2_loop_1 13 rfl rfl)
theorem dX2_loop_36 : decode cX2_loop 36 = .ok (.aload_n 0, 1) := dk_42 (dk_at dksX2_loop_1 14 rfl rfl)
theorem dX2_loop_37 : decode cX2_loop 37 = .ok (.iconst 0, 1) := dk_3 (dk_at dksX2_loop_1 15 rfl rfl)
theorem dX2_loop_38 : decode cX2_loop 38 = .ok (.invokevirtual 286, 3) := dk_182 1 30 (dk_at dksX2_loop_1 16 rfl rfl)
theorem dX2_loop_41 : decode cX2_loop 41 = .ok (.invokevirtual 290, 3) := dk_182 1 34 (dk_at dksX2_loop_1 19 rfl rfl)
theorem dX2_loop_44 : decode cX2_loop 44 = .ok (.aload_n 0, 1) := dk_42 (dk_at dksX2_loop_1 22 rfl rfl)
theorem dX2_loop_45 : decode cX2_loop 45 = .ok (.iconst 1, 1) := dk_4 (dk_at dksX2_loop_1 23 rfl rfl)
theorem dX2_loop_46 : decode cX2_loop 46 = .ok (.iconst 0, 1) := dk_3 (dk_at dksX2_loop_2 0 rfl rfl)
theorem dX2_loop_47 : decode cX2_loop 47 = .ok (.invokevirtual 279, 3) := dk_182 1 23 (dk_at dksX2_loop_2 1 rfl rfl)
theorem dX2_loop_50 : decode cX2_loop 50 = .ok (.aload_n 0, 1) := dk_42 (dk_at dksX2_loop_2 4 rfl rfl)
theorem dX2_loop_51 : decode cX2_loop 51 = .ok (.getfield 31, 3) := dk_180 0 31 (dk_at dksX2_loop_2 5 rfl rfl)
theorem dX2_loop_54 : decode cX2_loop 54 = .ok (.ifCond .ne 12, 3) := dk_154 0 12 (dk_at dksX2_loop_2 8 rfl rfl)
theorem dX2_loop_57 : decode cX2_loop 57 = .ok (.aload_n 0, 1) := dk_42 (dk_at dksX2_loop_2 11 rfl rfl)
theorem dX2_loop_58 : decode cX2_loop 58 = .ok (.invokevirtual 156, 3) := dk_182 0 156 (dk_at dksX2_loop_2 12 rfl rfl)
theorem dX2_loop_61 : decode cX2_loop 61 = .ok (.bipush 83, 2) := dk_16 83 (dk_at dksX2_loop_2 15 rfl rfl)
theorem dX2_loop_63 : decode cX2_loop 63 = .ok (.if_icmp .eq 4, 3) := dk_159 0 4 (dk_at dksX2_loop_2 17 rfl rfl)
theorem dX2_loop_66 : decode cX2_loop 66 = .ok (.return_, 1) := dk_177 (dk_at dksX2_loop_2 20 rfl rfl)
theorem dX2_loop_67 : decode cX2_loop 67 = .ok (.aload_n 0, 1) := dk_42 (dk_at dksX2_loop_2 21 rfl rfl)
theorem dX2_loop_68 : decode cX2_loop 68 = .ok (.bipush 19, 2) := dk_16 19 (dk_at dksX2_loop_2 22 rfl rfl)
theorem dX2_loop_70 : decode cX2_loop 70 = .ok (.bipush 19, 2) := dk_16 19 (dk_at dksX2_loop_3 0 rfl rfl)
theorem dX2_loop_72 : decode cX2_loop 72 = .ok (.invokevirtual 257, 3) := dk_182 1 1 (dk_at dksX2_loop_3 2 rfl rfl)
theorem dX2_loop_75 : decode cX2_loop 75 = .ok (.pop, 1) := dk_87 (dk_at dksX2_loop_3 5 rfl rfl)
theorem dX2_loop_76 : decode cX2_loop 76 = .ok (.aload_n 0, 1) := dk_42 (dk_at dksX2_loop_3 6 rfl rfl)
theorem dX2_loop_77 : decode cX2_loop 77 = .ok (.iconst 1, 1) := dk_4 (dk_at dksX2_loop_3 7 rfl rfl)
theorem dX2_loop_78 : decode cX2_loop 78 = .ok (.iconst 1, 1) := dk_4 (dk_at dksX2_loop_3 8 rfl rfl)
theorem dX2_loop_79 : decode cX2_loop 79 = .ok (.invokevirtual 279, 3) := dk_182 1 23 (dk_at dksX2_loop_3 9 rfl rfl)
theorem dX2_loop_82 : decode cX2_loop 82 = .ok (.aload_n 0, 1) := dk_42 (dk_at dksX2_loop_3 12 rfl rfl)
theorem dX2_loop_83 : decode cX2_loop 83 = .ok (.iconst 2, 1) := dk_5 (dk_at dksX2_loop_3 13 rfl rfl)
theorem dX2_loop_84 : decode cX2_loop 84 = .ok (.aload_n 0, 1) := dk_42 (dk_at dksX2_loop_3 14 rfl rfl)
theorem dX2_loop_85 : decode cX2_loop 85 = .ok (.iconst 0, 1) := dk_3 (dk_at dksX2_loop_3 15 rfl rfl)
theorem dX2_loop_86 : decode cX2_loop 86 = .ok (.invokevirtual 286, 3) := dk_182 1 30 (dk_at dksX2_loop_3 16 rfl rfl)
theorem dX2_loop_89 : decode cX2_loop 89 = .ok (.invokevirtual 290, 3) := dk_182 1 34 (dk_at dksX2_loop_3 19 rfl rfl)
theorem dX2_loop_92 : decode cX2_loop 92 = .ok (.return_, 1) := dk_177 (dk_at dksX2_loop_3 22 rfl rfl)
abbrev cX2_numbers : ByteArray := prog_32_method_35_code
def yX2_numbers : MethodName := ⟨RX2, "numbers", "()V"⟩
def dkwX2_numbers_3 : List UInt8 := [182, 1, 23, 177]
abbrev dktX2_numbers_3 : List UInt8 := dkwX2_numbers_3 ++ []
def dkwX2_numbers_2 : List UInt8 := [132, 1, 1, 27, 16, 6, 159, 0, 15, 42, 16, 44, 182, 0, 160, 154, 255, 206, 167, 0, 3, 42, 3, 27]
abbrev dktX2_numbers_2 : List UInt8 := dkwX2_numbers_2 ++ dktX2_numbers_3
def dkwX2_numbers_1 : List UInt8 := [42, 42, 16, 45, 182, 0, 160, 153, 0, 7, 4, 167, 0, 4, 3, 182, 0, 244, 42, 182, 0, 254]
abbrev dktX2_numbers_1 : List UInt8 := dkwX2_numbers_1 ++ dktX2_numbers_2
def dkwX2_numbers_0 : List UInt8 := [3, 60, 42, 3, 42, 180, 0, 28, 182, 1, 34, 42, 180, 0, 31, 154, 0, 52, 27, 16, 6, 162, 0, 46]
abbrev dktX2_numbers_0 : List UInt8 := dkwX2_numbers_0 ++ dktX2_numbers_1
theorem dksX2_numbers_0 : cX2_numbers.data.toList.drop 0 = dktX2_numbers_0 := by decide +kernel
theorem dksX2_numbers_1 : cX2_numbers.data.toList.drop 24 = dktX2_numbers_1 := dk_seg dksX2_numbers_0 24 rfl rfl
theorem dksX2_numbers_2 : cX2_numbers.data.toList.drop 46 = dktX2_numbers_2 := dk_seg dksX2_numbers_1 22 rfl rfl
theorem dksX2_numbers_3 : cX2_numbers.data.toList.drop 70 = dktX2_numbers_3 := dk_seg dksX2_numbers_2 24 rfl rfl
theorem dX2_numbers_0 : decode cX2_numbers 0 = .ok (.iconst 0, 1) := dk_3 (dk_at dksX2_numbers_0 0 rfl rfl)
theorem dX2_numbers_1 : decode cX2_numbers 1 = .ok (.istore_n 1, 1) := dk_60 (dk_at dksX2_numbers_0 1 rfl rfl)
theorem dX2_numbers_2 : decode cX2_numbers 2 = .ok (.aload_n 0, 1) := dk_42 (dk_at dksX2_numbers_0 2 rfl rfl)
theorem dX2_numbers_3 : decode cX2_numbers 3 = .ok (.iconst 0, 1) := dk_3 (dk_at dksX2_numbers_0 3 rfl rfl)
theorem dX2_numbers_4 : decode cX2_numbers 4 = .ok (.aload_n 0, 1) := dk_42 (dk_at dksX2_numbers_0 4 rfl rfl)
theorem dX2_numbers_5 : decode cX2_numbers 5 = .ok (.getfield 28, 3) := dk_180 0 28 (dk_at dksX2_numbers_0 5 rfl rfl)
theorem dX2_numbers_8 : decode cX2_numbers 8 = .ok (.invokevirtual 290, 3) := dk_182 1 34 (dk_at dksX2_numbers_0 8 rfl rfl)
theorem dX2_numbers_11 : decode cX2_numbers 11 = .ok (.aload_n 0, 1) := dk_42 (dk_at dksX2_numbers_0 11 rfl rfl)
theorem dX2_numbers_12 : decode cX2_numbers 12 = .ok (.getfield 31, 3) := dk_180 0 31 (dk_at dksX2_numbers_0 12 rfl rfl)
theorem dX2_numbers_15 : decode cX2_numbers 15 = .ok (.ifCond .ne 52, 3) := dk_154 0 52 (dk_at dksX2_numbers_0 15 rfl rfl)
theorem dX2_numbers_18 : decode cX2_numbers 18 = .ok (.iload_n 1, 1) := dk_27 (dk_at dksX2_numbers_0 18 rfl rfl)
theorem dX2_numbers_19 : decode cX2_numbers 19 = .ok (.bipush 6, 2) := dk_16 6 (dk_at dksX2_numbers_0 19 rfl rfl)
theorem dX2_numbers_21 : decode cX2_numbers 21 = .ok (.if_icmp .ge 46, 3) := dk_162 0 46 (dk_at dksX2_numbers_0 21 rfl rfl)
theorem dX2_numbers_24 : decode cX2_numbers 24 = .ok (.aload_n 0, 1) := dk_42 (dk_at dksX2_numbers_1 0 rfl rfl)
theorem dX2_numbers_25 : decode cX2_numbers 25 = .ok (.aload_n 0, 1) := dk_42 (dk_at dksX2_numbers_1 1 rfl rfl)
theorem dX2_numbers_26 : decode cX2_numbers 26 = .ok (.bipush 45, 2) := dk_16 45 (dk_at dksX2_numbers_1 2 rfl rfl)
theorem dX2_numbers_28 : decode cX2_numbers 28 = .ok (.invokevirtual 160, 3) := dk_182 0 160 (dk_at dksX2_numbers_1 4 rfl rfl)
theorem dX2_numbers_31 : decode cX2_numbers 31 = .ok (.ifCond .eq 7, 3) := dk_153 0 7 (dk_at dksX2_numbers_1 7 rfl rfl)
theorem dX2_numbers_34 : decode cX2_numbers 34 = .ok (.iconst 1, 1) := dk_4 (dk_at dksX2_numbers_1 10 rfl rfl)
theorem dX2_numbers_35 : decode cX2_numbers 35 = .ok (.goto 4, 3) := dk_167 0 4 (dk_at dksX2_numbers_1 11 rfl rfl)
theorem dX2_numbers_38 : decode cX2_numbers 38 = .ok (.iconst 0, 1) := dk_3 (dk_at dksX2_numbers_1 14 rfl rfl)
theorem dX2_numbers_39 : decode cX2_numbers 39 = .ok (.invokevirtual 244, 3) := dk_182 0 244 (dk_at dksX2_numbers_1 15 rfl rfl)
theorem dX2_numbers_42 : decode cX2_numbers 42 = .ok (.aload_n 0, 1) := dk_42 (dk_at dksX2_numbers_1 18 rfl rfl)
theorem dX2_numbers_43 : decode cX2_numbers 43 = .ok (.invokevirtual 254, 3) := dk_182 0 254 (dk_at dksX2_numbers_1 19 rfl rfl)
theorem dX2_numbers_46 : decode cX2_numbers 46 = .ok (.iinc 1 1, 3) := dk_132 1 1 (dk_at dksX2_numbers_2 0 rfl rfl)
theorem dX2_numbers_49 : decode cX2_numbers 49 = .ok (.iload_n 1, 1) := dk_27 (dk_at dksX2_numbers_2 3 rfl rfl)
theorem dX2_numbers_50 : decode cX2_numbers 50 = .ok (.bipush 6, 2) := dk_16 6 (dk_at dksX2_numbers_2 4 rfl rfl)
theorem dX2_numbers_52 : decode cX2_numbers 52 = .ok (.if_icmp .eq 15, 3) := dk_159 0 15 (dk_at dksX2_numbers_2 6 rfl rfl)
theorem dX2_numbers_55 : decode cX2_numbers 55 = .ok (.aload_n 0, 1) := dk_42 (dk_at dksX2_numbers_2 9 rfl rfl)
theorem dX2_numbers_56 : decode cX2_numbers 56 = .ok (.bipush 44, 2) := dk_16 44 (dk_at dksX2_numbers_2 10 rfl rfl)
theorem dX2_numbers_58 : decode cX2_numbers 58 = .ok (.invokevirtual 160, 3) := dk_182 0 160 (dk_at dksX2_numbers_2 12 rfl rfl)
theorem dX2_numbers_61 : decode cX2_numbers 61 = .ok (.ifCond .ne (-50), 3) := dk_154 255 206 (dk_at dksX2_numbers_2 15 rfl rfl)
theorem dX2_numbers_64 : decode cX2_numbers 64 = .ok (.goto 3, 3) := dk_167 0 3 (dk_at dksX2_numbers_2 18 rfl rfl)
theorem dX2_numbers_67 : decode cX2_numbers 67 = .ok (.aload_n 0, 1) := dk_42 (dk_at dksX2_numbers_2 21 rfl rfl)
theorem dX2_numbers_68 : decode cX2_numbers 68 = .ok (.iconst 0, 1) := dk_3 (dk_at dksX2_numbers_2 22 rfl rfl)
theorem dX2_numbers_69 : decode cX2_numbers 69 = .ok (.iload_n 1, 1) := dk_27 (dk_at dksX2_numbers_2 23 rfl rfl)
theorem dX2_numbers_70 : decode cX2_numbers 70 = .ok (.invokevirtual 279, 3) := dk_182 1 23 (dk_at dksX2_numbers_3 0 rfl rfl)
theorem dX2_numbers_73 : decode cX2_numbers 73 = .ok (.return_, 1) := dk_177 (dk_at dksX2_numbers_3 3 rfl rfl)
abbrev cX2_dim : ByteArray := prog_32_method_37_code
def yX2_dim : MethodName := ⟨RX2, "dim", "()V"⟩
def dkwX2_dim_1 : List UInt8 := [42, 16, 44, 182, 0, 248, 42, 5, 42, 182, 1, 43, 182, 1, 23, 42, 16, 41, 182, 0, 248, 177]
abbrev dktX2_dim_1 : List UInt8 := dkwX2_dim_1 ++ []
def dkwX2_dim_0 : List UInt8 := [42, 3, 42, 182, 1, 27, 182, 1, 23, 42, 16, 40, 182, 0, 248, 42, 4, 42, 182, 1, 43, 182, 1, 23]
abbrev dktX2_dim_0 : List UInt8 := dkwX2_dim_0 ++ dktX2_dim_1
theorem dksX2_dim_0 : cX2_dim.data.toList.drop 0 = dktX2_dim_0 := by decide +kernel
theorem dksX2_dim_1 : cX2_dim.data.toList.drop 24 = dktX2_dim_1 := dk_seg dksX2_dim_0 24 rfl rfl
theorem dX2_dim_0 : decode cX2_dim 0 = .ok (.aload_n 0, 1) := dk_42 (dk_at dksX2_dim_0 0 rfl rfl)
theorem dX2_dim_1 : decode cX2_dim 1 = .ok (.iconst 0, 1) := dk_3 (dk_at dksX2_dim_0 1 rfl rfl)
theorem dX2_dim_2 : decode cX2_dim 2 = .ok (.aload_n 0, 1) := dk_42 (dk_at dksX2_dim_0 2 rfl rfl)
theorem dX2_dim_3 : decode cX2_dim 3 = .ok (.invokevirtual 283, 3) := dk_182 1 27 (dk_at dksX2_dim_0 3 rfl rfl)
theorem dX2_dim_6 : decode cX2_dim 6 = .ok (.invokevirtual 279, 3) := dk_182 1 23 (dk_at dksX2_dim_0 6 rfl rfl)
theorem dX2_dim_9 : decode cX2_dim 9 = .ok (.aload_n 0, 1) := dk_42 (dk_at dksX2_dim_0 9 rfl rfl)
theorem dX2_dim_10 : decode cX2_dim 10 = .ok (.bipush 40, 2) := dk_16 40 (dk_at dksX2_dim_0 10 rfl rfl)
theorem dX2_dim_12 : decode cX2_dim 12 = .ok (.invokevirtual 248, 3) := dk_182 0 248 (dk_at dksX2_dim_0 12 rfl rfl)
theorem dX2_dim_15 : decode cX2_dim 15 = .ok (.aload_n 0, 1) := dk_42 (dk_at dksX2_dim_0 15 rfl rfl)
theorem dX2_dim_16 : decode cX2_dim 16 = .ok (.iconst 1, 1) := dk_4 (dk_at dksX2_dim_0 16 rfl rfl)
theorem dX2_dim_17 : decode cX2_dim 17 = .ok (.aload_n 0, 1) := dk_42 (dk_at dksX2_dim_0 17 rfl rfl)
theorem dX2_dim_18 : decode cX2_dim 18 = .ok (.invokevirtual 299, 3) := dk_182 1 43 (dk_at dksX2_dim_0 18 rfl rfl)
theorem dX2_dim_21 : decode cX2_dim 21 = .ok (.invokevirtual 279, 3) := dk_182 1 23 (dk_at dksX2_dim_0 21 rfl rfl)
theorem dX2_dim_24 : decode cX2_dim 24 = .ok (.aload_n 0, 1) := dk_42 (dk_at dksX2_dim_1 0 rfl rfl)
theorem dX2_dim_25 : decode cX2_dim 25 = .ok (.bipush 44, 2) := dk_16 44 (dk_at dksX2_dim_1 1 rfl rfl)
theorem dX2_dim_27 : decode cX2_dim 27 = .ok (.invokevirtual 248, 3) := dk_182 0 248 (dk_at dksX2_dim_1 3 rfl rfl)
theorem dX2_dim_30 : decode cX2_dim 30 = .ok (.aload_n 0, 1) := dk_42 (dk_at dksX2_dim_1 6 rfl rfl)
theorem dX2_dim_31 : decode cX2_dim 31 = .ok (.iconst 2, 1) := dk_5 (dk_at dksX2_dim_1 7 rfl rfl)
theorem dX2_dim_32 : decode cX2_dim 32 = .ok (.aload_n 0, 1) := dk_42 (dk_at dksX2_dim_1 8 rfl rfl)
theorem dX2_dim_33 : decode cX2_dim 33 = .ok (.invokevirtual 299, 3) := dk_182 1 43 (dk_at dksX2_dim_1 9 rfl rfl)
theorem dX2_dim_36 : decode cX2_dim 36 = .ok (.invokevirtual 279, 3) := dk_182 1 23 (dk_at dksX2_dim_1 12 rfl rfl)
theorem dX2_dim_39 : decode cX2_dim 39 = .ok (.aload_n 0, 1) := dk_42 (dk_at dksX2_dim_1 15 rfl rfl)
theorem dX2_dim_40 : decode cX2_dim 40 = .ok (.bipush 41, 2) := dk_16 41 (dk_at dksX2_dim_1 16 rfl rfl)
theorem dX2_dim_42 : decode cX2_dim 42 = .ok (.invokevirtual 248, 3) := dk_182 0 248 (dk_at dksX2_dim_1 18 rfl rfl)
theorem dX2_dim_45 : decode cX2_dim 45 = .ok (.return_, 1) := dk_177 (dk_at dksX2_dim_1 21 rfl rfl)
abbrev cX2_oneToSix : ByteArray := prog_32_method_36_code
def yX2_oneToSix : MethodName := ⟨RX2, "oneToSix", "()I"⟩
def dkwX2_oneToSix_1 : List UInt8 := [42, 4, 181, 0, 31, 3, 172, 42, 89, 180, 0, 22, 4, 96, 181, 0, 22, 27, 16, 48, 100, 172]
abbrev dktX2_oneToSix_1 : List UInt8 := dkwX2_oneToSix_1 ++ []
def dkwX2_oneToSix_0 : List UInt8 := [42, 182, 0, 156, 60, 42, 180, 0, 31, 154, 0, 15, 27, 16, 49, 161, 0, 9, 27, 16, 54, 164, 0, 10]
abbrev dktX2_oneToSix_0 : List UInt8 := dkwX2_oneToSix_0 ++ dktX2_oneToSix_1
theorem dksX2_oneToSix_0 : cX2_oneToSix.data.toList.drop 0 = dktX2_oneToSix_0 := by decide +kernel
theorem dksX2_oneToSix_1 : cX2_oneToSix.data.toList.drop 24 = dktX2_oneToSix_1 := dk_seg dksX2_oneToSix_0 24 rfl rfl
theorem dX2_oneToSix_0 : decode cX2_oneToSix 0 = .ok (.aload_n 0, 1) := dk_42 (dk_at dksX2_oneToSix_0 0 rfl rfl)
theorem dX2_oneToSix_1 : decode cX2_oneToSix 1 = .ok (.invokevirtual 156, 3) := dk_182 0 156 (dk_at dksX2_oneToSix_0 1 rfl rfl)
theorem dX2_oneToSix_4 : decode cX2_oneToSix 4 = .ok (.istore_n 1, 1) := dk_60 (dk_at dksX2_oneToSix_0 4 rfl rfl)
theorem dX2_oneToSix_5 : decode cX2_oneToSix 5 = .ok (.aload_n 0, 1) := dk_42 (dk_at dksX2_oneToSix_0 5 rfl rfl)
theorem dX2_oneToSix_6 : decode cX2_oneToSix 6 = .ok (.getfield 31, 3) := dk_180 0 31 (dk_at dksX2_oneToSix_0 6 rfl rfl)
theorem dX2_oneToSix_9 : decode cX2_oneToSix 9 = .ok (.ifCond .ne 15, 3) := dk_154 0 15 (dk_at dksX2_oneToSix_0 9 rfl rfl)
theorem dX2_oneToSix_12 : decode cX2_oneToSix 12 = .ok (.iload_n 1, 1) := dk_27 (dk_at dksX2_oneToSix_0 12 rfl rfl)
theorem dX2_oneToSix_13 : decode cX2_oneToSix 13 = .ok (.bipush 49, 2) := dk_16 49 (dk_at dksX2_oneToSix_0 13 rfl rfl)
theorem dX2_oneToSix_15 : decode cX2_oneToSix 15 = .ok (.if_icmp .lt 9, 3) := dk_161 0 9 (dk_at dksX2_oneToSix_0 15 rfl rfl)
theorem dX2_oneToSix_18 : decode cX2_oneToSix 18 = .ok (.iload_n 1, 1) := dk_27 (dk_at dksX2_oneToSix_0 18 rfl rfl)
theorem dX2_oneToSix_19 : decode cX2_oneToSix 19 = .ok (.bipush 54, 2) := dk_16 54 (dk_at dksX2_oneToSix_0 19 rfl rfl)
theorem dX2_oneToSix_21 : decode cX2_oneToSix 21 = .ok (.if_icmp .le 10, 3) := dk_164 0 10 (dk_at dksX2_oneToSix_0 21 rfl rfl)
theorem dX2_oneToSix_24 : decode cX2_oneToSix 24 = .ok (.aload_n 0, 1) := dk_42 (dk_at dksX2_oneToSix_1 0 rfl rfl)
theorem dX2_oneToSix_25 : decode cX2_oneToSix 25 = .ok (.iconst 1, 1) := dk_4 (dk_at dksX2_oneToSix_1 1 rfl rfl)
theorem dX2_oneToSix_26 : decode cX2_oneToSix 26 = .ok (.putfield 31, 3) := dk_181 0 31 (dk_at dksX2_oneToSix_1 2 rfl rfl)
theorem dX2_oneToSix_29 : decode cX2_oneToSix 29 = .ok (.iconst 0, 1) := dk_3 (dk_at dksX2_oneToSix_1 5 rfl rfl)
theorem dX2_oneToSix_30 : decode cX2_oneToSix 30 = .ok (.ireturn, 1) := dk_172 (dk_at dksX2_oneToSix_1 6 rfl rfl)
theorem dX2_oneToSix_31 : decode cX2_oneToSix 31 = .ok (.aload_n 0, 1) := dk_42 (dk_at dksX2_oneToSix_1 7 rfl rfl)
theorem dX2_oneToSix_32 : decode cX2_oneToSix 32 = .ok (.dup, 1) := dk_89 (dk_at dksX2_oneToSix_1 8 rfl rfl)
theorem dX2_oneToSix_33 : decode cX2_oneToSix 33 = .ok (.getfield 22, 3) := dk_180 0 22 (dk_at dksX2_oneToSix_1 9 rfl rfl)
theorem dX2_oneToSix_36 : decode cX2_oneToSix 36 = .ok (.iconst 1, 1) := dk_4 (dk_at dksX2_oneToSix_1 12 rfl rfl)
theorem dX2_oneToSix_37 : decode cX2_oneToSix 37 = .ok (.iadd, 1) := dk_96 (dk_at dksX2_oneToSix_1 13 rfl rfl)
theorem dX2_oneToSix_38 : decode cX2_oneToSix 38 = .ok (.putfield 22, 3) := dk_181 0 22 (dk_at dksX2_oneToSix_1 14 rfl rfl)
theorem dX2_oneToSix_41 : decode cX2_oneToSix 41 = .ok (.iload_n 1, 1) := dk_27 (dk_at dksX2_oneToSix_1 17 rfl rfl)
theorem dX2_oneToSix_42 : decode cX2_oneToSix 42 = .ok (.bipush 48, 2) := dk_16 48 (dk_at dksX2_oneToSix_1 18 rfl rfl)
theorem dX2_oneToSix_44 : decode cX2_oneToSix 44 = .ok (.isub, 1) := dk_100 (dk_at dksX2_oneToSix_1 20 rfl rfl)
theorem dX2_oneToSix_45 : decode cX2_oneToSix 45 = .ok (.ireturn, 1) := dk_172 (dk_at dksX2_oneToSix_1 21 rfl rfl)
abbrev cX2_def : ByteArray := prog_32_method_38_code
def yX2_def : MethodName := ⟨RX2, "def", "()V"⟩
def dkwX2_def_4 : List UInt8 := [182, 1, 30, 182, 1, 34, 177]
abbrev dktX2_def_4 : List UInt8 := dkwX2_def_4 ++ []
def dkwX2_def_3 : List UInt8 := [182, 1, 5, 182, 1, 23, 42, 16, 41, 182, 0, 248, 42, 16, 61, 182, 0, 248, 42, 3, 42, 3]
abbrev dktX2_def_3 : List UInt8 := dkwX2_def_3 ++ dktX2_def_4
def dkwX2_def_2 : List UInt8 := [96, 181, 0, 22, 42, 3, 27, 16, 65, 100, 182, 1, 23, 42, 16, 40, 182, 0, 248, 42, 4, 42]
abbrev dktX2_def_2 : List UInt8 := dkwX2_def_2 ++ dktX2_def_3
def dkwX2_def_1 : List UInt8 := [164, 0, 11, 42, 4, 181, 0, 31, 167, 0, 20, 42, 180, 0, 31, 154, 0, 13, 42, 89, 180, 0, 22, 4]
abbrev dktX2_def_1 : List UInt8 := dkwX2_def_1 ++ dktX2_def_2
def dkwX2_def_0 : List UInt8 := [42, 16, 27, 16, 27, 182, 1, 1, 87, 42, 182, 0, 156, 60, 27, 16, 65, 161, 0, 9, 27, 16, 67]
abbrev dktX2_def_0 : List UInt8 := dkwX2_def_0 ++ dktX2_def_1
theorem dksX2_def_0 : cX2_def.data.toList.drop 0 = dktX2_def_0 := by decide +kernel
theorem dksX2_def_1 : cX2_def.data.toList.drop 23 = dktX2_def_1 := dk_seg dksX2_def_0 23 rfl rfl
theorem dksX2_def_2 : cX2_def.data.toList.drop 47 = dktX2_def_2 := dk_seg dksX2_def_1 24 rfl rfl
theorem dksX2_def_3 : cX2_def.data.toList.drop 69 = dktX2_def_3 := dk_seg dksX2_def_2 22 rfl rfl
theorem dksX2_def_4 : cX2_def.data.toList.drop 91 = dktX2_def_4 := dk_seg dksX2_def_3 22 rfl rfl
theorem dX2_def_0 : decode cX2_def 0 = .ok (.aload_n 0, 1) := dk_42 (dk_at dksX2_def_0 0 rfl rfl)
theorem dX2_def_1 : decode cX2_def 1 = .ok (.bipush 27, 2) := dk_16 27 (dk_at dksX2_def_0 1 rfl rfl)
theorem dX2_def_3 : decode cX2_def 3 = .ok (.bipush 27, 2) := dk_16 27 (dk_at dksX2_def_0 3 rfl rfl)
theorem dX2_def_5 : decode cX2_def 5 = .ok (.invokevirtual 257, 3) := dk_182 1 1 (dk_at dksX2_def_0 5 rfl rfl)
theorem dX2_def_8 : decode cX2_def 8 = .ok (.pop, 1) := dk_87 (dk_at dksX2_def_0 8 rfl rfl)
theorem dX2_def_9 : decode cX2_def 9 = .ok (.aload_n 0, 1) := dk_42 (dk_at dksX2_def_0 9 rfl rfl)
theorem dX2_def_10 : decode cX2_def 10 = .ok (.invokevirtual 156, 3) := dk_182 0 156 (dk_at dksX2_def_0 10 rfl rfl)
theorem dX2_def_13 : decode cX2_def 13 = .ok (.istore_n 1, 1) := dk_60 (dk_at dksX2_def_0 13 rfl rfl)
theorem dX2_def_14 : decode cX2_def 14 = .ok (.iload_n 1, 1) := dk_27 (dk_at dksX2_def_0 14 rfl rfl)
theorem dX2_def_15 : decode cX2_def 15 = .ok (.bipush 65, 2) := dk_16 65 (dk_at dksX2_def_0 15 rfl rfl)
theorem dX2_def_17 : decode cX2_def 17 = .ok (.if_icmp .lt 9, 3) := dk_161 0 9 (dk_at dksX2_def_0 17 rfl rfl)
theorem dX2_def_20 : decode cX2_def 20 = .ok (.iload_n 1, 1) := dk_27 (dk_at dksX2_def_0 20 rfl rfl)
theorem dX2_def_21 : decode cX2_def 21 = .ok (.bipush 67, 2) := dk_16 67 (dk_at dksX2_def_0 21 rfl rfl)
theorem dX2_def_23 : decode cX2_def 23 = .ok (.if_icmp .le 11, 3) := dk_164 0 11 (dk_at dksX2_def_1 0 rfl rfl)
theorem dX2_def_26 : decode cX2_def 26 = .ok (.aload_n 0, 1) := dk_42 (dk_at dksX2_def_1 3 rfl rfl)
theorem dX2_def_27 : decode cX2_def 27 = .ok (.iconst 1, 1) := dk_4 (dk_at dksX2_def_1 4 rfl rfl)
theorem dX2_def_28 : decode cX2_def 28 = .ok (.putfield 31, 3) := dk_181 0 31 (dk_at dksX2_def_1 5 rfl rfl)
theorem dX2_def_31 : decode cX2_def 31 = .ok (.goto 20, 3) := dk_167 0 20 (dk_at dksX2_def_1 8 rfl rfl)
theorem dX2_def_34 : decode cX2_def 34 = .ok (.aload_n 0, 1) := dk_42 (dk_at dksX2_def_1 11 rfl rfl)
theorem dX2_def_35 : decode cX2_def 35 = .ok (.getfield 31, 3) := dk_180 0 31 (dk_at dksX2_def_1 12 rfl rfl)
theorem dX2_def_38 : decode cX2_def 38 = .ok (.ifCond .ne 13, 3) := dk_154 0 13 (dk_at dksX2_def_1 15 rfl rfl)
theorem dX2_def_41 : decode cX2_def 41 = .ok (.aload_n 0, 1) := dk_42 (dk_at dksX2_def_1 18 rfl rfl)
theorem dX2_def_42 : decode cX2_def 42 = .ok (.dup, 1) := dk_89 (dk_at dksX2_def_1 19 rfl rfl)
theorem dX2_def_43 : decode cX2_def 43 = .ok (.getfield 22, 3) := dk_180 0 22 (dk_at dksX2_def_1 20 rfl rfl)
theorem dX2_def_46 : decode cX2_def 46 = .ok (.iconst 1, 1) := dk_4 (dk_at dksX2_def_1 23 rfl rfl)
theorem dX2_def_47 : decode cX2_def 47 = .ok (.iadd, 1) := dk_96 (dk_at dksX2_def_2 0 rfl rfl)
theorem dX2_def_48 : decode cX2_def 48 = .ok (.putfield 22, 3) := dk_181 0 22 (dk_at dksX2_def_2 1 rfl rfl)
theorem dX2_def_51 : decode cX2_def 51 = .ok (.aload_n 0, 1) := dk_42 (dk_at dksX2_def_2 4 rfl rfl)
theorem dX2_def_52 : decode cX2_def 52 = .ok (.iconst 0, 1) := dk_3 (dk_at dksX2_def_2 5 rfl rfl)
theorem dX2_def_53 : decode cX2_def 53 = .ok (.iload_n 1, 1) := dk_27 (dk_at dksX2_def_2 6 rfl rfl)
theorem dX2_def_54 : decode cX2_def 54 = .ok (.bipush 65, 2) := dk_16 65 (dk_at dksX2_def_2 7 rfl rfl)
theorem dX2_def_56 : decode cX2_def 56 = .ok (.isub, 1) := dk_100 (dk_at dksX2_def_2 9 rfl rfl)
theorem dX2_def_57 : decode cX2_def 57 = .ok (.invokevirtual 279, 3) := dk_182 1 23 (dk_at dksX2_def_2 10 rfl rfl)
theorem dX2_def_60 : decode cX2_def 60 = .ok (.aload_n 0, 1) := dk_42 (dk_at dksX2_def_2 13 rfl rfl)
theorem dX2_def_61 : decode cX2_def 61 = .ok (.bipush 40, 2) := dk_16 40 (dk_at dksX2_def_2 14 rfl rfl)
theorem dX2_def_63 : decode cX2_def 63 = .ok (.invokevirtual 248, 3) := dk_182 0 248 (dk_at dksX2_def_2 16 rfl rfl)
theorem dX2_def_66 : decode cX2_def 66 = .ok (.aload_n 0, 1) := dk_42 (dk_at dksX2_def_2 19 rfl rfl)
theorem dX2_def_67 : decode cX2_def 67 = .ok (.iconst 1, 1) := dk_4 (dk_at dksX2_def_2 20 rfl rfl)
theorem dX2_def_68 : decode cX2_def 68 = .ok (.aload_n 0, 1) := dk_42 (dk_at dksX2_def_2 21 rfl rfl)
theorem dX2_def_69 : decode cX2_def 69 = .ok (.invokevirtual 261, 3) := dk_182 1 5 (dk_at dksX2_def_3 0 rfl rfl)
theorem dX2_def_72 : decode cX2_def 72 = .ok (.invokevirtual 279, 3) := dk_182 1 23 (dk_at dksX2_def_3 3 rfl rfl)
theorem dX2_def_75 : decode cX2_def 75 = .ok (.aload_n 0, 1) := dk_42 (dk_at dksX2_def_3 6 rfl rfl)
theorem dX2_def_76 : decode cX2_def 76 = .ok (.bipush 41, 2) := dk_16 41 (dk_at dksX2_def_3 7 rfl rfl)
theorem dX2_def_78 : decode cX2_def 78 = .ok (.invokevirtual 248, 3) := dk_182 0 248 (dk_at dksX2_def_3 9 rfl rfl)
theorem dX2_def_81 : decode cX2_def 81 = .ok (.aload_n 0, 1) := dk_42 (dk_at dksX2_def_3 12 rfl rfl)
theorem dX2_def_82 : decode cX2_def 82 = .ok (.bipush 61, 2) := dk_16 61 (dk_at dksX2_def_3 13 rfl rfl)
theorem dX2_def_84 : decode cX2_def 84 = .ok (.invokevirtual 248, 3) := dk_182 0 248 (dk_at dksX2_def_3 15 rfl rfl)
theorem dX2_def_87 : decode cX2_def 87 = .ok (.aload_n 0, 1) := dk_42 (dk_at dksX2_def_3 18 rfl rfl)
theorem dX2_def_88 : decode cX2_def 88 = .ok (.iconst 0, 1) := dk_3 (dk_at dksX2_def_3 19 rfl rfl)
theorem dX2_def_89 : decode cX2_def 89 = .ok (.aload_n 0, 1) := dk_42 (dk_at dksX2_def_3 20 rfl rfl)
theorem dX2_def_90 : decode cX2_def 90 = .ok (.iconst 0, 1) := dk_3 (dk_at dksX2_def_3 21 rfl rfl)
theorem dX2_def_91 : decode cX2_def 91 = .ok (.invokevirtual 286, 3) := dk_182 1 30 (dk_at dksX2_def_4 0 rfl rfl)
theorem dX2_def_94 : decode cX2_def 94 = .ok (.invokevirtual 290, 3) := dk_182 1 34 (dk_at dksX2_def_4 3 rfl rfl)
theorem dX2_def_97 : decode cX2_def 97 = .ok (.return_, 1) := dk_177 (dk_at dksX2_def_4 6 rfl rfl)
abbrev cX2_mat : ByteArray := prog_32_method_39_code
def yX2_mat : MethodName := ⟨RX2, "mat", "()V"⟩
def dkwX2_mat_9 : List UInt8 := [182, 0, 248, 177]
abbrev dktX2_mat_9 : List UInt8 := dkwX2_mat_9 ++ []
def dkwX2_mat_8 : List UInt8 := [159, 0, 4, 177, 42, 16, 40, 182, 0, 248, 42, 5, 42, 182, 1, 27, 182, 1, 23, 42, 16, 41]
abbrev dktX2_mat_8 : List UInt8 := dkwX2_mat_8 ++ dktX2_mat_9
def dkwX2_mat_7 : List UInt8 := [4, 42, 16, 20, 16, 23, 182, 1, 1, 16, 20, 100, 182, 1, 23, 42, 180, 0, 49, 17, 0, 193, 46, 6]
abbrev dktX2_mat_7 : List UInt8 := dkwX2_mat_7 ++ dktX2_mat_8
def dkwX2_mat_6 : List UInt8 := [180, 0, 49, 17, 0, 193, 46, 8, 164, 0, 65, 42, 6, 42, 182, 1, 27, 182, 1, 23, 167, 0, 53, 42]
abbrev dktX2_mat_6 : List UInt8 := dkwX2_mat_6 ++ dktX2_mat_7
def dkwX2_mat_5 : List UInt8 := [16, 7, 167, 0, 18, 42, 16, 42, 182, 0, 160, 153, 0, 8, 16, 8, 167, 0, 4, 8, 182, 1, 23, 42]
abbrev dktX2_mat_5 : List UInt8 := dkwX2_mat_5 ++ dktX2_mat_6
def dkwX2_mat_4 : List UInt8 := [4, 42, 16, 43, 182, 0, 160, 153, 0, 8, 16, 6, 167, 0, 32, 42, 16, 45, 182, 0, 160, 153, 0, 8]
abbrev dktX2_mat_4 : List UInt8 := dkwX2_mat_4 ++ dktX2_mat_5
def dkwX2_mat_3 : List UInt8 := [182, 1, 23, 167, 0, 142, 42, 27, 182, 0, 241, 153, 0, 84, 42, 5, 42, 182, 1, 27, 182, 1, 23, 42]
abbrev dktX2_mat_3 : List UInt8 := dkwX2_mat_3 ++ dktX2_mat_4
def dkwX2_mat_2 : List UInt8 := [42, 182, 1, 37, 42, 16, 42, 182, 0, 248, 42, 4, 7, 182, 1, 23, 42, 5, 42, 182, 1, 27]
abbrev dktX2_mat_2 : List UInt8 := dkwX2_mat_2 ++ dktX2_mat_3
def dkwX2_mat_1 : List UInt8 := [153, 0, 4, 177, 27, 16, 40, 160, 0, 45, 42, 182, 1, 11, 42, 3, 42, 3, 182, 1, 30, 182, 1, 34]
abbrev dktX2_mat_1 : List UInt8 := dkwX2_mat_1 ++ dktX2_mat_2
def dkwX2_mat_0 : List UInt8 := [42, 3, 42, 182, 1, 27, 182, 1, 23, 42, 16, 61, 182, 0, 248, 42, 182, 0, 156, 60, 42, 180, 0, 31]
abbrev dktX2_mat_0 : List UInt8 := dkwX2_mat_0 ++ dktX2_mat_1
theorem dksX2_mat_0 : cX2_mat.data.toList.drop 0 = dktX2_mat_0 := by decide +kernel
theorem dksX2_mat_1 : cX2_mat.data.toList.drop 24 = dktX2_mat_1 := dk_seg dksX2_mat_0 24 rfl rfl
theorem dksX2_mat_2 : cX2_mat.data.toList.drop 48 = dktX2_mat_2 := dk_seg dksX2_mat_1 24 rfl rfl
theorem dksX2_mat_3 : cX2_mat.data.toList.drop 70 = dktX2_mat_3 := dk_seg dksX2_mat_2 22 rfl rfl
theorem dksX2_mat_4 : cX2_mat.data.toList.drop 94 = dktX2_mat_4 := dk_seg dksX2_mat_3 24 rfl rfl
theorem dksX2_mat_5 : cX2_mat.data.toList.drop 118 = dktX2_mat_5 := dk_seg dksX2_mat_4 24 rfl rfl
theorem dksX2_mat_6 : cX2_mat.data.toList.drop 142 = dktX2_mat_6 := dk_seg dksX2_mat_5 24 rfl rfl
theorem dksX2_mat_7 : cX2_mat.data.toList.drop 166 = dktX2_mat_7 := dk_seg dksX2_mat_6 24 rfl rfl
theorem dksX2_mat_8 : cX2_mat.data.toList.drop 190 = dktX2_mat_8 := dk_seg dksX2_mat_7 24 rfl rfl
theorem dksX2_mat_9 : cX2_mat.data.toList.drop 212 = dktX2_mat_9 := dk_seg dksX2_mat_8 22 rfl rfl
theorem dX2_mat_0 : decode cX2_mat 0 = .ok (.aload_n 0, 1) := dk_42 (dk_at dksX2_mat_0 0 rfl rfl)
theorem dX2_mat_1 : decode cX2_mat 1 = .ok (.iconst 0, 1) := dk_3 (dk_at dksX2_mat_0 1 rfl rfl)
theorem dX2_mat_2 : decode cX2_mat 2 = .ok (.aload_n 0, 1) := dk_42 (dk_at dksX2_mat_0 2 rfl rfl)
theorem dX2_mat_3 : decode cX2_mat 3 = .ok (.invokevirtual 283, 3) := dk_182 1 27 (dk_at dksX2_mat_0 3 rfl rfl)
theorem dX2_mat_6 : decode cX2_mat 6 = .ok (.invokevirtual 279, 3) := dk_182 1 23 (dk_at dksX2_mat_0 6 rfl rfl)
theorem dX2_mat_9 : decode cX2_mat 9 = .ok (.aload_n 0, 1) := dk_42 (dk_at dksX2_mat_0 9 rfl rfl)
theorem dX2_mat_10 : decode cX2_mat 10 = .ok (.bipush 61, 2) := dk_16 61 (dk_at dksX2_mat_0 10 rfl rfl)
theorem dX2_mat_12 : decode cX2_mat 12 = .ok (.invokevirtual 248, 3) := dk_182 0 248 (dk_at dksX2_mat_0 12 rfl rfl)
theorem dX2_mat_15 : decode cX2_mat 15 = .ok (.aload_n 0, 1) := dk_42 (dk_at dksX2_mat_0 15 rfl rfl)
theorem dX2_mat_16 : decode cX2_mat 16 = .ok (.invokevirtual 156, 3) := dk_182 0 156 (dk_at dksX2_mat_0 16 rfl rfl)
theorem dX2_mat_19 : decode cX2_mat 19 = .ok (.istore_n 1, 1) := dk_60 (dk_at dksX2_mat_0 19 rfl rfl)
theorem dX2_mat_20 : decode cX2_mat 20 = .ok (.aload_n 0, 1) := dk_42 (dk_at dksX2_mat_0 20 rfl rfl)
theorem dX2_mat_21 : decode cX2_mat 21 = .ok (.getfield 31, 3) := dk_180 0 31 (dk_at dksX2_mat_0 21 rfl rfl)
theorem dX2_mat_24 : decode cX2_mat 24 = .ok (.ifCond .eq 4, 3) := dk_153 0 4 (dk_at dksX2_mat_1 0 rfl rfl)
theorem dX2_mat_27 : decode cX2_mat 27 = .ok (.return_, 1) := dk_177 (dk_at dksX2_mat_1 3 rfl rfl)
theorem dX2_mat_28 : decode cX2_mat 28 = .ok (.iload_n 1, 1) := dk_27 (dk_at dksX2_mat_1 4 rfl rfl)
theorem dX2_mat_29 : decode cX2_mat 29 = .ok (.bipush 40, 2) := dk_16 40 (dk_at dksX2_mat_1 5 rfl rfl)
theorem dX2_mat_31 : decode cX2_mat 31 = .ok (.if_icmp .ne 45, 3) := dk_160 0 45 (dk_at dksX2_mat_1 7 rfl rfl)
theorem dX2_mat_34 : decode cX2_mat 34 = .ok (.aload_n 0, 1) := dk_42 (dk_at dksX2_mat_1 10 rfl rfl)
theorem dX2_mat_35 : decode cX2_mat 35 = .ok (.invokevirtual 267, 3) := dk_182 1 11 (dk_at dksX2_mat_1 11 rfl rfl)
theorem dX2_mat_38 : decode cX2_mat 38 = .ok (.aload_n 0, 1) := dk_42 (dk_at dksX2_mat_1 14 rfl rfl)
theorem dX2_mat_39 : decode cX2_mat 39 = .ok (.iconst 0, 1) := dk_3 (dk_at dksX2_mat_1 15 rfl rfl)
theorem dX2_mat_40 : decode cX2_mat 40 = .ok (.aload_n 0, 1) := dk_42 (dk_at dksX2_mat_1 16 rfl rfl)
theorem dX2_mat_41 : decode cX2_mat 41 = .ok (.iconst 0, 1) := dk_3 (dk_at dksX2_mat_1 17 rfl rfl)
theorem dX2_mat_42 : decode cX2_mat 42 = .ok (.invokevirtual 286, 3) := dk_182 1 30 (dk_at dksX2_mat_1 18 rfl rfl)
theorem dX2_mat_45 : decode cX2_mat 45 = .ok (.invokevirtual 290, 3) := dk_182 1 34 (dk_at dksX2_mat_1 21 rfl rfl)
theorem dX2_mat_48 : decode cX2_mat 48 = .ok (.aload_n 0, 1) := dk_42 (dk_at dksX2_mat_2 0 rfl rfl)
theorem dX2_mat_49 : decode cX2_mat 49 = .ok (.invokevirtual 293, 3) := dk_182 1 37 (dk_at dksX2_mat_2 1 rfl rfl)
theorem dX2_mat_52 : decode cX2_mat 52 = .ok (.aload_n 0, 1) := dk_42 (dk_at dksX2_mat_2 4 rfl rfl)
theorem dX2_mat_53 : decode cX2_mat 53 = .ok (.bipush 42, 2) := dk_16 42 (dk_at dksX2_mat_2 5 rfl rfl)
theorem dX2_mat_55 : decode cX2_mat 55 = .ok (.invokevirtual 248, 3) := dk_182 0 248 (dk_at dksX2_mat_2 7 rfl rfl)
theorem dX2_mat_58 : decode cX2_mat 58 = .ok (.aload_n 0, 1) := dk_42 (dk_at dksX2_mat_2 10 rfl rfl)
theorem dX2_mat_59 : decode cX2_mat 59 = .ok (.iconst 1, 1) := dk_4 (dk_at dksX2_mat_2 11 rfl rfl)
theorem dX2_mat_60 : decode cX2_mat 60 = .ok (.iconst 4, 1) := dk_7 (dk_at dksX2_mat_2 12 rfl rfl)
theorem dX2_mat_61 : decode cX2_mat 61 = .ok (.invokevirtual 279, 3) := dk_182 1 23 (dk_at dksX2_mat_2 13 rfl rfl)
theorem dX2_mat_64 : decode cX2_mat 64 = .ok (.aload_n 0, 1) := dk_42 (dk_at dksX2_mat_2 16 rfl rfl)
theorem dX2_mat_65 : decode cX2_mat 65 = .ok (.iconst 2, 1) := dk_5 (dk_at dksX2_mat_2 17 rfl rfl)
theorem dX2_mat_66 : decode cX2_mat 66 = .ok (.aload_n 0, 1) := dk_42 (dk_at dksX2_mat_2 18 rfl rfl)
theorem dX2_mat_67 : decode cX2_mat 67 = .ok (.invokevirtual 283, 3) := dk_182 1 27 (dk_at dksX2_mat_2 19 rfl rfl)
theorem dX2_mat_70 : decode cX2_mat 70 = .ok (.invokevirtual 279, 3) := dk_182 1 23 (dk_at dksX2_mat_3 0 rfl rfl)
theorem dX2_mat_73 : decode cX2_mat 73 = .ok (.goto 142, 3) := dk_167 0 142 (dk_at dksX2_mat_3 3 rfl rfl)
theorem dX2_mat_76 : decode cX2_mat 76 = .ok (.aload_n 0, 1) := dk_42 (dk_at dksX2_mat_3 6 rfl rfl)
theorem dX2_mat_77 : decode cX2_mat 77 = .ok (.iload_n 1, 1) := dk_27 (dk_at dksX2_mat_3 7 rfl rfl)
theorem dX2_mat_78 : decode cX2_mat 78 = .ok (.invokevirtual 241, 3) := dk_182 0 241 (dk_at dksX2_mat_3 8 rfl rfl)
theorem dX2_mat_81 : decode cX2_mat 81 = .ok (.ifCond .eq 84, 3) := dk_153 0 84 (dk_at dksX2_mat_3 11 rfl rfl)
theorem dX2_mat_84 : decode cX2_mat 84 = .ok (.aload_n 0, 1) := dk_42 (dk_at dksX2_mat_3 14 rfl rfl)
theorem dX2_mat_85 : decode cX2_mat 85 = .ok (.iconst 2, 1) := dk_5 (dk_at dksX2_mat_3 15 rfl rfl)
theorem dX2_mat_86 : decode cX2_mat 86 = .ok (.aload_n 0, 1) := dk_42 (dk_at dksX2_mat_3 16 rfl rfl)
theorem dX2_mat_87 : decode cX2_mat 87 = .ok (.invokevirtual 283, 3) := dk_182 1 27 (dk_at dksX2_mat_3 17 rfl rfl)
theorem dX2_mat_90 : decode cX2_mat 90 = .ok (.invokevirtual 279, 3) := dk_182 1 23 (dk_at dksX2_mat_3 20 rfl rfl)
theorem dX2_mat_93 : decode cX2_mat 93 = .ok (.aload_n 0, 1) := dk_42 (dk_at dksX2_mat_3 23 rfl rfl)
theorem dX2_mat_94 : decode cX2_mat 94 = .ok (.iconst 1, 1) := dk_4 (dk_at dksX2_mat_4 0 rfl rfl)
theorem dX2_mat_95 : decode cX2_mat 95 = .ok (.aload_n 0, 1) := dk_42 (dk_at dksX2_mat_4 1 rfl rfl)
theorem dX2_mat_96 : decode cX2_mat 96 = .ok (.bipush 43, 2) := dk_16 43 (dk_at dksX2_mat_4 2 rfl rfl)
theorem dX2_mat_98 : decode cX2_mat 98 = .ok (.invokevirtual 160, 3) := dk_182 0 160 (dk_at dksX2_mat_4 4 rfl rfl)
theorem dX2_mat_101 : decode cX2_mat 101 = .ok (.ifCond .eq 8, 3) := dk_153 0 8 (dk_at dksX2_mat_4 7 rfl rfl)
theorem dX2_mat_104 : decode cX2_mat 104 = .ok (.bipush 6, 2) := dk_16 6 (dk_at dksX2_mat_4 10 rfl rfl)
theorem dX2_mat_106 : decode cX2_mat 106 = .ok (.goto 32, 3) := dk_167 0 32 (dk_at dksX2_mat_4 12 rfl rfl)
theorem dX2_mat_109 : decode cX2_mat 109 = .ok (.aload_n 0, 1) := dk_42 (dk_at dksX2_mat_4 15 rfl rfl)
theorem dX2_mat_110 : decode cX2_mat 110 = .ok (.bipush 45, 2) := dk_16 45 (dk_at dksX2_mat_4 16 rfl rfl)
theorem dX2_mat_112 : decode cX2_mat 112 = .ok (.invokevirtual 160, 3) := dk_182 0 160 (dk_at dksX2_mat_4 18 rfl rfl)
theorem dX2_mat_115 : decode cX2_mat 115 = .ok (.ifCond .eq 8, 3) := dk_153 0 8 (dk_at dksX2_mat_4 21 rfl rfl)
theorem dX2_mat_118 : decode cX2_mat 118 = .ok (.bipush 7, 2) := dk_16 7 (dk_at dksX2_mat_5 0 rfl rfl)
theorem dX2_mat_120 : decode cX2_mat 120 = .ok (.goto 18, 3) := dk_167 0 18 (dk_at dksX2_mat_5 2 rfl rfl)
theorem dX2_mat_123 : decode cX2_mat 123 = .ok (.aload_n 0, 1) := dk_42 (dk_at dksX2_mat_5 5 rfl rfl)
theorem dX2_mat_124 : decode cX2_mat 124 = .ok (.bipush 42, 2) := dk_16 42 (dk_at dksX2_mat_5 6 rfl rfl)
theorem dX2_mat_126 : decode cX2_mat 126 = .ok (.invokevirtual 160, 3) := dk_182 0 160 (dk_at dksX2_mat_5 8 rfl rfl)
theorem dX2_mat_129 : decode cX2_mat 129 = .ok (.ifCond .eq 8, 3) := dk_153 0 8 (dk_at dksX2_mat_5 11 rfl rfl)
theorem dX2_mat_132 : decode cX2_mat 132 = .ok (.bipush 8, 2) := dk_16 8 (dk_at dksX2_mat_5 14 rfl rfl)
theorem dX2_mat_134 : decode cX2_mat 134 = .ok (.goto 4, 3) := dk_167 0 4 (dk_at dksX2_mat_5 16 rfl rfl)
theorem dX2_mat_137 : decode cX2_mat 137 = .ok (.iconst 5, 1) := dk_8 (dk_at dksX2_mat_5 19 rfl rfl)
theorem dX2_mat_138 : decode cX2_mat 138 = .ok (.invokevirtual 279, 3) := dk_182 1 23 (dk_at dksX2_mat_5 20 rfl rfl)
theorem dX2_mat_141 : decode cX2_mat 141 = .ok (.aload_n 0, 1) := dk_42 (dk_at dksX2_mat_5 23 rfl rfl)
theorem dX2_mat_142 : decode cX2_mat 142 = .ok (.getfield 49, 3) := dk_180 0 49 (dk_at dksX2_mat_6 0 rfl rfl)
theorem dX2_mat_145 : decode cX2_mat 145 = .ok (.sipush 193, 3) := dk_17 0 193 (dk_at dksX2_mat_6 3 rfl rfl)
theorem dX2_mat_148 : decode cX2_mat 148 = .ok (.iaload, 1) := dk_46 (dk_at dksX2_mat_6 6 rfl rfl)
theorem dX2_mat_149 : decode cX2_mat 149 = .ok (.iconst 5, 1) := dk_8 (dk_at dksX2_mat_6 7 rfl rfl)
theorem dX2_mat_150 : decode cX2_mat 150 = .ok (.if_icmp .le 65, 3) := dk_164 0 65 (dk_at dksX2_mat_6 8 rfl rfl)
theorem dX2_mat_153 : decode cX2_mat 153 = .ok (.aload_n 0, 1) := dk_42 (dk_at dksX2_mat_6 11 rfl rfl)
theorem dX2_mat_154 : decode cX2_mat 154 = .ok (.iconst 3, 1) := dk_6 (dk_at dksX2_mat_6 12 rfl rfl)
theorem dX2_mat_155 : decode cX2_mat 155 = .ok (.aload_n 0, 1) := dk_42 (dk_at dksX2_mat_6 13 rfl rfl)
theorem dX2_mat_156 : decode cX2_mat 156 = .ok (.invokevirtual 283, 3) := dk_182 1 27 (dk_at dksX2_mat_6 14 rfl rfl)
theorem dX2_mat_159 : decode cX2_mat 159 = .ok (.invokevirtual 279, 3) := dk_182 1 23 (dk_at dksX2_mat_6 17 rfl rfl)
theorem dX2_mat_162 : decode cX2_mat 162 = .ok (.goto 53, 3) := dk_167 0 53 (dk_at dksX2_mat_6 20 rfl rfl)
theorem dX2_mat_165 : decode cX2_mat 165 = .ok (.aload_n 0, 1) := dk_42 (dk_at dksX2_mat_6 23 rfl rfl)
theorem dX2_mat_166 : decode cX2_mat 166 = .ok (.iconst 1, 1) := dk_4 (dk_at dksX2_mat_7 0 rfl rfl)
theorem dX2_mat_167 : decode cX2_mat 167 = .ok (.aload_n 0, 1) := dk_42 (dk_at dksX2_mat_7 1 rfl rfl)
theorem dX2_mat_168 : decode cX2_mat 168 = .ok (.bipush 20, 2) := dk_16 20 (dk_at dksX2_mat_7 2 rfl rfl)
theorem dX2_mat_170 : decode cX2_mat 170 = .ok (.bipush 23, 2) := dk_16 23 (dk_at dksX2_mat_7 4 rfl rfl)
theorem dX2_mat_172 : decode cX2_mat 172 = .ok (.invokevirtual 257, 3) := dk_182 1 1 (dk_at dksX2_mat_7 6 rfl rfl)
theorem dX2_mat_175 : decode cX2_mat 175 = .ok (.bipush 20, 2) := dk_16 20 (dk_at dksX2_mat_7 9 rfl rfl)
theorem dX2_mat_177 : decode cX2_mat 177 = .ok (.isub, 1) := dk_100 (dk_at dksX2_mat_7 11 rfl rfl)
theorem dX2_mat_178 : decode cX2_mat 178 = .ok (.invokevirtual 279, 3) := dk_182 1 23 (dk_at dksX2_mat_7 12 rfl rfl)
theorem dX2_mat_181 : decode cX2_mat 181 = .ok (.aload_n 0, 1) := dk_42 (dk_at dksX2_mat_7 15 rfl rfl)
theorem dX2_mat_182 : decode cX2_mat 182 = .ok (.getfield 49, 3) := dk_180 0 49 (dk_at dksX2_mat_7 16 rfl rfl)
theorem dX2_mat_185 : decode cX2_mat 185 = .ok (.sipush 193, 3) := dk_17 0 193 (dk_at dksX2_mat_7 19 rfl rfl)
theorem dX2_mat_188 : decode cX2_mat 188 = .ok (.iaload, 1) := dk_46 (dk_at dksX2_mat_7 22 rfl rfl)
theorem dX2_mat_189 : decode cX2_mat 189 = .ok (.iconst 3, 1) := dk_6 (dk_at dksX2_mat_7 23 rfl rfl)
theorem dX2_mat_190 : decode cX2_mat 190 = .ok (.if_icmp .eq 4, 3) := dk_159 0 4 (dk_at dksX2_mat_8 0 rfl rfl)
theorem dX2_mat_193 : decode cX2_mat 193 = .ok (.return_, 1) := dk_177 (dk_at dksX2_mat_8 3 rfl rfl)
theorem dX2_mat_194 : decode cX2_mat 194 = .ok (.aload_n 0, 1) := dk_42 (dk_at dksX2_mat_8 4 rfl rfl)
theorem dX2_mat_195 : decode cX2_mat 195 = .ok (.bipush 40, 2) := dk_16 40 (dk_at dksX2_mat_8 5 rfl rfl)
theorem dX2_mat_197 : decode cX2_mat 197 = .ok (.invokevirtual 248, 3) := dk_182 0 248 (dk_at dksX2_mat_8 7 rfl rfl)
theorem dX2_mat_200 : decode cX2_mat 200 = .ok (.aload_n 0, 1) := dk_42 (dk_at dksX2_mat_8 10 rfl rfl)
theorem dX2_mat_201 : decode cX2_mat 201 = .ok (.iconst 2, 1) := dk_5 (dk_at dksX2_mat_8 11 rfl rfl)
theorem dX2_mat_202 : decode cX2_mat 202 = .ok (.aload_n 0, 1) := dk_42 (dk_at dksX2_mat_8 12 rfl rfl)
theorem dX2_mat_203 : decode cX2_mat 203 = .ok (.invokevirtual 283, 3) := dk_182 1 27 (dk_at dksX2_mat_8 13 rfl rfl)
theorem dX2_mat_206 : decode cX2_mat 206 = .ok (.invokevirtual 279, 3) := dk_182 1 23 (dk_at dksX2_mat_8 16 rfl rfl)
theorem dX2_mat_209 : decode cX2_mat 209 = .ok (.aload_n 0, 1) := dk_42 (dk_at dksX2_mat_8 19 rfl rfl)
theorem dX2_mat_210 : decode cX2_mat 210 = .ok (.bipush 41, 2) := dk_16 41 (dk_at dksX2_mat_8 20 rfl rfl)
theorem dX2_mat_212 : decode cX2_mat 212 = .ok (.invokevirtual 248, 3) := dk_182 0 248 (dk_at dksX2_mat_9 0 rfl rfl)
theorem dX2_mat_215 : decode cX2_mat 215 = .ok (.return_, 1) := dk_177 (dk_at dksX2_mat_9 3 rfl rfl)
abbrev cX2_slotOf : ByteArray := prog_32_method_41_code
def yX2_slotOf : MethodName := ⟨RX2, "slotOf", "(I)I"⟩
def dkwX2_slotOf_1 : List UInt8 := [167, 255, 235, 2, 172]
abbrev dktX2_slotOf_1 : List UInt8 := dkwX2_slotOf_1 ++ []
def dkwX2_slotOf_0 : List UInt8 := [3, 61, 28, 16, 24, 162, 0, 21, 42, 180, 0, 42, 28, 46, 27, 160, 0, 5, 28, 172, 132, 2, 1]
abbrev dktX2_slotOf_0 : List UInt8 := dkwX2_slotOf_0 ++ dktX2_slotOf_1
theorem dksX2_slotOf_0 : cX2_slotOf.data.toList.drop 0 = dktX2_slotOf_0 := by decide +kernel
theorem dksX2_slotOf_1 : cX2_slotOf.data.toList.drop 23 = dktX2_slotOf_1 := dk_seg dksX2_slotOf_0 23 rfl rfl
theorem dX2_slotOf_0 : decode cX2_slotOf 0 = .ok (.iconst 0, 1) := dk_3 (dk_at dksX2_slotOf_0 0 rfl rfl)
theorem dX2_slotOf_1 : decode cX2_slotOf 1 = .ok (.istore_n 2, 1) := dk_61 (dk_at dksX2_slotOf_0 1 rfl rfl)
theorem dX2_slotOf_2 : decode cX2_slotOf 2 = .ok (.iload_n 2, 1) := dk_28 (dk_at dksX2_slotOf_0 2 rfl rfl)
theorem dX2_slotOf_3 : decode cX2_slotOf 3 = .ok (.bipush 24, 2) := dk_16 24 (dk_at dksX2_slotOf_0 3 rfl rfl)
theorem dX2_slotOf_5 : decode cX2_slotOf 5 = .ok (.if_icmp .ge 21, 3) := dk_162 0 21 (dk_at dksX2_slotOf_0 5 rfl rfl)
theorem dX2_slotOf_8 : decode cX2_slotOf 8 = .ok (.aload_n 0, 1) := dk_42 (dk_at dksX2_slotOf_0 8 rfl rfl)
theorem dX2_slotOf_9 : decode cX2_slotOf 9 = .ok (.getfield 42, 3) := dk_180 0 42 (dk_at dksX2_slotOf_0 9 rfl rfl)
theorem dX2_slotOf_12 : decode cX2_slotOf 12 = .ok (.iload_n 2, 1) := dk_28 (dk_at dksX2_slotOf_0 12 rfl rfl)
theorem dX2_slotOf_13 : decode cX2_slotOf 13 = .ok (.iaload, 1) := dk_46 (dk_at dksX2_slotOf_0 13 rfl rfl)
theorem dX2_slotOf_14 : decode cX2_slotOf 14 = .ok (.iload_n 1, 1) := dk_27 (dk_at dksX2_slotOf_0 14 rfl rfl)
theorem dX2_slotOf_15 : decode cX2_slotOf 15 = .ok (.if_icmp .ne 5, 3) := dk_160 0 5 (dk_at dksX2_slotOf_0 15 rfl rfl)
theorem dX2_slotOf_18 : decode cX2_slotOf 18 = .ok (.iload_n 2, 1) := dk_28 (dk_at dksX2_slotOf_0 18 rfl rfl)
theorem dX2_slotOf_19 : decode cX2_slotOf 19 = .ok (.ireturn, 1) := dk_172 (dk_at dksX2_slotOf_0 19 rfl rfl)
theorem dX2_slotOf_20 : decode cX2_slotOf 20 = .ok (.iinc 2 1, 3) := dk_132 2 1 (dk_at dksX2_slotOf_0 20 rfl rfl)
theorem dX2_slotOf_23 : decode cX2_slotOf 23 = .ok (.goto (-21), 3) := dk_167 255 235 (dk_at dksX2_slotOf_1 0 rfl rfl)
theorem dX2_slotOf_26 : decode cX2_slotOf 26 = .ok (.iconst (-1), 1) := dk_2 (dk_at dksX2_slotOf_1 3 rfl rfl)
theorem dX2_slotOf_27 : decode cX2_slotOf 27 = .ok (.ireturn, 1) := dk_172 (dk_at dksX2_slotOf_1 4 rfl rfl)
abbrev cX2_lines : ByteArray := prog_32_method_44_code
def yX2_lines : MethodName := ⟨RX2, "lines", "()I"⟩
def dkwX2_lines_1 : List UInt8 := [132, 2, 1, 167, 255, 235, 27, 172]
abbrev dktX2_lines_1 : List UInt8 := dkwX2_lines_1 ++ []
def dkwX2_lines_0 : List UInt8 := [3, 60, 3, 61, 28, 16, 24, 162, 0, 21, 42, 180, 0, 42, 28, 46, 153, 0, 6, 132, 1, 1]
abbrev dktX2_lines_0 : List UInt8 := dkwX2_lines_0 ++ dktX2_lines_1
theorem dksX2_lines_0 : cX2_lines.data.toList.drop 0 = dktX2_lines_0 := by decide +kernel
theorem dksX2_lines_1 : cX2_lines.data.toList.drop 22 = dktX2_lines_1 := dk_seg dksX2_lines_0 22 rfl rfl
theorem dX2_lines_0 : decode cX2_lines 0 = .ok (.iconst 0, 1) := dk_3 (dk_at dksX2_lines_0 0 rfl rfl)
theorem dX2_lines_1 : decode cX2_lines 1 = .ok (.istore_n 1, 1) := dk_60 (dk_at dksX2_lines_0 1 rfl rfl)
theorem dX2_lines_2 : decode cX2_lines 2 = .ok (.iconst 0, 1) := dk_3 (dk_at dksX2_lines_0 2 rfl rfl)
theorem dX2_lines_3 : decode cX2_lines 3 = .ok (.istore_n 2, 1) := dk_61 (dk_at dksX2_lines_0 3 rfl rfl)
theorem dX2_lines_4 : decode cX2_lines 4 = .ok (.iload_n 2, 1) := dk_28 (dk_at dksX2_lines_0 4 rfl rfl)
theorem dX2_lines_5 : decode cX2_lines 5 = .ok (.bipush 24, 2) := dk_16 24 (dk_at dksX2_lines_0 5 rfl rfl)
theorem dX2_lines_7 : decode cX2_lines 7 = .ok (.if_icmp .ge 21, 3) := dk_162 0 21 (dk_at dksX2_lines_0 7 rfl rfl)
theorem dX2_lines_10 : decode cX2_lines 10 = .ok (.aload_n 0, 1) := dk_42 (dk_at dksX2_lines_0 10 rfl rfl)
theorem dX2_lines_11 : decode cX2_lines 11 = .ok (.getfield 42, 3) := dk_180 0 42 (dk_at dksX2_lines_0 11 rfl rfl)
theorem dX2_lines_14 : decode cX2_lines 14 = .ok (.iload_n 2, 1) := dk_28 (dk_at dksX2_lines_0 14 rfl rfl)
theorem dX2_lines_15 : decode cX2_lines 15 = .ok (.iaload, 1) := dk_46 (dk_at dksX2_lines_0 15 rfl rfl)
theorem dX2_lines_16 : decode cX2_lines 16 = .ok (.ifCond .eq 6, 3) := dk_153 0 6 (dk_at dksX2_lines_0 16 rfl rfl)
theorem dX2_lines_19 : decode cX2_lines 19 = .ok (.iinc 1 1, 3) := dk_132 1 1 (dk_at dksX2_lines_0 19 rfl rfl)
theorem dX2_lines_22 : decode cX2_lines 22 = .ok (.iinc 2 1, 3) := dk_132 2 1 (dk_at dksX2_lines_1 0 rfl rfl)
theorem dX2_lines_25 : decode cX2_lines 25 = .ok (.goto (-21), 3) := dk_167 255 235 (dk_at dksX2_lines_1 3 rfl rfl)
theorem dX2_lines_28 : decode cX2_lines 28 = .ok (.iload_n 1, 1) := dk_27 (dk_at dksX2_lines_1 6 rfl rfl)
theorem dX2_lines_29 : decode cX2_lines 29 = .ok (.ireturn, 1) := dk_172 (dk_at dksX2_lines_1 7 rfl rfl)
abbrev cX2_copyTo : ByteArray := prog_32_method_42_code
def yX2_copyTo : MethodName := ⟨RX2, "copyTo", "(I)V"⟩
def dkwX2_copyTo_5 : List UInt8 := [42, 180, 0, 55, 17, 15, 0, 28, 96, 46, 79, 132, 2, 1, 167, 255, 223, 177]
abbrev dktX2_copyTo_5 : List UInt8 := dkwX2_copyTo_5 ++ []
def dkwX2_copyTo_4 : List UInt8 := [167, 255, 223, 3, 61, 28, 42, 180, 0, 28, 162, 0, 31, 42, 180, 0, 55, 27, 17, 0, 160, 104, 28, 96]
abbrev dktX2_copyTo_4 : List UInt8 := dkwX2_copyTo_4 ++ dktX2_copyTo_5
def dkwX2_copyTo_3 : List UInt8 := [27, 7, 104, 28, 96, 42, 180, 0, 52, 16, 96, 28, 96, 46, 27, 17, 0, 160, 104, 96, 79, 132, 2, 1]
abbrev dktX2_copyTo_3 : List UInt8 := dkwX2_copyTo_3 ++ dktX2_copyTo_4
def dkwX2_copyTo_2 : List UInt8 := [17, 0, 192, 28, 96, 46, 79, 132, 2, 1, 167, 255, 226, 3, 61, 28, 7, 162, 0, 34, 42, 180, 0, 52]
abbrev dktX2_copyTo_2 : List UInt8 := dkwX2_copyTo_2 ++ dktX2_copyTo_3
def dkwX2_copyTo_1 : List UInt8 := [46, 79, 3, 61, 28, 16, 8, 162, 0, 30, 42, 180, 0, 49, 27, 16, 8, 104, 28, 96, 42, 180, 0, 49]
abbrev dktX2_copyTo_1 : List UInt8 := dkwX2_copyTo_1 ++ dktX2_copyTo_2
def dkwX2_copyTo_0 : List UInt8 := [42, 180, 0, 42, 27, 42, 180, 0, 42, 16, 24, 46, 79, 42, 180, 0, 46, 27, 42, 180, 0, 46, 16, 24]
abbrev dktX2_copyTo_0 : List UInt8 := dkwX2_copyTo_0 ++ dktX2_copyTo_1
theorem dksX2_copyTo_0 : cX2_copyTo.data.toList.drop 0 = dktX2_copyTo_0 := by decide +kernel
theorem dksX2_copyTo_1 : cX2_copyTo.data.toList.drop 24 = dktX2_copyTo_1 := dk_seg dksX2_copyTo_0 24 rfl rfl
theorem dksX2_copyTo_2 : cX2_copyTo.data.toList.drop 48 = dktX2_copyTo_2 := dk_seg dksX2_copyTo_1 24 rfl rfl
theorem dksX2_copyTo_3 : cX2_copyTo.data.toList.drop 72 = dktX2_copyTo_3 := dk_seg dksX2_copyTo_2 24 rfl rfl
theorem dksX2_copyTo_4 : cX2_copyTo.data.toList.drop 96 = dktX2_copyTo_4 := dk_seg dksX2_copyTo_3 24 rfl rfl
theorem dksX2_copyTo_5 : cX2_copyTo.data.toList.drop 120 = dktX2_copyTo_5 := dk_seg dksX2_copyTo_4 24 rfl rfl
theorem dX2_copyTo_0 : decode cX2_copyTo 0 = .ok (.aload_n 0, 1) := dk_42 (dk_at dksX2_copyTo_0 0 rfl rfl)
theorem dX2_copyTo_1 : decode cX2_copyTo 1 = .ok (.getfield 42, 3) := dk_180 0 42 (dk_at dksX2_copyTo_0 1 rfl rfl)
theorem dX2_copyTo_4 : decode cX2_copyTo 4 = .ok (.iload_n 1, 1) := dk_27 (dk_at dksX2_copyTo_0 4 rfl rfl)
theorem dX2_copyTo_5 : decode cX2_copyTo 5 = .ok (.aload_n 0, 1) := dk_42 (dk_at dksX2_copyTo_0 5 rfl rfl)
theorem dX2_copyTo_6 : decode cX2_copyTo 6 = .ok (.getfield 42, 3) := dk_180 0 42 (dk_at dksX2_copyTo_0 6 rfl rfl)
theorem dX2_copyTo_9 : decode cX2_copyTo 9 = .ok (.bipush 24, 2) := dk_16 24 (dk_at dksX2_copyTo_0 9 rfl rfl)
theorem dX2_copyTo_11 : decode cX2_copyTo 11 = .ok (.iaload, 1) := dk_46 (dk_at dksX2_copyTo_0 11 rfl rfl)
theorem dX2_copyTo_12 : decode cX2_copyTo 12 = .ok (.iastore, 1) := dk_79 (dk_at dksX2_copyTo_0 12 rfl rfl)
theorem dX2_copyTo_13 : decode cX2_copyTo 13 = .ok (.aload_n 0, 1) := dk_42 (dk_at dksX2_copyTo_0 13 rfl rfl)
theorem dX2_copyTo_14 : decode cX2_copyTo 14 = .ok (.getfield 46, 3) := dk_180 0 46 (dk_at dksX2_copyTo_0 14 rfl rfl)
theorem dX2_copyTo_17 : decode cX2_copyTo 17 = .ok (.iload_n 1, 1) := dk_27 (dk_at dksX2_copyTo_0 17 rfl rfl)
theorem dX2_copyTo_18 : decode cX2_copyTo 18 = .ok (.aload_n 0, 1) := dk_42 (dk_at dksX2_copyTo_0 18 rfl rfl)
theorem dX2_copyTo_19 : decode cX2_copyTo 19 = .ok (.getfield 46, 3) := dk_180 0 46 (dk_at dksX2_copyTo_0 19 rfl rfl)
theorem dX2_copyTo_22 : decode cX2_copyTo 22 = .ok (.bipush 24, 2) := dk_16 24 (dk_at dksX2_copyTo_0 22 rfl rfl)
theorem dX2_copyTo_24 : decode cX2_copyTo 24 = .ok (.iaload, 1) := dk_46 (dk_at dksX2_copyTo_1 0 rfl rfl)
theorem dX2_copyTo_25 : decode cX2_copyTo 25 = .ok (.iastore, 1) := dk_79 (dk_at dksX2_copyTo_1 1 rfl rfl)
theorem dX2_copyTo_26 : decode cX2_copyTo 26 = .ok (.iconst 0, 1) := dk_3 (dk_at dksX2_copyTo_1 2 rfl rfl)
theorem dX2_copyTo_27 : decode cX2_copyTo 27 = .ok (.istore_n 2, 1) := dk_61 (dk_at dksX2_copyTo_1 3 rfl rfl)
theorem dX2_copyTo_28 : decode cX2_copyTo 28 = .ok (.iload_n 2, 1) := dk_28 (dk_at dksX2_copyTo_1 4 rfl rfl)
theorem dX2_copyTo_29 : decode cX2_copyTo 29 = .ok (.bipush 8, 2) := dk_16 8 (dk_at dksX2_copyTo_1 5 rfl rfl)
theorem dX2_copyTo_31 : decode cX2_copyTo 31 = .ok (.if_icmp .ge 30, 3) := dk_162 0 30 (dk_at dksX2_copyTo_1 7 rfl rfl)
theorem dX2_copyTo_34 : decode cX2_copyTo 34 = .ok (.aload_n 0, 1) := dk_42 (dk_at dksX2_copyTo_1 10 rfl rfl)
theorem dX2_copyTo_35 : decode cX2_copyTo 35 = .ok (.getfield 49, 3) := dk_180 0 49 (dk_at dksX2_copyTo_1 11 rfl rfl)
theorem dX2_copyTo_38 : decode cX2_copyTo 38 = .ok (.iload_n 1, 1) := dk_27 (dk_at dksX2_copyTo_1 14 rfl rfl)
theorem dX2_copyTo_39 : decode cX2_copyTo 39 = .ok (.bipush 8, 2) := dk_16 8 (dk_at dksX2_copyTo_1 15 rfl rfl)
theorem dX2_copyTo_41 : decode cX2_copyTo 41 = .ok (.imul, 1) := dk_104 (dk_at dksX2_copyTo_1 17 rfl rfl)
theorem dX2_copyTo_42 : decode cX2_copyTo 42 = .ok (.iload_n 2, 1) := dk_28 (dk_at dksX2_copyTo_1 18 rfl rfl)
theorem dX2_copyTo_43 : decode cX2_copyTo 43 = .ok (.iadd, 1) := dk_96 (dk_at dksX2_copyTo_1 19 rfl rfl)
theorem dX2_copyTo_44 : decode cX2_copyTo 44 = .ok (.aload_n 0, 1) := dk_42 (dk_at dksX2_copyTo_1 20 rfl rfl)
theorem dX2_copyTo_45 : decode cX2_copyTo 45 = .ok (.getfield 49, 3) := dk_180 0 49 (dk_at dksX2_copyTo_1 21 rfl rfl)
theorem dX2_copyTo_48 : decode cX2_copyTo 48 = .ok (.sipush 192, 3) := dk_17 0 192 (dk_at dksX2_copyTo_2 0 rfl rfl)
theorem dX2_copyTo_51 : decode cX2_copyTo 51 = .ok (.iload_n 2, 1) := dk_28 (dk_at dksX2_copyTo_2 3 rfl rfl)
theorem dX2_copyTo_52 : decode cX2_copyTo 52 = .ok (.iadd, 1) := dk_96 (dk_at dksX2_copyTo_2 4 rfl rfl)
theorem dX2_copyTo_53 : decode cX2_copyTo 53 = .ok (.iaload, 1) := dk_46 (dk_at dksX2_copyTo_2 5 rfl rfl)
theorem dX2_copyTo_54 : decode cX2_copyTo 54 = .ok (.iastore, 1) := dk_79 (dk_at dksX2_copyTo_2 6 rfl rfl)
theorem dX2_copyTo_55 : decode cX2_copyTo 55 = .ok (.iinc 2 1, 3) := dk_132 2 1 (dk_at dksX2_copyTo_2 7 rfl rfl)
theorem dX2_copyTo_58 : decode cX2_copyTo 58 = .ok (.goto (-30), 3) := dk_167 255 226 (dk_at dksX2_copyTo_2 10 rfl rfl)
theorem dX2_copyTo_61 : decode cX2_copyTo 61 = .ok (.iconst 0, 1) := dk_3 (dk_at dksX2_copyTo_2 13 rfl rfl)
theorem dX2_copyTo_62 : decode cX2_copyTo 62 = .ok (.istore_n 2, 1) := dk_61 (dk_at dksX2_copyTo_2 14 rfl rfl)
theorem dX2_copyTo_63 : decode cX2_copyTo 63 = .ok (.iload_n 2, 1) := dk_28 (dk_at dksX2_copyTo_2 15 rfl rfl)
theorem dX2_copyTo_64 : decode cX2_copyTo 64 = .ok (.iconst 4, 1) := dk_7 (dk_at dksX2_copyTo_2 16 rfl rfl)
theorem dX2_copyTo_65 : decode cX2_copyTo 65 = .ok (.if_icmp .ge 34, 3) := dk_162 0 34 (dk_at dksX2_copyTo_2 17 rfl rfl)
theorem dX2_copyTo_68 : decode cX2_copyTo 68 = .ok (.aload_n 0, 1) := dk_42 (dk_at dksX2_copyTo_2 20 rfl rfl)
theorem dX2_copyTo_69 : decode cX2_copyTo 69 = .ok (.getfield 52, 3) := dk_180 0 52 (dk_at dksX2_copyTo_2 21 rfl rfl)
theorem dX2_copyTo_72 : decode cX2_copyTo 72 = .ok (.iload_n 1, 1) := dk_27 (dk_at dksX2_copyTo_3 0 rfl rfl)
theorem dX2_copyTo_73 : decode cX2_copyTo 73 = .ok (.iconst 4, 1) := dk_7 (dk_at dksX2_copyTo_3 1 rfl rfl)
theorem dX2_copyTo_74 : decode cX2_copyTo 74 = .ok (.imul, 1) := dk_104 (dk_at dksX2_copyTo_3 2 rfl rfl)
theorem dX2_copyTo_75 : decode cX2_copyTo 75 = .ok (.iload_n 2, 1) := dk_28 (dk_at dksX2_copyTo_3 3 rfl rfl)
theorem dX2_copyTo_76 : decode cX2_copyTo 76 = .ok (.iadd, 1) := dk_96 (dk_at dksX2_copyTo_3 4 rfl rfl)
theorem dX2_copyTo_77 : decode cX2_copyTo 77 = .ok (.aload_n 0, 1) := dk_42 (dk_at dksX2_copyTo_3 5 rfl rfl)
theorem dX2_copyTo_78 : decode cX2_copyTo 78 = .ok (.getfield 52, 3) := dk_180 0 52 (dk_at dksX2_copyTo_3 6 rfl rfl)
theorem dX2_copyTo_81 : decode cX2_copyTo 81 = .ok (.bipush 96, 2) := dk_16 96 (dk_at dksX2_copyTo_3 9 rfl rfl)
theorem dX2_copyTo_83 : decode cX2_copyTo 83 = .ok (.iload_n 2, 1) := dk_28 (dk_at dksX2_copyTo_3 11 rfl rfl)
theorem dX2_copyTo_84 : decode cX2_copyTo 84 = .ok (.iadd, 1) := dk_96 (dk_at dksX2_copyTo_3 12 rfl rfl)
theorem dX2_copyTo_85 : decode cX2_copyTo 85 = .ok (.iaload, 1) := dk_46 (dk_at dksX2_copyTo_3 13 rfl rfl)
theorem dX2_copyTo_86 : decode cX2_copyTo 86 = .ok (.iload_n 1, 1) := dk_27 (dk_at dksX2_copyTo_3 14 rfl rfl)
theorem dX2_copyTo_87 : decode cX2_copyTo 87 = .ok (.sipush 160, 3) := dk_17 0 160 (dk_at dksX2_copyTo_3 15 rfl rfl)
theorem dX2_copyTo_90 : decode cX2_copyTo 90 = .ok (.imul, 1) := dk_104 (dk_at dksX2_copyTo_3 18 rfl rfl)
theorem dX2_copyTo_91 : decode cX2_copyTo 91 = .ok (.iadd, 1) := dk_96 (dk_at dksX2_copyTo_3 19 rfl rfl)
theorem dX2_copyTo_92 : decode cX2_copyTo 92 = .ok (.iastore, 1) := dk_79 (dk_at dksX2_copyTo_3 20 rfl rfl)
theorem dX2_copyTo_93 : decode cX2_copyTo 93 = .ok (.iinc 2 1, 3) := dk_132 2 1 (dk_at dksX2_copyTo_3 21 rfl rfl)
theorem dX2_copyTo_96 : decode cX2_copyTo 96 = .ok (.goto (-33), 3) := dk_167 255 223 (dk_at dksX2_copyTo_4 0 rfl rfl)
theorem dX2_copyTo_99 : decode cX2_copyTo 99 = .ok (.iconst 0, 1) := dk_3 (dk_at dksX2_copyTo_4 3 rfl rfl)
theorem dX2_copyTo_100 : decode cX2_copyTo 100 = .ok (.istore_n 2, 1) := dk_61 (dk_at dksX2_copyTo_4 4 rfl rfl)
theorem dX2_copyTo_101 : decode cX2_copyTo 101 = .ok (.iload_n 2, 1) := dk_28 (dk_at dksX2_copyTo_4 5 rfl rfl)
theorem dX2_copyTo_102 : decode cX2_copyTo 102 = .ok (.aload_n 0, 1) := dk_42 (dk_at dksX2_copyTo_4 6 rfl rfl)
theorem dX2_copyTo_103 : decode cX2_copyTo 103 = .ok (.getfield 28, 3) := dk_180 0 28 (dk_at dksX2_copyTo_4 7 rfl rfl)
theorem dX2_copyTo_106 : decode cX2_copyTo 106 = .ok (.if_icmp .ge 31, 3) := dk_162 0 31 (dk_at dksX2_copyTo_4 10 rfl rfl)
theorem dX2_copyTo_109 : decode cX2_copyTo 109 = .ok (.aload_n 0, 1) := dk_42 (dk_at dksX2_copyTo_4 13 rfl rfl)
theorem dX2_copyTo_110 : decode cX2_copyTo 110 = .ok (.getfield 55, 3) := dk_180 0 55 (dk_at dksX2_copyTo_4 14 rfl rfl)
theorem dX2_copyTo_113 : decode cX2_copyTo 113 = .ok (.iload_n 1, 1) := dk_27 (dk_at dksX2_copyTo_4 17 rfl rfl)
theorem dX2_copyTo_114 : decode cX2_copyTo 114 = .ok (.sipush 160, 3) := dk_17 0 160 (dk_at dksX2_copyTo_4 18 rfl rfl)
theorem dX2_copyTo_117 : decode cX2_copyTo 117 = .ok (.imul, 1) := dk_104 (dk_at dksX2_copyTo_4 21 rfl rfl)
theorem dX2_copyTo_118 : decode cX2_copyTo 118 = .ok (.iload_n 2, 1) := dk_28 (dk_at dksX2_copyTo_4 22 rfl rfl)
theorem dX2_copyTo_119 : decode cX2_copyTo 119 = .ok (.iadd, 1) := dk_96 (dk_at dksX2_copyTo_4 23 rfl rfl)
theorem dX2_copyTo_120 : decode cX2_copyTo 120 = .ok (.aload_n 0, 1) := dk_42 (dk_at dksX2_copyTo_5 0 rfl rfl)
theorem dX2_copyTo_121 : decode cX2_copyTo 121 = .ok (.getfield 55, 3) := dk_180 0 55 (dk_at dksX2_copyTo_5 1 rfl rfl)
theorem dX2_copyTo_124 : decode cX2_copyTo 124 = .ok (.sipush 3840, 3) := dk_17 15 0 (dk_at dksX2_copyTo_5 4 rfl rfl)
theorem dX2_copyTo_127 : decode cX2_copyTo 127 = .ok (.iload_n 2, 1) := dk_28 (dk_at dksX2_copyTo_5 7 rfl rfl)
theorem dX2_copyTo_128 : decode cX2_copyTo 128 = .ok (.iadd, 1) := dk_96 (dk_at dksX2_copyTo_5 8 rfl rfl)
theorem dX2_copyTo_129 : decode cX2_copyTo 129 = .ok (.iaload, 1) := dk_46 (dk_at dksX2_copyTo_5 9 rfl rfl)
theorem dX2_copyTo_130 : decode cX2_copyTo 130 = .ok (.iastore, 1) := dk_79 (dk_at dksX2_copyTo_5 10 rfl rfl)
theorem dX2_copyTo_131 : decode cX2_copyTo 131 = .ok (.iinc 2 1, 3) := dk_132 2 1 (dk_at dksX2_copyTo_5 11 rfl rfl)
theorem dX2_copyTo_134 : decode cX2_copyTo 134 = .ok (.goto (-33), 3) := dk_167 255 223 (dk_at dksX2_copyTo_5 14 rfl rfl)
theorem dX2_copyTo_137 : decode cX2_copyTo 137 = .ok (.return_, 1) := dk_177 (dk_at dksX2_copyTo_5 17 rfl rfl)
abbrev cX2_errorAt : ByteArray := prog_32_method_45_code
def yX2_errorAt : MethodName := ⟨RX2, "errorAt", "()I"⟩
def dkwX2_errorAt_0 : List UInt8 := [42, 42, 180, 0, 19, 182, 0, 153, 172]
abbrev dktX2_errorAt_0 : List UInt8 := dkwX2_errorAt_0 ++ []
theorem dksX2_errorAt_0 : cX2_errorAt.data.toList.drop 0 = dktX2_errorAt_0 := by decide +kernel
theorem dX2_errorAt_0 : decode cX2_errorAt 0 = .ok (.aload_n 0, 1) := dk_42 (dk_at dksX2_errorAt_0 0 rfl rfl)
theorem dX2_errorAt_1 : decode cX2_errorAt 1 = .ok (.aload_n 0, 1) := dk_42 (dk_at dksX2_errorAt_0 1 rfl rfl)
theorem dX2_errorAt_2 : decode cX2_errorAt 2 = .ok (.getfield 19, 3) := dk_180 0 19 (dk_at dksX2_errorAt_0 2 rfl rfl)
theorem dX2_errorAt_5 : decode cX2_errorAt 5 = .ok (.invokevirtual 153, 3) := dk_182 0 153 (dk_at dksX2_errorAt_0 5 rfl rfl)
theorem dX2_errorAt_8 : decode cX2_errorAt 8 = .ok (.ireturn, 1) := dk_172 (dk_at dksX2_errorAt_0 8 rfl rfl)
abbrev cX2_wipe : ByteArray := prog_32_method_46_code
def yX2_wipe : MethodName := ⟨RX2, "wipe", "()I"⟩
def dkwX2_wipe_1 : List UInt8 := [167, 255, 240, 42, 27, 182, 0, 153, 172]
abbrev dktX2_wipe_1 : List UInt8 := dkwX2_wipe_1 ++ []
def dkwX2_wipe_0 : List UInt8 := [42, 182, 1, 76, 60, 3, 61, 28, 16, 24, 162, 0, 16, 42, 180, 0, 42, 28, 3, 79, 132, 2, 1]
abbrev dktX2_wipe_0 : List UInt8 := dkwX2_wipe_0 ++ dktX2_wipe_1
theorem dksX2_wipe_0 : cX2_wipe.data.toList.drop 0 = dktX2_wipe_0 := by decide +kernel
theorem dksX2_wipe_1 : cX2_wipe.data.toList.drop 23 = dktX2_wipe_1 := dk_seg dksX2_wipe_0 23 rfl rfl
theorem dX2_wipe_0 : decode cX2_wipe 0 = .ok (.aload_n 0, 1) := dk_42 (dk_at dksX2_wipe_0 0 rfl rfl)
theorem dX2_wipe_1 : decode cX2_wipe 1 = .ok (.invokevirtual 332, 3) := dk_182 1 76 (dk_at dksX2_wipe_0 1 rfl rfl)
theorem dX2_wipe_4 : decode cX2_wipe 4 = .ok (.istore_n 1, 1) := dk_60 (dk_at dksX2_wipe_0 4 rfl rfl)
theorem dX2_wipe_5 : decode cX2_wipe 5 = .ok (.iconst 0, 1) := dk_3 (dk_at dksX2_wipe_0 5 rfl rfl)
theorem dX2_wipe_6 : decode cX2_wipe 6 = .ok (.istore_n 2, 1) := dk_61 (dk_at dksX2_wipe_0 6 rfl rfl)
theorem dX2_wipe_7 : decode cX2_wipe 7 = .ok (.iload_n 2, 1) := dk_28 (dk_at dksX2_wipe_0 7 rfl rfl)
theorem dX2_wipe_8 : decode cX2_wipe 8 = .ok (.bipush 24, 2) := dk_16 24 (dk_at dksX2_wipe_0 8 rfl rfl)
theorem dX2_wipe_10 : decode cX2_wipe 10 = .ok (.if_icmp .ge 16, 3) := dk_162 0 16 (dk_at dksX2_wipe_0 10 rfl rfl)
theorem dX2_wipe_13 : decode cX2_wipe 13 = .ok (.aload_n 0, 1) := dk_42 (dk_at dksX2_wipe_0 13 rfl rfl)
theorem dX2_wipe_14 : decode cX2_wipe 14 = .ok (.getfield 42, 3) := dk_180 0 42 (dk_at dksX2_wipe_0 14 rfl rfl)
theorem dX2_wipe_17 : decode cX2_wipe 17 = .ok (.iload_n 2, 1) := dk_28 (dk_at dksX2_wipe_0 17 rfl rfl)
theorem dX2_wipe_18 : decode cX2_wipe 18 = .ok (.iconst 0, 1) := dk_3 (dk_at dksX2_wipe_0 18 rfl rfl)
theorem dX2_wipe_19 : decode cX2_wipe 19 = .ok (.iastore, 1) := dk_79 (dk_at dksX2_wipe_0 19 rfl rfl)
theorem dX2_wipe_20 : decode cX2_wipe 20 = .ok (.iinc 2 1, 3) := dk_132 2 1 (dk_at dksX2_wipe_0 20 rfl rfl)
theorem dX2_wipe_23 : decode cX2_wipe 23 = .ok (.goto (-16), 3) := dk_167 255 240 (dk_at dksX2_wipe_1 0 rfl rfl)
theorem dX2_wipe_26 : decode cX2_wipe 26 = .ok (.aload_n 0, 1) := dk_42 (dk_at dksX2_wipe_1 3 rfl rfl)
theorem dX2_wipe_27 : decode cX2_wipe 27 = .ok (.iload_n 1, 1) := dk_27 (dk_at dksX2_wipe_1 4 rfl rfl)
theorem dX2_wipe_28 : decode cX2_wipe 28 = .ok (.invokevirtual 153, 3) := dk_182 0 153 (dk_at dksX2_wipe_1 5 rfl rfl)
theorem dX2_wipe_31 : decode cX2_wipe 31 = .ok (.ireturn, 1) := dk_172 (dk_at dksX2_wipe_1 8 rfl rfl)
abbrev cX2_run : ByteArray := prog_32_method_75_code
def yX2_run : MethodName := ⟨RX2, "run", "()I"⟩
def dkwX2_run_8 : List UInt8 := [4, 96, 181, 0, 91, 42, 42, 180, 0, 94, 182, 0, 149, 172]
abbrev dktX2_run_8 : List UInt8 := dkwX2_run_8 ++ []
def dkwX2_run_7 : List UInt8 := [181, 0, 76, 42, 180, 0, 94, 154, 0, 12, 42, 42, 180, 0, 61, 182, 0, 153, 172, 42, 89, 180, 0, 91]
abbrev dktX2_run_7 : List UInt8 := dkwX2_run_7 ++ dktX2_run_8
def dkwX2_run_6 : List UInt8 := [181, 0, 64, 42, 27, 182, 1, 187, 60, 167, 255, 201, 42, 42, 180, 0, 73, 42, 180, 0, 70, 100]
abbrev dktX2_run_6 : List UInt8 := dkwX2_run_6 ++ dktX2_run_7
def dkwX2_run_5 : List UInt8 := [181, 0, 94, 167, 255, 230, 42, 89, 180, 0, 61, 4, 96, 181, 0, 61, 42, 42, 180, 0, 42, 27, 46]
abbrev dktX2_run_5 : List UInt8 := dkwX2_run_5 ++ dktX2_run_6
def dkwX2_run_4 : List UInt8 := [155, 0, 57, 42, 180, 0, 94, 154, 0, 50, 42, 180, 0, 61, 17, 1, 44, 160, 0, 11, 42, 5]
abbrev dktX2_run_4 : List UInt8 := dkwX2_run_4 ++ dktX2_run_5
def dkwX2_run_3 : List UInt8 := [181, 0, 79, 42, 3, 181, 0, 82, 42, 3, 181, 0, 94, 42, 182, 1, 184, 42, 3, 182, 1, 133, 60, 27]
abbrev dktX2_run_3 : List UInt8 := dkwX2_run_3 ++ dktX2_run_4
def dkwX2_run_2 : List UInt8 := [42, 3, 181, 0, 61, 42, 2, 181, 0, 64, 42, 3, 181, 0, 67, 42, 3, 181, 0, 70, 42, 3]
abbrev dktX2_run_2 : List UInt8 := dkwX2_run_2 ++ dktX2_run_3
def dkwX2_run_1 : List UInt8 := [6, 162, 0, 23, 42, 27, 3, 3, 182, 1, 177, 42, 180, 0, 125, 27, 2, 79, 132, 1, 1, 167, 255, 234]
abbrev dktX2_run_1 : List UInt8 := dkwX2_run_1 ++ dktX2_run_2
def dkwX2_run_0 : List UInt8 := [3, 60, 27, 16, 26, 162, 0, 16, 42, 180, 0, 101, 27, 14, 82, 132, 1, 1, 167, 255, 240, 3, 60, 27]
abbrev dktX2_run_0 : List UInt8 := dkwX2_run_0 ++ dktX2_run_1
theorem dksX2_run_0 : cX2_run.data.toList.drop 0 = dktX2_run_0 := by decide +kernel
theorem dksX2_run_1 : cX2_run.data.toList.drop 24 = dktX2_run_1 := dk_seg dksX2_run_0 24 rfl rfl
theorem dksX2_run_2 : cX2_run.data.toList.drop 48 = dktX2_run_2 := dk_seg dksX2_run_1 24 rfl rfl
theorem dksX2_run_3 : cX2_run.data.toList.drop 70 = dktX2_run_3 := dk_seg dksX2_run_2 22 rfl rfl
theorem dksX2_run_4 : cX2_run.data.toList.drop 94 = dktX2_run_4 := dk_seg dksX2_run_3 24 rfl rfl
theorem dksX2_run_5 : cX2_run.data.toList.drop 116 = dktX2_run_5 := dk_seg dksX2_run_4 22 rfl rfl
theorem dksX2_run_6 : cX2_run.data.toList.drop 139 = dktX2_run_6 := dk_seg dksX2_run_5 23 rfl rfl
theorem dksX2_run_7 : cX2_run.data.toList.drop 161 = dktX2_run_7 := dk_seg dksX2_run_6 22 rfl rfl
theorem dksX2_run_8 : cX2_run.data.toList.drop 185 = dktX2_run_8 := dk_seg dksX2_run_7 24 rfl rfl
theorem dX2_run_0 : decode cX2_run 0 = .ok (.iconst 0, 1) := dk_3 (dk_at dksX2_run_0 0 rfl rfl)
theorem dX2_run_1 : decode cX2_run 1 = .ok (.istore_n 1, 1) := dk_60 (dk_at dksX2_run_0 1 rfl rfl)
theorem dX2_run_2 : decode cX2_run 2 = .ok (.iload_n 1, 1) := dk_27 (dk_at dksX2_run_0 2 rfl rfl)
theorem dX2_run_3 : decode cX2_run 3 = .ok (.bipush 26, 2) := dk_16 26 (dk_at dksX2_run_0 3 rfl rfl)
theorem dX2_run_5 : decode cX2_run 5 = .ok (.if_icmp .ge 16, 3) := dk_162 0 16 (dk_at dksX2_run_0 5 rfl rfl)
theorem dX2_run_8 : decode cX2_run 8 = .ok (.aload_n 0, 1) := dk_42 (dk_at dksX2_run_0 8 rfl rfl)
theorem dX2_run_9 : decode cX2_run 9 = .ok (.getfield 101, 3) := dk_180 0 101 (dk_at dksX2_run_0 9 rfl rfl)
theorem dX2_run_12 : decode cX2_run 12 = .ok (.iload_n 1, 1) := dk_27 (dk_at dksX2_run_0 12 rfl rfl)
theorem dX2_run_13 : decode cX2_run 13 = .ok (.dconst 0, 1) := dk_14 (dk_at dksX2_run_0 13 rfl rfl)
theorem dX2_run_14 : decode cX2_run 14 = .ok (.dastore, 1) := dk_82 (dk_at dksX2_run_0 14 rfl rfl)
theorem dX2_run_15 : decode cX2_run 15 = .ok (.iinc 1 1, 3) := dk_132 1 1 (dk_at dksX2_run_0 15 rfl rfl)
theorem dX2_run_18 : decode cX2_run 18 = .ok (.goto (-16), 3) := dk_167 255 240 (dk_at dksX2_run_0 18 rfl rfl)
theorem dX2_run_21 : decode cX2_run 21 = .ok (.iconst 0, 1) := dk_3 (dk_at dksX2_run_0 21 rfl rfl)
theorem dX2_run_22 : decode cX2_run 22 = .ok (.istore_n 1, 1) := dk_60 (dk_at dksX2_run_0 22 rfl rfl)
theorem dX2_run_23 : decode cX2_run 23 = .ok (.iload_n 1, 1) := dk_27 (dk_at dksX2_run_0 23 rfl rfl)
theorem dX2_run_24 : decode cX2_run 24 = .ok (.iconst 3, 1) := dk_6 (dk_at dksX2_run_1 0 rfl rfl)
theorem dX2_run_25 : decode cX2_run 25 = .ok (.if_icmp .ge 23, 3) := dk_162 0 23 (dk_at dksX2_run_1 1 rfl rfl)
theorem dX2_run_28 : decode cX2_run 28 = .ok (.aload_n 0, 1) := dk_42 (dk_at dksX2_run_1 4 rfl rfl)
theorem dX2_run_29 : decode cX2_run 29 = .ok (.iload_n 1, 1) := dk_27 (dk_at dksX2_run_1 5 rfl rfl)
theorem dX2_run_30 : decode cX2_run 30 = .ok (.iconst 0, 1) := dk_3 (dk_at dksX2_run_1 6 rfl rfl)
theorem dX2_run_31 : decode cX2_run 31 = .ok (.iconst 0, 1) := dk_3 (dk_at dksX2_run_1 7 rfl rfl)
theorem dX2_run_32 : decode cX2_run 32 = .ok (.invokevirtual 433, 3) := dk_182 1 177 (dk_at dksX2_run_1 8 rfl rfl)
theorem dX2_run_35 : decode cX2_run 35 = .ok (.aload_n 0, 1) := dk_42 (dk_at dksX2_run_1 11 rfl rfl)
theorem dX2_run_36 : decode cX2_run 36 = .ok (.getfield 125, 3) := dk_180 0 125 (dk_at dksX2_run_1 12 rfl rfl)
theorem dX2_run_39 : decode cX2_run 39 = .ok (.iload_n 1, 1) := dk_27 (dk_at dksX2_run_1 15 rfl rfl)
theorem dX2_run_40 : decode cX2_run 40 = .ok (.iconst (-1), 1) := dk_2 (dk_at dksX2_run_1 16 rfl rfl)
theorem dX2_run_41 : decode cX2_run 41 = .ok (.iastore, 1) := dk_79 (dk_at dksX2_run_1 17 rfl rfl)
theorem dX2_run_42 : decode cX2_run 42 = .ok (.iinc 1 1, 3) := dk_132 1 1 (dk_at dksX2_run_1 18 rfl rfl)
theorem dX2_run_45 : decode cX2_run 45 = .ok (.goto (-22), 3) := dk_167 255 234 (dk_at dksX2_run_1 21 rfl rfl)
theorem dX2_run_48 : decode cX2_run 48 = .ok (.aload_n 0, 1) := dk_42 (dk_at dksX2_run_2 0 rfl rfl)
theorem dX2_run_49 : decode cX2_run 49 = .ok (.iconst 0, 1) := dk_3 (dk_at dksX2_run_2 1 rfl rfl)
theorem dX2_run_50 : decode cX2_run 50 = .ok (.putfield 61, 3) := dk_181 0 61 (dk_at dksX2_run_2 2 rfl rfl)
theorem dX2_run_53 : decode cX2_run 53 = .ok (.aload_n 0, 1) := dk_42 (dk_at dksX2_run_2 5 rfl rfl)
theorem dX2_run_54 : decode cX2_run 54 = .ok (.iconst (-1), 1) := dk_2 (dk_at dksX2_run_2 6 rfl rfl)
theorem dX2_run_55 : decode cX2_run 55 = .ok (.putfield 64, 3) := dk_181 0 64 (dk_at dksX2_run_2 7 rfl rfl)
theorem dX2_run_58 : decode cX2_run 58 = .ok (.aload_n 0, 1) := dk_42 (dk_at dksX2_run_2 10 rfl rfl)
theorem dX2_run_59 : decode cX2_run 59 = .ok (.iconst 0, 1) := dk_3 (dk_at dksX2_run_2 11 rfl rfl)
theorem dX2_run_60 : decode cX2_run 60 = .ok (.putfield 67, 3) := dk_181 0 67 (dk_at dksX2_run_2 12 rfl rfl)
theorem dX2_run_63 : decode cX2_run 63 = .ok (.aload_n 0, 1) := dk_42 (dk_at dksX2_run_2 15 rfl rfl)
theorem dX2_run_64 : decode cX2_run 64 = .ok (.iconst 0, 1) := dk_3 (dk_at dksX2_run_2 16 rfl rfl)
theorem dX2_run_65 : decode cX2_run 65 = .ok (.putfield 70, 3) := dk_181 0 70 (dk_at dksX2_run_2 17 rfl rfl)
theorem dX2_run_68 : decode cX2_run 68 = .ok (.aload_n 0, 1) := dk_42 (dk_at dksX2_run_2 20 rfl rfl)
theorem dX2_run_69 : decode cX2_run 69 = .ok (.iconst 0, 1) := dk_3 (dk_at dksX2_run_2 21 rfl rfl)
theorem dX2_run_70 : decode cX2_run 70 = .ok (.putfield 79, 3) := dk_181 0 79 (dk_at dksX2_run_3 0 rfl rfl)
theorem dX2_run_73 : decode cX2_run 73 = .ok (.aload_n 0, 1) := dk_42 (dk_at dksX2_run_3 3 rfl rfl)
theorem dX2_run_74 : decode cX2_run 74 = .ok (.iconst 0, 1) := dk_3 (dk_at dksX2_run_3 4 rfl rfl)
theorem dX2_run_75 : decode cX2_run 75 = .ok (.putfield 82, 3) := dk_181 0 82 (dk_at dksX2_run_3 5 rfl rfl)
theorem dX2_run_78 : decode cX2_run 78 = .ok (.aload_n 0, 1) := dk_42 (dk_at dksX2_run_3 8 rfl rfl)
theorem dX2_run_79 : decode cX2_run 79 = .ok (.iconst 0, 1) := dk_3 (dk_at dksX2_run_3 9 rfl rfl)
theorem dX2_run_80 : decode cX2_run 80 = .ok (.putfield 94, 3) := dk_181 0 94 (dk_at dksX2_run_3 10 rfl rfl)
theorem dX2_run_83 : decode cX2_run 83 = .ok (.aload_n 0, 1) := dk_42 (dk_at dksX2_run_3 13 rfl rfl)
theorem dX2_run_84 : decode cX2_run 84 = .ok (.invokevirtual 440, 3) := dk_182 1 184 (dk_at dksX2_run_3 14 rfl rfl)
theorem dX2_run_87 : decode cX2_run 87 = .ok (.aload_n 0, 1) := dk_42 (dk_at dksX2_run_3 17 rfl rfl)
theorem dX2_run_88 : decode cX2_run 88 = .ok (.iconst 0, 1) := dk_3 (dk_at dksX2_run_3 18 rfl rfl)
theorem dX2_run_89 : decode cX2_run 89 = .ok (.invokevirtual 389, 3) := dk_182 1 133 (dk_at dksX2_run_3 19 rfl rfl)
theorem dX2_run_92 : decode cX2_run 92 = .ok (.istore_n 1, 1) := dk_60 (dk_at dksX2_run_3 22 rfl rfl)
theorem dX2_run_93 : decode cX2_run 93 = .ok (.iload_n 1, 1) := dk_27 (dk_at dksX2_run_3 23 rfl rfl)
theorem dX2_run_94 : decode cX2_run 94 = .ok (.ifCond .lt 57, 3) := dk_155 0 57 (dk_at dksX2_run_4 0 rfl rfl)
theorem dX2_run_97 : decode cX2_run 97 = .ok (.aload_n 0, 1) := dk_42 (dk_at dksX2_run_4 3 rfl rfl)
theorem dX2_run_98 : decode cX2_run 98 = .ok (.getfield 94, 3) := dk_180 0 94 (dk_at dksX2_run_4 4 rfl rfl)
theorem dX2_run_101 : decode cX2_run 101 = .ok (.ifCond .ne 50, 3) := dk_154 0 50 (dk_at dksX2_run_4 7 rfl rfl)
theorem dX2_run_104 : decode cX2_run 104 = .ok (.aload_n 0, 1) := dk_42 (dk_at dksX2_run_4 10 rfl rfl)
theorem dX2_run_105 : decode cX2_run 105 = .ok (.getfield 61, 3) := dk_180 0 61 (dk_at dksX2_run_4 11 rfl rfl)
theorem dX2_run_108 : decode cX2_run 108 = .ok (.sipush 300, 3) := dk_17 1 44 (dk_at dksX2_run_4 14 rfl rfl)
theorem dX2_run_111 : decode cX2_run 111 = .ok (.if_icmp .ne 11, 3) := dk_160 0 11 (dk_at dksX2_run_4 17 rfl rfl)
theorem dX2_run_114 : decode cX2_run 114 = .ok (.aload_n 0, 1) := dk_42 (dk_at dksX2_run_4 20 rfl rfl)
theorem dX2_run_115 : decode cX2_run 115 = .ok (.iconst 2, 1) := dk_5 (dk_at dksX2_run_4 21 rfl rfl)
theorem dX2_run_116 : decode cX2_run 116 = .ok (.putfield 94, 3) := dk_181 0 94 (dk_at dksX2_run_5 0 rfl rfl)
theorem dX2_run_119 : decode cX2_run 119 = .ok (.goto (-26), 3) := dk_167 255 230 (dk_at dksX2_run_5 3 rfl rfl)
theorem dX2_run_122 : decode cX2_run 122 = .ok (.aload_n 0, 1) := dk_42 (dk_at dksX2_run_5 6 rfl rfl)
theorem dX2_run_123 : decode cX2_run 123 = .ok (.dup, 1) := dk_89 (dk_at dksX2_run_5 7 rfl rfl)
theorem dX2_run_124 : decode cX2_run 124 = .ok (.getfield 61, 3) := dk_180 0 61 (dk_at dksX2_run_5 8 rfl rfl)
theorem dX2_run_127 : decode cX2_run 127 = .ok (.iconst 1, 1) := dk_4 (dk_at dksX2_run_5 11 rfl rfl)
theorem dX2_run_128 : decode cX2_run 128 = .ok (.iadd, 1) := dk_96 (dk_at dksX2_run_5 12 rfl rfl)
theorem dX2_run_129 : decode cX2_run 129 = .ok (.putfield 61, 3) := dk_181 0 61 (dk_at dksX2_run_5 13 rfl rfl)
theorem dX2_run_132 : decode cX2_run 132 = .ok (.aload_n 0, 1) := dk_42 (dk_at dksX2_run_5 16 rfl rfl)
theorem dX2_run_133 : decode cX2_run 133 = .ok (.aload_n 0, 1) := dk_42 (dk_at dksX2_run_5 17 rfl rfl)
theorem dX2_run_134 : decode cX2_run 134 = .ok (.getfield 42, 3) := dk_180 0 42 (dk_at dksX2_run_5 18 rfl rfl)
theorem dX2_run_137 : decode cX2_run 137 = .ok (.iload_n 1, 1) := dk_27 (dk_at dksX2_run_5 21 rfl rfl)
theorem dX2_run_138 : decode cX2_run 138 = .ok (.iaload, 1) := dk_46 (dk_at dksX2_run_5 22 rfl rfl)
theorem dX2_run_139 : decode cX2_run 139 = .ok (.putfield 64, 3) := dk_181 0 64 (dk_at dksX2_run_6 0 rfl rfl)
theorem dX2_run_142 : decode cX2_run 142 = .ok (.aload_n 0, 1) := dk_42 (dk_at dksX2_run_6 3 rfl rfl)
theorem dX2_run_143 : decode cX2_run 143 = .ok (.iload_n 1, 1) := dk_27 (dk_at dksX2_run_6 4 rfl rfl)
theorem dX2_run_144 : decode cX2_run 144 = .ok (.invokevirtual 443, 3) := dk_182 1 187 (dk_at dksX2_run_6 5 rfl rfl)
theorem dX2_run_147 : decode cX2_run 147 = .ok (.istore_n 1, 1) := dk_60 (dk_at dksX2_run_6 8 rfl rfl)
theorem dX2_run_148 : decode cX2_run 148 = .ok (.goto (-55), 3) := dk_167 255 201 (dk_at dksX2_run_6 9 rfl rfl)
theorem dX2_run_151 : decode cX2_run 151 = .ok (.aload_n 0, 1) := dk_42 (dk_at dksX2_run_6 12 rfl rfl)
theorem dX2_run_152 : decode cX2_run 152 = .ok (.aload_n 0, 1) := dk_42 (dk_at dksX2_run_6 13 rfl rfl)
theorem dX2_run_153 : decode cX2_run 153 = .ok (.getfield 73, 3) := dk_180 0 73 (dk_at dksX2_run_6 14 rfl rfl)
theorem dX2_run_156 : decode cX2_run 156 = .ok (.aload_n 0, 1) := dk_42 (dk_at dksX2_run_6 17 rfl rfl)
theorem dX2_run_157 : decode cX2_run 157 = .ok (.getfield 70, 3) := dk_180 0 70 (dk_at dksX2_run_6 18 rfl rfl)
theorem dX2_run_160 : decode cX2_run 160 = .ok (.isub, 1) := dk_100 (dk_at dksX2_run_6 21 rfl rfl)
theorem dX2_run_161 : decode cX2_run 161 = .ok (.putfield 76, 3) := dk_181 0 76 (dk_at dksX2_run_7 0 rfl rfl)
theorem dX2_run_164 : decode cX2_run 164 = .ok (.aload_n 0, 1) := dk_42 (dk_at dksX2_run_7 3 rfl rfl)
theorem dX2_run_165 : decode cX2_run 165 = .ok (.getfield 94, 3) := dk_180 0 94 (dk_at dksX2_run_7 4 rfl rfl)
theorem dX2_run_168 : decode cX2_run 168 = .ok (.ifCond .ne 12, 3) := dk_154 0 12 (dk_at dksX2_run_7 7 rfl rfl)
theorem dX2_run_171 : decode cX2_run 171 = .ok (.aload_n 0, 1) := dk_42 (dk_at dksX2_run_7 10 rfl rfl)
theorem dX2_run_172 : decode cX2_run 172 = .ok (.aload_n 0, 1) := dk_42 (dk_at dksX2_run_7 11 rfl rfl)
theorem dX2_run_173 : decode cX2_run 173 = .ok (.getfield 61, 3) := dk_180 0 61 (dk_at dksX2_run_7 12 rfl rfl)
theorem dX2_run_176 : decode cX2_run 176 = .ok (.invokevirtual 153, 3) := dk_182 0 153 (dk_at dksX2_run_7 15 rfl rfl)
theorem dX2_run_179 : decode cX2_run 179 = .ok (.ireturn, 1) := dk_172 (dk_at dksX2_run_7 18 rfl rfl)
theorem dX2_run_180 : decode cX2_run 180 = .ok (.aload_n 0, 1) := dk_42 (dk_at dksX2_run_7 19 rfl rfl)
theorem dX2_run_181 : decode cX2_run 181 = .ok (.dup, 1) := dk_89 (dk_at dksX2_run_7 20 rfl rfl)
theorem dX2_run_182 : decode cX2_run 182 = .ok (.getfield 91, 3) := dk_180 0 91 (dk_at dksX2_run_7 21 rfl rfl)
theorem dX2_run_185 : decode cX2_run 185 = .ok (.iconst 1, 1) := dk_4 (dk_at dksX2_run_8 0 rfl rfl)
theorem dX2_run_186 : decode cX2_run 186 = .ok (.iadd, 1) := dk_96 (dk_at dksX2_run_8 1 rfl rfl)
theorem dX2_run_187 : decode cX2_run 187 = .ok (.putfield 91, 3) := dk_181 0 91 (dk_at dksX2_run_8 2 rfl rfl)
theorem dX2_run_190 : decode cX2_run 190 = .ok (.aload_n 0, 1) := dk_42 (dk_at dksX2_run_8 5 rfl rfl)
theorem dX2_run_191 : decode cX2_run 191 = .ok (.aload_n 0, 1) := dk_42 (dk_at dksX2_run_8 6 rfl rfl)
theorem dX2_run_192 : decode cX2_run 192 = .ok (.getfield 94, 3) := dk_180 0 94 (dk_at dksX2_run_8 7 rfl rfl)
theorem dX2_run_195 : decode cX2_run 195 = .ok (.invokevirtual 149, 3) := dk_182 0 149 (dk_at dksX2_run_8 10 rfl rfl)
theorem dX2_run_198 : decode cX2_run 198 = .ok (.ireturn, 1) := dk_172 (dk_at dksX2_run_8 13 rfl rfl)
abbrev cX2_dimension : ByteArray := prog_32_method_73_code
def yX2_dimension : MethodName := ⟨RX2, "dimension", "(III)V"⟩
def dkwX2_dimension_1 : List UInt8 := [16, 36, 104, 16, 36, 96, 162, 0, 17, 42, 180, 0, 119, 21, 4, 14, 82, 132, 4, 1, 167, 255, 233, 177]
abbrev dktX2_dimension_1 : List UInt8 := dkwX2_dimension_1 ++ []
def dkwX2_dimension_0 : List UInt8 := [42, 180, 0, 128, 27, 28, 79, 42, 180, 0, 131, 27, 29, 79, 27, 16, 36, 104, 54, 4, 21, 4, 27]
abbrev dktX2_dimension_0 : List UInt8 := dkwX2_dimension_0 ++ dktX2_dimension_1
theorem dksX2_dimension_0 : cX2_dimension.data.toList.drop 0 = dktX2_dimension_0 := by decide +kernel
theorem dksX2_dimension_1 : cX2_dimension.data.toList.drop 23 = dktX2_dimension_1 := dk_seg dksX2_dimension_0 23 rfl rfl
theorem dX2_dimension_0 : decode cX2_dimension 0 = .ok (.aload_n 0, 1) := dk_42 (dk_at dksX2_dimension_0 0 rfl rfl)
theorem dX2_dimension_1 : decode cX2_dimension 1 = .ok (.getfield 128, 3) := dk_180 0 128 (dk_at dksX2_dimension_0 1 rfl rfl)
theorem dX2_dimension_4 : decode cX2_dimension 4 = .ok (.iload_n 1, 1) := dk_27 (dk_at dksX2_dimension_0 4 rfl rfl)
theorem dX2_dimension_5 : decode cX2_dimension 5 = .ok (.iload_n 2, 1) := dk_28 (dk_at dksX2_dimension_0 5 rfl rfl)
theorem dX2_dimension_6 : decode cX2_dimension 6 = .ok (.iastore, 1) := dk_79 (dk_at dksX2_dimension_0 6 rfl rfl)
theorem dX2_dimension_7 : decode cX2_dimension 7 = .ok (.aload_n 0, 1) := dk_42 (dk_at dksX2_dimension_0 7 rfl rfl)
theorem dX2_dimension_8 : decode cX2_dimension 8 = .ok (.getfield 131, 3) := dk_180 0 131 (dk_at dksX2_dimension_0 8 rfl rfl)
theorem dX2_dimension_11 : decode cX2_dimension 11 = .ok (.iload_n 1, 1) := dk_27 (dk_at dksX2_dimension_0 11 rfl rfl)
theorem dX2_dimension_12 : decode cX2_dimension 12 = .ok (.iload_n 3, 1) := dk_29 (dk_at dksX2_dimension_0 12 rfl rfl)
theorem dX2_dimension_13 : decode cX2_dimension 13 = .ok (.iastore, 1) := dk_79 (dk_at dksX2_dimension_0 13 rfl rfl)
theorem dX2_dimension_14 : decode cX2_dimension 14 = .ok (.iload_n 1, 1) := dk_27 (dk_at dksX2_dimension_0 14 rfl rfl)
theorem dX2_dimension_15 : decode cX2_dimension 15 = .ok (.bipush 36, 2) := dk_16 36 (dk_at dksX2_dimension_0 15 rfl rfl)
theorem dX2_dimension_17 : decode cX2_dimension 17 = .ok (.imul, 1) := dk_104 (dk_at dksX2_dimension_0 17 rfl rfl)
theorem dX2_dimension_18 : decode cX2_dimension 18 = .ok (.istore 4, 2) := dk_54 4 (dk_at dksX2_dimension_0 18 rfl rfl)
theorem dX2_dimension_20 : decode cX2_dimension 20 = .ok (.iload 4, 2) := dk_21 4 (dk_at dksX2_dimension_0 20 rfl rfl)
theorem dX2_dimension_22 : decode cX2_dimension 22 = .ok (.iload_n 1, 1) := dk_27 (dk_at dksX2_dimension_0 22 rfl rfl)
theorem dX2_dimension_23 : decode cX2_dimension 23 = .ok (.bipush 36, 2) := dk_16 36 (dk_at dksX2_dimension_1 0 rfl rfl)
theorem dX2_dimension_25 : decode cX2_dimension 25 = .ok (.imul, 1) := dk_104 (dk_at dksX2_dimension_1 2 rfl rfl)
theorem dX2_dimension_26 : decode cX2_dimension 26 = .ok (.bipush 36, 2) := dk_16 36 (dk_at dksX2_dimension_1 3 rfl rfl)
theorem dX2_dimension_28 : decode cX2_dimension 28 = .ok (.iadd, 1) := dk_96 (dk_at dksX2_dimension_1 5 rfl rfl)
theorem dX2_dimension_29 : decode cX2_dimension 29 = .ok (.if_icmp .ge 17, 3) := dk_162 0 17 (dk_at dksX2_dimension_1 6 rfl rfl)
theorem dX2_dimension_32 : decode cX2_dimension 32 = .ok (.aload_n 0, 1) := dk_42 (dk_at dksX2_dimension_1 9 rfl rfl)
theorem dX2_dimension_33 : decode cX2_dimension 33 = .ok (.getfield 119, 3) := dk_180 0 119 (dk_at dksX2_dimension_1 10 rfl rfl)
theorem dX2_dimension_36 : decode cX2_dimension 36 = .ok (.iload 4, 2) := dk_21 4 (dk_at dksX2_dimension_1 13 rfl rfl)
theorem dX2_dimension_38 : decode cX2_dimension 38 = .ok (.dconst 0, 1) := dk_14 (dk_at dksX2_dimension_1 15 rfl rfl)
theorem dX2_dimension_39 : decode cX2_dimension 39 = .ok (.dastore, 1) := dk_82 (dk_at dksX2_dimension_1 16 rfl rfl)
theorem dX2_dimension_40 : decode cX2_dimension 40 = .ok (.iinc 4 1, 3) := dk_132 4 1 (dk_at dksX2_dimension_1 17 rfl rfl)
theorem dX2_dimension_43 : decode cX2_dimension 43 = .ok (.goto (-23), 3) := dk_167 255 233 (dk_at dksX2_dimension_1 20 rfl rfl)
theorem dX2_dimension_46 : decode cX2_dimension 46 = .ok (.return_, 1) := dk_177 (dk_at dksX2_dimension_1 23 rfl rfl)
abbrev cX2_collect : ByteArray := prog_32_method_61_code
def yX2_collect : MethodName := ⟨RX2, "collect", "()V"⟩
def dkwX2_collect_5 : List UInt8 := [27, 46, 182, 1, 133, 60, 167, 255, 147, 177]
abbrev dktX2_collect_5 : List UInt8 := dkwX2_collect_5 ++ []
def dkwX2_collect_4 : List UInt8 := [24, 4, 82, 42, 89, 180, 0, 73, 4, 96, 181, 0, 73, 132, 2, 1, 167, 255, 181, 42, 42, 180, 0, 42]
abbrev dktX2_collect_4 : List UInt8 := dkwX2_collect_4 ++ dktX2_collect_5
def dkwX2_collect_3 : List UInt8 := [180, 0, 107, 42, 180, 0, 73, 42, 180, 0, 55, 29, 46, 4, 160, 0, 9, 24, 4, 119, 167, 0, 5]
abbrev dktX2_collect_3 : List UInt8 := dkwX2_collect_3 ++ dktX2_collect_4
def dkwX2_collect_2 : List UInt8 := [180, 0, 52, 27, 7, 104, 46, 7, 28, 104, 96, 62, 42, 29, 5, 96, 182, 1, 108, 57, 4, 42]
abbrev dktX2_collect_2 : List UInt8 := dkwX2_collect_2 ++ dktX2_collect_3
def dkwX2_collect_1 : List UInt8 := [159, 0, 6, 167, 0, 83, 3, 61, 28, 42, 180, 0, 49, 27, 16, 8, 104, 46, 162, 0, 68, 42]
abbrev dktX2_collect_1 : List UInt8 := dkwX2_collect_1 ++ dktX2_collect_2
def dkwX2_collect_0 : List UInt8 := [42, 3, 181, 0, 73, 42, 3, 182, 1, 133, 60, 27, 155, 0, 111, 42, 180, 0, 46, 27, 46, 16, 10]
abbrev dktX2_collect_0 : List UInt8 := dkwX2_collect_0 ++ dktX2_collect_1
theorem dksX2_collect_0 : cX2_collect.data.toList.drop 0 = dktX2_collect_0 := by decide +kernel
theorem dksX2_collect_1 : cX2_collect.data.toList.drop 23 = dktX2_collect_1 := dk_seg dksX2_collect_0 23 rfl rfl
theorem dksX2_collect_2 : cX2_collect.data.toList.drop 45 = dktX2_collect_2 := dk_seg dksX2_collect_1 22 rfl rfl
theorem dksX2_collect_3 : cX2_collect.data.toList.drop 67 = dktX2_collect_3 := dk_seg dksX2_collect_2 22 rfl rfl
theorem dksX2_collect_4 : cX2_collect.data.toList.drop 90 = dktX2_collect_4 := dk_seg dksX2_collect_3 23 rfl rfl
theorem dksX2_collect_5 : cX2_collect.data.toList.drop 114 = dktX2_collect_5 := dk_seg dksX2_collect_4 24 rfl rfl
theorem dX2_collect_0 : decode cX2_collect 0 = .ok (.aload_n 0, 1) := dk_42 (dk_at dksX2_collect_0 0 rfl rfl)
theorem dX2_collect_1 : decode cX2_collect 1 = .ok (.iconst 0, 1) := dk_3 (dk_at dksX2_collect_0 1 rfl rfl)
theorem dX2_collect_2 : decode cX2_collect 2 = .ok (.putfield 73, 3) := dk_181 0 73 (dk_at dksX2_collect_0 2 rfl rfl)
theorem dX2_collect_5 : decode cX2_collect 5 = .ok (.aload_n 0, 1) := dk_42 (dk_at dksX2_collect_0 5 rfl rfl)
theorem dX2_collect_6 : decode cX2_collect 6 = .ok (.iconst 0, 1) := dk_3 (dk_at dksX2_collect_0 6 rfl rfl)
theorem dX2_collect_7 : decode cX2_collect 7 = .ok (.invokevirtual 389, 3) := dk_182 1 133 (dk_at dksX2_collect_0 7 rfl rfl)
theorem dX2_collect_10 : decode cX2_collect 10 = .ok (.istore_n 1, 1) := dk_60 (dk_at dksX2_collect_0 10 rfl rfl)
theorem dX2_collect_11 : decode cX2_collect 11 = .ok (.iload_n 1, 1) := dk_27 (dk_at dksX2_collect_0 11 rfl rfl)
theorem dX2_collect_12 : decode cX2_collect 12 = .ok (.ifCond .lt 111, 3) := dk_155 0 111 (dk_at dksX2_collect_0 12 rfl rfl)
theorem dX2_collect_15 : decode cX2_collect 15 = .ok (.aload_n 0, 1) := dk_42 (dk_at dksX2_collect_0 15 rfl rfl)
theorem dX2_collect_16 : decode cX2_collect 16 = .ok (.getfield 46, 3) := dk_180 0 46 (dk_at dksX2_collect_0 16 rfl rfl)
theorem dX2_collect_19 : decode cX2_collect 19 = .ok (.iload_n 1, 1) := dk_27 (dk_at dksX2_collect_0 19 rfl rfl)
theorem dX2_collect_20 : decode cX2_collect 20 = .ok (.iaload, 1) := dk_46 (dk_at dksX2_collect_0 20 rfl rfl)
theorem dX2_collect_21 : decode cX2_collect 21 = .ok (.bipush 10, 2) := dk_16 10 (dk_at dksX2_collect_0 21 rfl rfl)
theorem dX2_collect_23 : decode cX2_collect 23 = .ok (.if_icmp .eq 6, 3) := dk_159 0 6 (dk_at dksX2_collect_1 0 rfl rfl)
theorem dX2_collect_26 : decode cX2_collect 26 = .ok (.goto 83, 3) := dk_167 0 83 (dk_at dksX2_collect_1 3 rfl rfl)
theorem dX2_collect_29 : decode cX2_collect 29 = .ok (.iconst 0, 1) := dk_3 (dk_at dksX2_collect_1 6 rfl rfl)
theorem dX2_collect_30 : decode cX2_collect 30 = .ok (.istore_n 2, 1) := dk_61 (dk_at dksX2_collect_1 7 rfl rfl)
theorem dX2_collect_31 : decode cX2_collect 31 = .ok (.iload_n 2, 1) := dk_28 (dk_at dksX2_collect_1 8 rfl rfl)
theorem dX2_collect_32 : decode cX2_collect 32 = .ok (.aload_n 0, 1) := dk_42 (dk_at dksX2_collect_1 9 rfl rfl)
theorem dX2_collect_33 : decode cX2_collect 33 = .ok (.getfield 49, 3) := dk_180 0 49 (dk_at dksX2_collect_1 10 rfl rfl)
theorem dX2_collect_36 : decode cX2_collect 36 = .ok (.iload_n 1, 1) := dk_27 (dk_at dksX2_collect_1 13 rfl rfl)
theorem dX2_collect_37 : decode cX2_collect 37 = .ok (.bipush 8, 2) := dk_16 8 (dk_at dksX2_collect_1 14 rfl rfl)
theorem dX2_collect_39 : decode cX2_collect 39 = .ok (.imul, 1) := dk_104 (dk_at dksX2_collect_1 16 rfl rfl)
theorem dX2_collect_40 : decode cX2_collect 40 = .ok (.iaload, 1) := dk_46 (dk_at dksX2_collect_1 17 rfl rfl)
theorem dX2_collect_41 : decode cX2_collect 41 = .ok (.if_icmp .ge 68, 3) := dk_162 0 68 (dk_at dksX2_collect_1 18 rfl rfl)
theorem dX2_collect_44 : decode cX2_collect 44 = .ok (.aload_n 0, 1) := dk_42 (dk_at dksX2_collect_1 21 rfl rfl)
theorem dX2_collect_45 : decode cX2_collect 45 = .ok (.getfield 52, 3) := dk_180 0 52 (dk_at dksX2_collect_2 0 rfl rfl)
theorem dX2_collect_48 : decode cX2_collect 48 = .ok (.iload_n 1, 1) := dk_27 (dk_at dksX2_collect_2 3 rfl rfl)
theorem dX2_collect_49 : decode cX2_collect 49 = .ok (.iconst 4, 1) := dk_7 (dk_at dksX2_collect_2 4 rfl rfl)
theorem dX2_collect_50 : decode cX2_collect 50 = .ok (.imul, 1) := dk_104 (dk_at dksX2_collect_2 5 rfl rfl)
theorem dX2_collect_51 : decode cX2_collect 51 = .ok (.iaload, 1) := dk_46 (dk_at dksX2_collect_2 6 rfl rfl)
theorem dX2_collect_52 : decode cX2_collect 52 = .ok (.iconst 4, 1) := dk_7 (dk_at dksX2_collect_2 7 rfl rfl)
theorem dX2_collect_53 : decode cX2_collect 53 = .ok (.iload_n 2, 1) := dk_28 (dk_at dksX2_collect_2 8 rfl rfl)
theorem dX2_collect_54 : decode cX2_collect 54 = .ok (.imul, 1) := dk_104 (dk_at dksX2_collect_2 9 rfl rfl)
theorem dX2_collect_55 : decode cX2_collect 55 = .ok (.iadd, 1) := dk_96 (dk_at dksX2_collect_2 10 rfl rfl)
theorem dX2_collect_56 : decode cX2_collect 56 = .ok (.istore_n 3, 1) := dk_62 (dk_at dksX2_collect_2 11 rfl rfl)
theorem dX2_collect_57 : decode cX2_collect 57 = .ok (.aload_n 0, 1) := dk_42 (dk_at dksX2_collect_2 12 rfl rfl)
theorem dX2_collect_58 : decode cX2_collect 58 = .ok (.iload_n 3, 1) := dk_29 (dk_at dksX2_collect_2 13 rfl rfl)
theorem dX2_collect_59 : decode cX2_collect 59 = .ok (.iconst 2, 1) := dk_5 (dk_at dksX2_collect_2 14 rfl rfl)
theorem dX2_collect_60 : decode cX2_collect 60 = .ok (.iadd, 1) := dk_96 (dk_at dksX2_collect_2 15 rfl rfl)
theorem dX2_collect_61 : decode cX2_collect 61 = .ok (.invokevirtual 364, 3) := dk_182 1 108 (dk_at dksX2_collect_2 16 rfl rfl)
theorem dX2_collect_64 : decode cX2_collect 64 = .ok (.dstore 4, 2) := dk_57 4 (dk_at dksX2_collect_2 19 rfl rfl)
theorem dX2_collect_66 : decode cX2_collect 66 = .ok (.aload_n 0, 1) := dk_42 (dk_at dksX2_collect_2 21 rfl rfl)
theorem dX2_collect_67 : decode cX2_collect 67 = .ok (.getfield 107, 3) := dk_180 0 107 (dk_at dksX2_collect_3 0 rfl rfl)
theorem dX2_collect_70 : decode cX2_collect 70 = .ok (.aload_n 0, 1) := dk_42 (dk_at dksX2_collect_3 3 rfl rfl)
theorem dX2_collect_71 : decode cX2_collect 71 = .ok (.getfield 73, 3) := dk_180 0 73 (dk_at dksX2_collect_3 4 rfl rfl)
theorem dX2_collect_74 : decode cX2_collect 74 = .ok (.aload_n 0, 1) := dk_42 (dk_at dksX2_collect_3 7 rfl rfl)
theorem dX2_collect_75 : decode cX2_collect 75 = .ok (.getfield 55, 3) := dk_180 0 55 (dk_at dksX2_collect_3 8 rfl rfl)
theorem dX2_collect_78 : decode cX2_collect 78 = .ok (.iload_n 3, 1) := dk_29 (dk_at dksX2_collect_3 11 rfl rfl)
theorem dX2_collect_79 : decode cX2_collect 79 = .ok (.iaload, 1) := dk_46 (dk_at dksX2_collect_3 12 rfl rfl)
theorem dX2_collect_80 : decode cX2_collect 80 = .ok (.iconst 1, 1) := dk_4 (dk_at dksX2_collect_3 13 rfl rfl)
theorem dX2_collect_81 : decode cX2_collect 81 = .ok (.if_icmp .ne 9, 3) := dk_160 0 9 (dk_at dksX2_collect_3 14 rfl rfl)
theorem dX2_collect_84 : decode cX2_collect 84 = .ok (.dload 4, 2) := dk_24 4 (dk_at dksX2_collect_3 17 rfl rfl)
theorem dX2_collect_86 : decode cX2_collect 86 = .ok (.dneg, 1) := dk_119 (dk_at dksX2_collect_3 19 rfl rfl)
theorem dX2_collect_87 : decode cX2_collect 87 = .ok (.goto 5, 3) := dk_167 0 5 (dk_at dksX2_collect_3 20 rfl rfl)
theorem dX2_collect_90 : decode cX2_collect 90 = .ok (.dload 4, 2) := dk_24 4 (dk_at dksX2_collect_4 0 rfl rfl)
theorem dX2_collect_92 : decode cX2_collect 92 = .ok (.dastore, 1) := dk_82 (dk_at dksX2_collect_4 2 rfl rfl)
theorem dX2_collect_93 : decode cX2_collect 93 = .ok (.aload_n 0, 1) := dk_42 (dk_at dksX2_collect_4 3 rfl rfl)
theorem dX2_collect_94 : decode cX2_collect 94 = .ok (.dup, 1) := dk_89 (dk_at dksX2_collect_4 4 rfl rfl)
theorem dX2_collect_95 : decode cX2_collect 95 = .ok (.getfield 73, 3) := dk_180 0 73 (dk_at dksX2_collect_4 5 rfl rfl)
theorem dX2_collect_98 : decode cX2_collect 98 = .ok (.iconst 1, 1) := dk_4 (dk_at dksX2_collect_4 8 rfl rfl)
theorem dX2_collect_99 : decode cX2_collect 99 = .ok (.iadd, 1) := dk_96 (dk_at dksX2_collect_4 9 rfl rfl)
theorem dX2_collect_100 : decode cX2_collect 100 = .ok (.putfield 73, 3) := dk_181 0 73 (dk_at dksX2_collect_4 10 rfl rfl)
theorem dX2_collect_103 : decode cX2_collect 103 = .ok (.iinc 2 1, 3) := dk_132 2 1 (dk_at dksX2_collect_4 13 rfl rfl)
theorem dX2_collect_106 : decode cX2_collect 106 = .ok (.goto (-75), 3) := dk_167 255 181 (dk_at dksX2_collect_4 16 rfl rfl)
theorem dX2_collect_109 : decode cX2_collect 109 = .ok (.aload_n 0, 1) := dk_42 (dk_at dksX2_collect_4 19 rfl rfl)
theorem dX2_collect_110 : decode cX2_collect 110 = .ok (.aload_n 0, 1) := dk_42 (dk_at dksX2_collect_4 20 rfl rfl)
theorem dX2_collect_111 : decode cX2_collect 111 = .ok (.getfield 42, 3) := dk_180 0 42 (dk_at dksX2_collect_4 21 rfl rfl)
theorem dX2_collect_114 : decode cX2_collect 114 = .ok (.iload_n 1, 1) := dk_27 (dk_at dksX2_collect_5 0 rfl rfl)
theorem dX2_collect_115 : decode cX2_collect 115 = .ok (.iaload, 1) := dk_46 (dk_at dksX2_collect_5 1 rfl rfl)
theorem dX2_collect_116 : decode cX2_collect 116 = .ok (.invokevirtual 389, 3) := dk_182 1 133 (dk_at dksX2_collect_5 2 rfl rfl)
theorem dX2_collect_119 : decode cX2_collect 119 = .ok (.istore_n 1, 1) := dk_60 (dk_at dksX2_collect_5 5 rfl rfl)
theorem dX2_collect_120 : decode cX2_collect 120 = .ok (.goto (-109), 3) := dk_167 255 147 (dk_at dksX2_collect_5 6 rfl rfl)
theorem dX2_collect_123 : decode cX2_collect 123 = .ok (.return_, 1) := dk_177 (dk_at dksX2_collect_5 9 rfl rfl)
abbrev cX2_nextSlot : ByteArray := prog_32_method_59_code
def yX2_nextSlot : MethodName := ⟨RX2, "nextSlot", "(I)I"⟩
def dkwX2_nextSlot_2 : List UInt8 := [172]
abbrev dktX2_nextSlot_2 : List UInt8 := dkwX2_nextSlot_2 ++ []
def dkwX2_nextSlot_1 : List UInt8 := [42, 180, 0, 42, 29, 46, 42, 180, 0, 42, 28, 46, 162, 0, 5, 29, 61, 132, 3, 1, 167, 255, 216, 28]
abbrev dktX2_nextSlot_1 : List UInt8 := dkwX2_nextSlot_1 ++ dktX2_nextSlot_2
def dkwX2_nextSlot_0 : List UInt8 := [2, 61, 3, 62, 29, 16, 24, 162, 0, 40, 42, 180, 0, 42, 29, 46, 27, 164, 0, 24, 28, 155, 0, 18]
abbrev dktX2_nextSlot_0 : List UInt8 := dkwX2_nextSlot_0 ++ dktX2_nextSlot_1
theorem dksX2_nextSlot_0 : cX2_nextSlot.data.toList.drop 0 = dktX2_nextSlot_0 := by decide +kernel
theorem dksX2_nextSlot_1 : cX2_nextSlot.data.toList.drop 24 = dktX2_nextSlot_1 := dk_seg dksX2_nextSlot_0 24 rfl rfl
theorem dksX2_nextSlot_2 : cX2_nextSlot.data.toList.drop 48 = dktX2_nextSlot_2 := dk_seg dksX2_nextSlot_1 24 rfl rfl
theorem dX2_nextSlot_0 : decode cX2_nextSlot 0 = .ok (.iconst (-1), 1) := dk_2 (dk_at dksX2_nextSlot_0 0 rfl rfl)
theorem dX2_nextSlot_1 : decode cX2_nextSlot 1 = .ok (.istore_n 2, 1) := dk_61 (dk_at dksX2_nextSlot_0 1 rfl rfl)
theorem dX2_nextSlot_2 : decode cX2_nextSlot 2 = .ok (.iconst 0, 1) := dk_3 (dk_at dksX2_nextSlot_0 2 rfl rfl)
theorem dX2_nextSlot_3 : decode cX2_nextSlot 3 = .ok (.istore_n 3, 1) := dk_62 (dk_at dksX2_nextSlot_0 3 rfl rfl)
theorem dX2_nextSlot_4 : decode cX2_nextSlot 4 = .ok (.iload_n 3, 1) := dk_29 (dk_at dksX2_nextSlot_0 4 rfl rfl)
theorem dX2_nextSlot_5 : decode cX2_nextSlot 5 = .ok (.bipush 24, 2) := dk_16 24 (dk_at dksX2_nextSlot_0 5 rfl rfl)
theorem dX2_nextSlot_7 : decode cX2_nextSlot 7 = .ok (.if_icmp .ge 40, 3) := dk_162 0 40 (dk_at dksX2_nextSlot_0 7 rfl rfl)
theorem dX2_nextSlot_10 : decode cX2_nextSlot 10 = .ok (.aload_n 0, 1) := dk_42 (dk_at dksX2_nextSlot_0 10 rfl rfl)
theorem dX2_nextSlot_11 : decode cX2_nextSlot 11 = .ok (.getfield 42, 3) := dk_180 0 42 (dk_at dksX2_nextSlot_0 11 rfl rfl)
theorem dX2_nextSlot_14 : decode cX2_nextSlot 14 = .ok (.iload_n 3, 1) := dk_29 (dk_at dksX2_nextSlot_0 14 rfl rfl)
theorem dX2_nextSlot_15 : decode cX2_nextSlot 15 = .ok (.iaload, 1) := dk_46 (dk_at dksX2_nextSlot_0 15 rfl rfl)
theorem dX2_nextSlot_16 : decode cX2_nextSlot 16 = .ok (.iload_n 1, 1) := dk_27 (dk_at dksX2_nextSlot_0 16 rfl rfl)
theorem dX2_nextSlot_17 : decode cX2_nextSlot 17 = .ok (.if_icmp .le 24, 3) := dk_164 0 24 (dk_at dksX2_nextSlot_0 17 rfl rfl)
theorem dX2_nextSlot_20 : decode cX2_nextSlot 20 = .ok (.iload_n 2, 1) := dk_28 (dk_at dksX2_nextSlot_0 20 rfl rfl)
theorem dX2_nextSlot_21 : decode cX2_nextSlot 21 = .ok (.ifCond .lt 18, 3) := dk_155 0 18 (dk_at dksX2_nextSlot_0 21 rfl rfl)
theorem dX2_nextSlot_24 : decode cX2_nextSlot 24 = .ok (.aload_n 0, 1) := dk_42 (dk_at dksX2_nextSlot_1 0 rfl rfl)
theorem dX2_nextSlot_25 : decode cX2_nextSlot 25 = .ok (.getfield 42, 3) := dk_180 0 42 (dk_at dksX2_nextSlot_1 1 rfl rfl)
theorem dX2_nextSlot_28 : decode cX2_nextSlot 28 = .ok (.iload_n 3, 1) := dk_29 (dk_at dksX2_nextSlot_1 4 rfl rfl)
theorem dX2_nextSlot_29 : decode cX2_nextSlot 29 = .ok (.iaload, 1) := dk_46 (dk_at dksX2_nextSlot_1 5 rfl rfl)
theorem dX2_nextSlot_30 : decode cX2_nextSlot 30 = .ok (.aload_n 0, 1) := dk_42 (dk_at dksX2_nextSlot_1 6 rfl rfl)
theorem dX2_nextSlot_31 : decode cX2_nextSlot 31 = .ok (.getfield 42, 3) := dk_180 0 42 (dk_at dksX2_nextSlot_1 7 rfl rfl)
theorem dX2_nextSlot_34 : decode cX2_nextSlot 34 = .ok (.iload_n 2, 1) := dk_28 (dk_at dksX2_nextSlot_1 10 rfl rfl)
theorem dX2_nextSlot_35 : decode cX2_nextSlot 35 = .ok (.iaload, 1) := dk_46 (dk_at dksX2_nextSlot_1 11 rfl rfl)
theorem dX2_nextSlot_36 : decode cX2_nextSlot 36 = .ok (.if_icmp .ge 5, 3) := dk_162 0 5 (dk_at dksX2_nextSlot_1 12 rfl rfl)
theorem dX2_nextSlot_39 : decode cX2_nextSlot 39 = .ok (.iload_n 3, 1) := dk_29 (dk_at dksX2_nextSlot_1 15 rfl rfl)
theorem dX2_nextSlot_40 : decode cX2_nextSlot 40 = .ok (.istore_n 2, 1) := dk_61 (dk_at dksX2_nextSlot_1 16 rfl rfl)
theorem dX2_nextSlot_41 : decode cX2_nextSlot 41 = .ok (.iinc 3 1, 3) := dk_132 3 1 (dk_at dksX2_nextSlot_1 17 rfl rfl)
theorem dX2_nextSlot_44 : decode cX2_nextSlot 44 = .ok (.goto (-40), 3) := dk_167 255 216 (dk_at dksX2_nextSlot_1 20 rfl rfl)
theorem dX2_nextSlot_47 : decode cX2_nextSlot 47 = .ok (.iload_n 2, 1) := dk_28 (dk_at dksX2_nextSlot_1 23 rfl rfl)
theorem dX2_nextSlot_48 : decode cX2_nextSlot 48 = .ok (.ireturn, 1) := dk_172 (dk_at dksX2_nextSlot_2 0 rfl rfl)
abbrev cX2_plain : ByteArray := prog_32_method_53_code
def yX2_plain : MethodName := ⟨RX2, "plain", "(I)D"⟩
def dkwX2_plain_1 : List UInt8 := [132, 4, 1, 167, 255, 234, 42, 180, 0, 55, 27, 46, 135, 40, 111, 175]
abbrev dktX2_plain_1 : List UInt8 := dkwX2_plain_1 ++ []
def dkwX2_plain_0 : List UInt8 := [15, 73, 3, 54, 4, 21, 4, 42, 180, 0, 55, 27, 4, 96, 46, 162, 0, 15, 40, 20, 1, 106, 107, 73]
abbrev dktX2_plain_0 : List UInt8 := dkwX2_plain_0 ++ dktX2_plain_1
theorem dksX2_plain_0 : cX2_plain.data.toList.drop 0 = dktX2_plain_0 := by decide +kernel
theorem dksX2_plain_1 : cX2_plain.data.toList.drop 24 = dktX2_plain_1 := dk_seg dksX2_plain_0 24 rfl rfl
theorem dX2_plain_0 : decode cX2_plain 0 = .ok (.dconst 1, 1) := dk_15 (dk_at dksX2_plain_0 0 rfl rfl)
theorem dX2_plain_1 : decode cX2_plain 1 = .ok (.dstore_n 2, 1) := dk_73 (dk_at dksX2_plain_0 1 rfl rfl)
theorem dX2_plain_2 : decode cX2_plain 2 = .ok (.iconst 0, 1) := dk_3 (dk_at dksX2_plain_0 2 rfl rfl)
theorem dX2_plain_3 : decode cX2_plain 3 = .ok (.istore 4, 2) := dk_54 4 (dk_at dksX2_plain_0 3 rfl rfl)
theorem dX2_plain_5 : decode cX2_plain 5 = .ok (.iload 4, 2) := dk_21 4 (dk_at dksX2_plain_0 5 rfl rfl)
theorem dX2_plain_7 : decode cX2_plain 7 = .ok (.aload_n 0, 1) := dk_42 (dk_at dksX2_plain_0 7 rfl rfl)
theorem dX2_plain_8 : decode cX2_plain 8 = .ok (.getfield 55, 3) := dk_180 0 55 (dk_at dksX2_plain_0 8 rfl rfl)
theorem dX2_plain_11 : decode cX2_plain 11 = .ok (.iload_n 1, 1) := dk_27 (dk_at dksX2_plain_0 11 rfl rfl)
theorem dX2_plain_12 : decode cX2_plain 12 = .ok (.iconst 1, 1) := dk_4 (dk_at dksX2_plain_0 12 rfl rfl)
theorem dX2_plain_13 : decode cX2_plain 13 = .ok (.iadd, 1) := dk_96 (dk_at dksX2_plain_0 13 rfl rfl)
theorem dX2_plain_14 : decode cX2_plain 14 = .ok (.iaload, 1) := dk_46 (dk_at dksX2_plain_0 14 rfl rfl)
theorem dX2_plain_15 : decode cX2_plain 15 = .ok (.if_icmp .ge 15, 3) := dk_162 0 15 (dk_at dksX2_plain_0 15 rfl rfl)
theorem dX2_plain_18 : decode cX2_plain 18 = .ok (.dload_n 2, 1) := dk_40 (dk_at dksX2_plain_0 18 rfl rfl)
theorem dX2_plain_19 : decode cX2_plain 19 = .ok (.ldc2_w 362, 3) := dk_20 1 106 (dk_at dksX2_plain_0 19 rfl rfl)
theorem dX2_plain_22 : decode cX2_plain 22 = .ok (.dmul, 1) := dk_107 (dk_at dksX2_plain_0 22 rfl rfl)
theorem dX2_plain_23 : decode cX2_plain 23 = .ok (.dstore_n 2, 1) := dk_73 (dk_at dksX2_plain_0 23 rfl rfl)
theorem dX2_plain_24 : decode cX2_plain 24 = .ok (.iinc 4 1, 3) := dk_132 4 1 (dk_at dksX2_plain_1 0 rfl rfl)
theorem dX2_plain_27 : decode cX2_plain 27 = .ok (.goto (-22), 3) := dk_167 255 234 (dk_at dksX2_plain_1 3 rfl rfl)
theorem dX2_plain_30 : decode cX2_plain 30 = .ok (.aload_n 0, 1) := dk_42 (dk_at dksX2_plain_1 6 rfl rfl)
theorem dX2_plain_31 : decode cX2_plain 31 = .ok (.getfield 55, 3) := dk_180 0 55 (dk_at dksX2_plain_1 7 rfl rfl)
theorem dX2_plain_34 : decode cX2_plain 34 = .ok (.iload_n 1, 1) := dk_27 (dk_at dksX2_plain_1 10 rfl rfl)
theorem dX2_plain_35 : decode cX2_plain 35 = .ok (.iaload, 1) := dk_46 (dk_at dksX2_plain_1 11 rfl rfl)
theorem dX2_plain_36 : decode cX2_plain 36 = .ok (.i2d, 1) := dk_135 (dk_at dksX2_plain_1 12 rfl rfl)
theorem dX2_plain_37 : decode cX2_plain 37 = .ok (.dload_n 2, 1) := dk_40 (dk_at dksX2_plain_1 13 rfl rfl)
theorem dX2_plain_38 : decode cX2_plain 38 = .ok (.ddiv, 1) := dk_111 (dk_at dksX2_plain_1 14 rfl rfl)
theorem dX2_plain_39 : decode cX2_plain 39 = .ok (.dreturn, 1) := dk_175 (dk_at dksX2_plain_1 15 rfl rfl)
abbrev cX2_step : ByteArray := prog_32_method_74_code
def yX2_step : MethodName := ⟨RX2, "step", "(I)I"⟩
def dkwX2_step_16 : List UInt8 := [28, 16, 16, 160, 0, 7, 2, 167, 0, 5, 21, 4, 172]
abbrev dktX2_step_16 : List UInt8 := dkwX2_step_16 ++ []
def dkwX2_step_15 : List UInt8 := [28, 16, 13, 160, 0, 10, 42, 180, 0, 125, 29, 27, 79, 28, 16, 14, 160, 0, 8, 42, 27, 182, 1, 181]
abbrev dktX2_step_15 : List UInt8 := dkwX2_step_15 ++ dktX2_step_16
def dkwX2_step_14 : List UInt8 := [180, 0, 49, 27, 16, 8, 104, 4, 96, 46, 42, 180, 0, 49, 27, 16, 8, 104, 5, 96, 46, 182, 1, 177]
abbrev dktX2_step_14 : List UInt8 := dkwX2_step_14 ++ dktX2_step_15
def dkwX2_step_13 : List UInt8 := [182, 1, 174, 172, 28, 16, 11, 160, 0, 8, 42, 3, 181, 0, 70, 28, 16, 12, 160, 0, 30, 42, 29, 42]
abbrev dktX2_step_13 : List UInt8 := dkwX2_step_13 ++ dktX2_step_14
def dkwX2_step_12 : List UInt8 := [16, 7, 160, 0, 11, 42, 27, 21, 4, 182, 1, 171, 172, 28, 16, 8, 160, 0, 11, 42, 27, 21, 4]
abbrev dktX2_step_12 : List UInt8 := dkwX2_step_12 ++ dktX2_step_13
def dkwX2_step_11 : List UInt8 := [160, 0, 23, 42, 89, 180, 0, 79, 4, 100, 181, 0, 79, 42, 180, 0, 134, 42, 180, 0, 79, 46, 172, 28]
abbrev dktX2_step_11 : List UInt8 := dkwX2_step_11 ++ dktX2_step_12
def dkwX2_step_10 : List UInt8 := [16, 6, 160, 0, 18, 42, 180, 0, 79, 154, 0, 11, 42, 5, 181, 0, 94, 167, 0, 29, 28, 16, 6]
abbrev dktX2_step_10 : List UInt8 := dkwX2_step_10 ++ dktX2_step_11
def dkwX2_step_9 : List UInt8 := [7, 160, 0, 9, 42, 27, 182, 1, 165, 172, 28, 8, 160, 0, 11, 42, 27, 21, 4, 182, 1, 168, 172, 28]
abbrev dktX2_step_9 : List UInt8 := dkwX2_step_9 ++ dktX2_step_10
def dkwX2_step_8 : List UInt8 := [182, 1, 161, 153, 0, 9, 42, 29, 182, 1, 146, 172, 28, 6, 160, 0, 9, 42, 29, 182, 1, 146, 172, 28]
abbrev dktX2_step_8 : List UInt8 := dkwX2_step_8 ++ dktX2_step_9
def dkwX2_step_7 : List UInt8 := [180, 0, 94, 154, 0, 31, 42, 42, 180, 0, 49, 27, 16, 8, 104, 4, 96, 46, 24, 5, 24, 7]
abbrev dktX2_step_7 : List UInt8 := dkwX2_step_7 ++ dktX2_step_8
def dkwX2_step_6 : List UInt8 := [154, 0, 20, 42, 42, 180, 0, 52, 27, 7, 104, 4, 96, 46, 182, 1, 136, 167, 0, 4, 14, 57, 7, 42]
abbrev dktX2_step_6 : List UInt8 := dkwX2_step_6 ++ dktX2_step_7
def dkwX2_step_5 : List UInt8 := [5, 160, 0, 79, 42, 42, 180, 0, 52, 27, 7, 104, 46, 182, 1, 136, 57, 5, 42, 180, 0, 94]
abbrev dktX2_step_5 : List UInt8 := dkwX2_step_5 ++ dktX2_step_6
def dkwX2_step_4 : List UInt8 := [180, 0, 67, 24, 5, 82, 42, 180, 0, 94, 154, 0, 13, 42, 89, 180, 0, 67, 4, 96, 181, 0, 67, 28]
abbrev dktX2_step_4 : List UInt8 := dkwX2_step_4 ++ dktX2_step_5
def dkwX2_step_3 : List UInt8 := [57, 5, 42, 180, 0, 94, 154, 0, 23, 42, 180, 0, 67, 16, 40, 162, 0, 14, 42, 180, 0, 97, 42]
abbrev dktX2_step_3 : List UInt8 := dkwX2_step_3 ++ dktX2_step_4
def dkwX2_step_2 : List UInt8 := [167, 0, 4, 3, 182, 1, 157, 28, 4, 160, 0, 61, 42, 42, 180, 0, 52, 27, 7, 104, 46, 182, 1, 136]
abbrev dktX2_step_2 : List UInt8 := dkwX2_step_2 ++ dktX2_step_3
def dkwX2_step_1 : List UInt8 := [182, 1, 133, 54, 4, 28, 153, 0, 9, 28, 16, 9, 160, 0, 19, 42, 27, 28, 16, 9, 160, 0, 7, 4]
abbrev dktX2_step_1 : List UInt8 := dkwX2_step_1 ++ dktX2_step_2
def dkwX2_step_0 : List UInt8 := [42, 180, 0, 46, 27, 46, 61, 42, 180, 0, 49, 27, 16, 8, 104, 46, 62, 42, 42, 180, 0, 42, 27, 46]
abbrev dktX2_step_0 : List UInt8 := dkwX2_step_0 ++ dktX2_step_1
theorem dksX2_step_0 : cX2_step.data.toList.drop 0 = dktX2_step_0 := by decide +kernel
theorem dksX2_step_1 : cX2_step.data.toList.drop 24 = dktX2_step_1 := dk_seg dksX2_step_0 24 rfl rfl
theorem dksX2_step_2 : cX2_step.data.toList.drop 48 = dktX2_step_2 := dk_seg dksX2_step_1 24 rfl rfl
theorem dksX2_step_3 : cX2_step.data.toList.drop 72 = dktX2_step_3 := dk_seg dksX2_step_2 24 rfl rfl
theorem dksX2_step_4 : cX2_step.data.toList.drop 95 = dktX2_step_4 := dk_seg dksX2_step_3 23 rfl rfl
theorem dksX2_step_5 : cX2_step.data.toList.drop 119 = dktX2_step_5 := dk_seg dksX2_step_4 24 rfl rfl
theorem dksX2_step_6 : cX2_step.data.toList.drop 141 = dktX2_step_6 := dk_seg dksX2_step_5 22 rfl rfl
theorem dksX2_step_7 : cX2_step.data.toList.drop 165 = dktX2_step_7 := dk_seg dksX2_step_6 24 rfl rfl
theorem dksX2_step_8 : cX2_step.data.toList.drop 187 = dktX2_step_8 := dk_seg dksX2_step_7 22 rfl rfl
theorem dksX2_step_9 : cX2_step.data.toList.drop 211 = dktX2_step_9 := dk_seg dksX2_step_8 24 rfl rfl
theorem dksX2_step_10 : cX2_step.data.toList.drop 235 = dktX2_step_10 := dk_seg dksX2_step_9 24 rfl rfl
theorem dksX2_step_11 : cX2_step.data.toList.drop 258 = dktX2_step_11 := dk_seg dksX2_step_10 23 rfl rfl
theorem dksX2_step_12 : cX2_step.data.toList.drop 282 = dktX2_step_12 := dk_seg dksX2_step_11 24 rfl rfl
theorem dksX2_step_13 : cX2_step.data.toList.drop 305 = dktX2_step_13 := dk_seg dksX2_step_12 23 rfl rfl
theorem dksX2_step_14 : cX2_step.data.toList.drop 329 = dktX2_step_14 := dk_seg dksX2_step_13 24 rfl rfl
theorem dksX2_step_15 : cX2_step.data.toList.drop 353 = dktX2_step_15 := dk_seg dksX2_step_14 24 rfl rfl
theorem dksX2_step_16 : cX2_step.data.toList.drop 377 = dktX2_step_16 := dk_seg dksX2_step_15 24 rfl rfl
theorem dX2_step_0 : decode cX2_step 0 = .ok (.aload_n 0, 1) := dk_42 (dk_at dksX2_step_0 0 rfl rfl)
theorem dX2_step_1 : decode cX2_step 1 = .ok (.getfield 46, 3) := dk_180 0 46 (dk_at dksX2_step_0 1 rfl rfl)
theorem dX2_step_4 : decode cX2_step 4 = .ok (.iload_n 1, 1) := dk_27 (dk_at dksX2_step_0 4 rfl rfl)
theorem dX2_step_5 : decode cX2_step 5 = .ok (.iaload, 1) := dk_46 (dk_at dksX2_step_0 5 rfl rfl)
theorem dX2_step_6 : decode cX2_step 6 = .ok (.istore_n 2, 1) := dk_61 (dk_at dksX2_step_0 6 rfl rfl)
theorem dX2_step_7 : decode cX2_step 7 = .ok (.aload_n 0, 1) := dk_42 (dk_at dksX2_step_0 7 rfl rfl)
theorem dX2_step_8 : decode cX2_step 8 = .ok (.getfield 49, 3) := dk_180 0 49 (dk_at dksX2_step_0 8 rfl rfl)
theorem dX2_step_11 : decode cX2_step 11 = .ok (.iload_n 1, 1) := dk_27 (dk_at dksX2_step_0 11 rfl rfl)
theorem dX2_step_12 : decode cX2_step 12 = .ok (.bipush 8, 2) := dk_16 8 (dk_at dksX2_step_0 12 rfl rfl)
theorem dX2_step_14 : decode cX2_step 14 = .ok (.imul, 1) := dk_104 (dk_at dksX2_step_0 14 rfl rfl)
theorem dX2_step_15 : decode cX2_step 15 = .ok (.iaload, 1) := dk_46 (dk_at dksX2_step_0 15 rfl rfl)
theorem dX2_step_16 : decode cX2_step 16 = .ok (.istore_n 3, 1) := dk_62 (dk_at dksX2_step_0 16 rfl rfl)
theorem dX2_step_17 : decode cX2_step 17 = .ok (.aload_n 0, 1) := dk_42 (dk_at dksX2_step_0 17 rfl rfl)
theorem dX2_step_18 : decode cX2_step 18 = .ok (.aload_n 0, 1) := dk_42 (dk_at dksX2_step_0 18 rfl rfl)
theorem dX2_step_19 : decode cX2_step 19 = .ok (.getfield 42, 3) := dk_180 0 42 (dk_at dksX2_step_0 19 rfl rfl)
theorem dX2_step_22 : decode cX2_step 22 = .ok (.iload_n 1, 1) := dk_27 (dk_at dksX2_step_0 22 rfl rfl)
theorem dX2_step_23 : decode cX2_step 23 = .ok (.iaload, 1) := dk_46 (dk_at dksX2_step_0 23 rfl rfl)
theorem dX2_step_24 : decode cX2_step 24 = .ok (.invokevirtual 389, 3) := dk_182 1 133 (dk_at dksX2_step_1 0 rfl rfl)
theorem dX2_step_27 : decode cX2_step 27 = .ok (.istore 4, 2) := dk_54 4 (dk_at dksX2_step_1 3 rfl rfl)
theorem dX2_step_29 : decode cX2_step 29 = .ok (.iload_n 2, 1) := dk_28 (dk_at dksX2_step_1 5 rfl rfl)
theorem dX2_step_30 : decode cX2_step 30 = .ok (.ifCond .eq 9, 3) := dk_153 0 9 (dk_at dksX2_step_1 6 rfl rfl)
theorem dX2_step_33 : decode cX2_step 33 = .ok (.iload_n 2, 1) := dk_28 (dk_at dksX2_step_1 9 rfl rfl)
theorem dX2_step_34 : decode cX2_step 34 = .ok (.bipush 9, 2) := dk_16 9 (dk_at dksX2_step_1 10 rfl rfl)
theorem dX2_step_36 : decode cX2_step 36 = .ok (.if_icmp .ne 19, 3) := dk_160 0 19 (dk_at dksX2_step_1 12 rfl rfl)
theorem dX2_step_39 : decode cX2_step 39 = .ok (.aload_n 0, 1) := dk_42 (dk_at dksX2_step_1 15 rfl rfl)
theorem dX2_step_40 : decode cX2_step 40 = .ok (.iload_n 1, 1) := dk_27 (dk_at dksX2_step_1 16 rfl rfl)
theorem dX2_step_41 : decode cX2_step 41 = .ok (.iload_n 2, 1) := dk_28 (dk_at dksX2_step_1 17 rfl rfl)
theorem dX2_step_42 : decode cX2_step 42 = .ok (.bipush 9, 2) := dk_16 9 (dk_at dksX2_step_1 18 rfl rfl)
theorem dX2_step_44 : decode cX2_step 44 = .ok (.if_icmp .ne 7, 3) := dk_160 0 7 (dk_at dksX2_step_1 20 rfl rfl)
theorem dX2_step_47 : decode cX2_step 47 = .ok (.iconst 1, 1) := dk_4 (dk_at dksX2_step_1 23 rfl rfl)
theorem dX2_step_48 : decode cX2_step 48 = .ok (.goto 4, 3) := dk_167 0 4 (dk_at dksX2_step_2 0 rfl rfl)
theorem dX2_step_51 : decode cX2_step 51 = .ok (.iconst 0, 1) := dk_3 (dk_at dksX2_step_2 3 rfl rfl)
theorem dX2_step_52 : decode cX2_step 52 = .ok (.invokevirtual 413, 3) := dk_182 1 157 (dk_at dksX2_step_2 4 rfl rfl)
theorem dX2_step_55 : decode cX2_step 55 = .ok (.iload_n 2, 1) := dk_28 (dk_at dksX2_step_2 7 rfl rfl)
theorem dX2_step_56 : decode cX2_step 56 = .ok (.iconst 1, 1) := dk_4 (dk_at dksX2_step_2 8 rfl rfl)
theorem dX2_step_57 : decode cX2_step 57 = .ok (.if_icmp .ne 61, 3) := dk_160 0 61 (dk_at dksX2_step_2 9 rfl rfl)
theorem dX2_step_60 : decode cX2_step 60 = .ok (.aload_n 0, 1) := dk_42 (dk_at dksX2_step_2 12 rfl rfl)
theorem dX2_step_61 : decode cX2_step 61 = .ok (.aload_n 0, 1) := dk_42 (dk_at dksX2_step_2 13 rfl rfl)
theorem dX2_step_62 : decode cX2_step 62 = .ok (.getfield 52, 3) := dk_180 0 52 (dk_at dksX2_step_2 14 rfl rfl)
theorem dX2_step_65 : decode cX2_step 65 = .ok (.iload_n 1, 1) := dk_27 (dk_at dksX2_step_2 17 rfl rfl)
theorem dX2_step_66 : decode cX2_step 66 = .ok (.iconst 4, 1) := dk_7 (dk_at dksX2_step_2 18 rfl rfl)
theorem dX2_step_67 : decode cX2_step 67 = .ok (.imul, 1) := dk_104 (dk_at dksX2_step_2 19 rfl rfl)
theorem dX2_step_68 : decode cX2_step 68 = .ok (.iaload, 1) := dk_46 (dk_at dksX2_step_2 20 rfl rfl)
theorem dX2_step_69 : decode cX2_step 69 = .ok (.invokevirtual 392, 3) := dk_182 1 136 (dk_at dksX2_step_2 21 rfl rfl)
theorem dX2_step_72 : decode cX2_step 72 = .ok (.dstore 5, 2) := dk_57 5 (dk_at dksX2_step_3 0 rfl rfl)
theorem dX2_step_74 : decode cX2_step 74 = .ok (.aload_n 0, 1) := dk_42 (dk_at dksX2_step_3 2 rfl rfl)
theorem dX2_step_75 : decode cX2_step 75 = .ok (.getfield 94, 3) := dk_180 0 94 (dk_at dksX2_step_3 3 rfl rfl)
theorem dX2_step_78 : decode cX2_step 78 = .ok (.ifCond .ne 23, 3) := dk_154 0 23 (dk_at dksX2_step_3 6 rfl rfl)
theorem dX2_step_81 : decode cX2_step 81 = .ok (.aload_n 0, 1) := dk_42 (dk_at dksX2_step_3 9 rfl rfl)
theorem dX2_step_82 : decode cX2_step 82 = .ok (.getfield 67, 3) := dk_180 0 67 (dk_at dksX2_step_3 10 rfl rfl)
theorem dX2_step_85 : decode cX2_step 85 = .ok (.bipush 40, 2) := dk_16 40 (dk_at dksX2_step_3 13 rfl rfl)
theorem dX2_step_87 : decode cX2_step 87 = .ok (.if_icmp .ge 14, 3) := dk_162 0 14 (dk_at dksX2_step_3 15 rfl rfl)
theorem dX2_step_90 : decode cX2_step 90 = .ok (.aload_n 0, 1) := dk_42 (dk_at dksX2_step_3 18 rfl rfl)
theorem dX2_step_91 : decode cX2_step 91 = .ok (.getfield 97, 3) := dk_180 0 97 (dk_at dksX2_step_3 19 rfl rfl)
theorem dX2_step_94 : decode cX2_step 94 = .ok (.aload_n 0, 1) := dk_42 (dk_at dksX2_step_3 22 rfl rfl)
theorem dX2_step_95 : decode cX2_step 95 = .ok (.getfield 67, 3) := dk_180 0 67 (dk_at dksX2_step_4 0 rfl rfl)
theorem dX2_step_98 : decode cX2_step 98 = .ok (.dload 5, 2) := dk_24 5 (dk_at dksX2_step_4 3 rfl rfl)
theorem dX2_step_100 : decode cX2_step 100 = .ok (.dastore, 1) := dk_82 (dk_at dksX2_step_4 5 rfl rfl)
theorem dX2_step_101 : decode cX2_step 101 = .ok (.aload_n 0, 1) := dk_42 (dk_at dksX2_step_4 6 rfl rfl)
theorem dX2_step_102 : decode cX2_step 102 = .ok (.getfield 94, 3) := dk_180 0 94 (dk_at dksX2_step_4 7 rfl rfl)
theorem dX2_step_105 : decode cX2_step 105 = .ok (.ifCond .ne 13, 3) := dk_154 0 13 (dk_at dksX2_step_4 10 rfl rfl)
theorem dX2_step_108 : decode cX2_step 108 = .ok (.aload_n 0, 1) := dk_42 (dk_at dksX2_step_4 13 rfl rfl)
theorem dX2_step_109 : decode cX2_step 109 = .ok (.dup, 1) := dk_89 (dk_at dksX2_step_4 14 rfl rfl)
theorem dX2_step_110 : decode cX2_step 110 = .ok (.getfield 67, 3) := dk_180 0 67 (dk_at dksX2_step_4 15 rfl rfl)
theorem dX2_step_113 : decode cX2_step 113 = .ok (.iconst 1, 1) := dk_4 (dk_at dksX2_step_4 18 rfl rfl)
theorem dX2_step_114 : decode cX2_step 114 = .ok (.iadd, 1) := dk_96 (dk_at dksX2_step_4 19 rfl rfl)
theorem dX2_step_115 : decode cX2_step 115 = .ok (.putfield 67, 3) := dk_181 0 67 (dk_at dksX2_step_4 20 rfl rfl)
theorem dX2_step_118 : decode cX2_step 118 = .ok (.iload_n 2, 1) := dk_28 (dk_at dksX2_step_4 23 rfl rfl)
theorem dX2_step_119 : decode cX2_step 119 = .ok (.iconst 2, 1) := dk_5 (dk_at dksX2_step_5 0 rfl rfl)
theorem dX2_step_120 : decode cX2_step 120 = .ok (.if_icmp .ne 79, 3) := dk_160 0 79 (dk_at dksX2_step_5 1 rfl rfl)
theorem dX2_step_123 : decode cX2_step 123 = .ok (.aload_n 0, 1) := dk_42 (dk_at dksX2_step_5 4 rfl rfl)
theorem dX2_step_124 : decode cX2_step 124 = .ok (.aload_n 0, 1) := dk_42 (dk_at dksX2_step_5 5 rfl rfl)
theorem dX2_step_125 : decode cX2_step 125 = .ok (.getfield 52, 3) := dk_180 0 52 (dk_at dksX2_step_5 6 rfl rfl)
theorem dX2_step_128 : decode cX2_step 128 = .ok (.iload_n 1, 1) := dk_27 (dk_at dksX2_step_5 9 rfl rfl)
theorem dX2_step_129 : decode cX2_step 129 = .ok (.iconst 4, 1) := dk_7 (dk_at dksX2_step_5 10 rfl rfl)
theorem dX2_step_130 : decode cX2_step 130 = .ok (.imul, 1) := dk_104 (dk_at dksX2_step_5 11 rfl rfl)
theorem dX2_step_131 : decode cX2_step 131 = .ok (.iaload, 1) := dk_46 (dk_at dksX2_step_5 12 rfl rfl)
theorem dX2_step_132 : decode cX2_step 132 = .ok (.invokevirtual 392, 3) := dk_182 1 136 (dk_at dksX2_step_5 13 rfl rfl)
theorem dX2_step_135 : decode cX2_step 135 = .ok (.dstore 5, 2) := dk_57 5 (dk_at dksX2_step_5 16 rfl rfl)
theorem dX2_step_137 : decode cX2_step 137 = .ok (.aload_n 0, 1) := dk_42 (dk_at dksX2_step_5 18 rfl rfl)
theorem dX2_step_138 : decode cX2_step 138 = .ok (.getfield 94, 3) := dk_180 0 94 (dk_at dksX2_step_5 19 rfl rfl)
theorem dX2_step_141 : decode cX2_step 141 = .ok (.ifCond .ne 20, 3) := dk_154 0 20 (dk_at dksX2_step_6 0 rfl rfl)
theorem dX2_step_144 : decode cX2_step 144 = .ok (.aload_n 0, 1) := dk_42 (dk_at dksX2_step_6 3 rfl rfl)
theorem dX2_step_145 : decode cX2_step 145 = .ok (.aload_n 0, 1) := dk_42 (dk_at dksX2_step_6 4 rfl rfl)
theorem dX2_step_146 : decode cX2_step 146 = .ok (.getfield 52, 3) := dk_180 0 52 (dk_at dksX2_step_6 5 rfl rfl)
theorem dX2_step_149 : decode cX2_step 149 = .ok (.iload_n 1, 1) := dk_27 (dk_at dksX2_step_6 8 rfl rfl)
theorem dX2_step_150 : decode cX2_step 150 = .ok (.iconst 4, 1) := dk_7 (dk_at dksX2_step_6 9 rfl rfl)
theorem dX2_step_151 : decode cX2_step 151 = .ok (.imul, 1) := dk_104 (dk_at dksX2_step_6 10 rfl rfl)
theorem dX2_step_152 : decode cX2_step 152 = .ok (.iconst 1, 1) := dk_4 (dk_at dksX2_step_6 11 rfl rfl)
theorem dX2_step_153 : decode cX2_step 153 = .ok (.iadd, 1) := dk_96 (dk_at dksX2_step_6 12 rfl rfl)
theorem dX2_step_154 : decode cX2_step 154 = .ok (.iaload, 1) := dk_46 (dk_at dksX2_step_6 13 rfl rfl)
theorem dX2_step_155 : decode cX2_step 155 = .ok (.invokevirtual 392, 3) := dk_182 1 136 (dk_at dksX2_step_6 14 rfl rfl)
theorem dX2_step_158 : decode cX2_step 158 = .ok (.goto 4, 3) := dk_167 0 4 (dk_at dksX2_step_6 17 rfl rfl)
theorem dX2_step_161 : decode cX2_step 161 = .ok (.dconst 0, 1) := dk_14 (dk_at dksX2_step_6 20 rfl rfl)
theorem dX2_step_162 : decode cX2_step 162 = .ok (.dstore 7, 2) := dk_57 7 (dk_at dksX2_step_6 21 rfl rfl)
theorem dX2_step_164 : decode cX2_step 164 = .ok (.aload_n 0, 1) := dk_42 (dk_at dksX2_step_6 23 rfl rfl)
theorem dX2_step_165 : decode cX2_step 165 = .ok (.getfield 94, 3) := dk_180 0 94 (dk_at dksX2_step_7 0 rfl rfl)
theorem dX2_step_168 : decode cX2_step 168 = .ok (.ifCond .ne 31, 3) := dk_154 0 31 (dk_at dksX2_step_7 3 rfl rfl)
theorem dX2_step_171 : decode cX2_step 171 = .ok (.aload_n 0, 1) := dk_42 (dk_at dksX2_step_7 6 rfl rfl)
theorem dX2_step_172 : decode cX2_step 172 = .ok (.aload_n 0, 1) := dk_42 (dk_at dksX2_step_7 7 rfl rfl)
theorem dX2_step_173 : decode cX2_step 173 = .ok (.getfield 49, 3) := dk_180 0 49 (dk_at dksX2_step_7 8 rfl rfl)
theorem dX2_step_176 : decode cX2_step 176 = .ok (.iload_n 1, 1) := dk_27 (dk_at dksX2_step_7 11 rfl rfl)
theorem dX2_step_177 : decode cX2_step 177 = .ok (.bipush 8, 2) := dk_16 8 (dk_at dksX2_step_7 12 rfl rfl)
theorem dX2_step_179 : decode cX2_step 179 = .ok (.imul, 1) := dk_104 (dk_at dksX2_step_7 14 rfl rfl)
theorem dX2_step_180 : decode cX2_step 180 = .ok (.iconst 1, 1) := dk_4 (dk_at dksX2_step_7 15 rfl rfl)
theorem dX2_step_181 : decode cX2_step 181 = .ok (.iadd, 1) := dk_96 (dk_at dksX2_step_7 16 rfl rfl)
theorem dX2_step_182 : decode cX2_step 182 = .ok (.iaload, 1) := dk_46 (dk_at dksX2_step_7 17 rfl rfl)
theorem dX2_step_183 : decode cX2_step 183 = .ok (.dload 5, 2) := dk_24 5 (dk_at dksX2_step_7 18 rfl rfl)
theorem dX2_step_185 : decode cX2_step 185 = .ok (.dload 7, 2) := dk_24 7 (dk_at dksX2_step_7 20 rfl rfl)
theorem dX2_step_187 : decode cX2_step 187 = .ok (.invokevirtual 417, 3) := dk_182 1 161 (dk_at dksX2_step_8 0 rfl rfl)
theorem dX2_step_190 : decode cX2_step 190 = .ok (.ifCond .eq 9, 3) := dk_153 0 9 (dk_at dksX2_step_8 3 rfl rfl)
theorem dX2_step_193 : decode cX2_step 193 = .ok (.aload_n 0, 1) := dk_42 (dk_at dksX2_step_8 6 rfl rfl)
theorem dX2_step_194 : decode cX2_step 194 = .ok (.iload_n 3, 1) := dk_29 (dk_at dksX2_step_8 7 rfl rfl)
theorem dX2_step_195 : decode cX2_step 195 = .ok (.invokevirtual 402, 3) := dk_182 1 146 (dk_at dksX2_step_8 8 rfl rfl)
theorem dX2_step_198 : decode cX2_step 198 = .ok (.ireturn, 1) := dk_172 (dk_at dksX2_step_8 11 rfl rfl)
theorem dX2_step_199 : decode cX2_step 199 = .ok (.iload_n 2, 1) := dk_28 (dk_at dksX2_step_8 12 rfl rfl)
theorem dX2_step_200 : decode cX2_step 200 = .ok (.iconst 3, 1) := dk_6 (dk_at dksX2_step_8 13 rfl rfl)
theorem dX2_step_201 : decode cX2_step 201 = .ok (.if_icmp .ne 9, 3) := dk_160 0 9 (dk_at dksX2_step_8 14 rfl rfl)
theorem dX2_step_204 : decode cX2_step 204 = .ok (.aload_n 0, 1) := dk_42 (dk_at dksX2_step_8 17 rfl rfl)
theorem dX2_step_205 : decode cX2_step 205 = .ok (.iload_n 3, 1) := dk_29 (dk_at dksX2_step_8 18 rfl rfl)
theorem dX2_step_206 : decode cX2_step 206 = .ok (.invokevirtual 402, 3) := dk_182 1 146 (dk_at dksX2_step_8 19 rfl rfl)
theorem dX2_step_209 : decode cX2_step 209 = .ok (.ireturn, 1) := dk_172 (dk_at dksX2_step_8 22 rfl rfl)
theorem dX2_step_210 : decode cX2_step 210 = .ok (.iload_n 2, 1) := dk_28 (dk_at dksX2_step_8 23 rfl rfl)
theorem dX2_step_211 : decode cX2_step 211 = .ok (.iconst 4, 1) := dk_7 (dk_at dksX2_step_9 0 rfl rfl)
theorem dX2_step_212 : decode cX2_step 212 = .ok (.if_icmp .ne 9, 3) := dk_160 0 9 (dk_at dksX2_step_9 1 rfl rfl)
theorem dX2_step_215 : decode cX2_step 215 = .ok (.aload_n 0, 1) := dk_42 (dk_at dksX2_step_9 4 rfl rfl)
theorem dX2_step_216 : decode cX2_step 216 = .ok (.iload_n 1, 1) := dk_27 (dk_at dksX2_step_9 5 rfl rfl)
theorem dX2_step_217 : decode cX2_step 217 = .ok (.invokevirtual 421, 3) := dk_182 1 165 (dk_at dksX2_step_9 6 rfl rfl)
theorem dX2_step_220 : decode cX2_step 220 = .ok (.ireturn, 1) := dk_172 (dk_at dksX2_step_9 9 rfl rfl)
theorem dX2_step_221 : decode cX2_step 221 = .ok (.iload_n 2, 1) := dk_28 (dk_at dksX2_step_9 10 rfl rfl)
theorem dX2_step_222 : decode cX2_step 222 = .ok (.iconst 5, 1) := dk_8 (dk_at dksX2_step_9 11 rfl rfl)
theorem dX2_step_223 : decode cX2_step 223 = .ok (.if_icmp .ne 11, 3) := dk_160 0 11 (dk_at dksX2_step_9 12 rfl rfl)
theorem dX2_step_226 : decode cX2_step 226 = .ok (.aload_n 0, 1) := dk_42 (dk_at dksX2_step_9 15 rfl rfl)
theorem dX2_step_227 : decode cX2_step 227 = .ok (.iload_n 1, 1) := dk_27 (dk_at dksX2_step_9 16 rfl rfl)
theorem dX2_step_228 : decode cX2_step 228 = .ok (.iload 4, 2) := dk_21 4 (dk_at dksX2_step_9 17 rfl rfl)
theorem dX2_step_230 : decode cX2_step 230 = .ok (.invokevirtual 424, 3) := dk_182 1 168 (dk_at dksX2_step_9 19 rfl rfl)
theorem dX2_step_233 : decode cX2_step 233 = .ok (.ireturn, 1) := dk_172 (dk_at dksX2_step_9 22 rfl rfl)
theorem dX2_step_234 : decode cX2_step 234 = .ok (.iload_n 2, 1) := dk_28 (dk_at dksX2_step_9 23 rfl rfl)
theorem dX2_step_235 : decode cX2_step 235 = .ok (.bipush 6, 2) := dk_16 6 (dk_at dksX2_step_10 0 rfl rfl)
theorem dX2_step_237 : decode cX2_step 237 = .ok (.if_icmp .ne 18, 3) := dk_160 0 18 (dk_at dksX2_step_10 2 rfl rfl)
theorem dX2_step_240 : decode cX2_step 240 = .ok (.aload_n 0, 1) := dk_42 (dk_at dksX2_step_10 5 rfl rfl)
theorem dX2_step_241 : decode cX2_step 241 = .ok (.getfield 79, 3) := dk_180 0 79 (dk_at dksX2_step_10 6 rfl rfl)
theorem dX2_step_244 : decode cX2_step 244 = .ok (.ifCond .ne 11, 3) := dk_154 0 11 (dk_at dksX2_step_10 9 rfl rfl)
theorem dX2_step_247 : decode cX2_step 247 = .ok (.aload_n 0, 1) := dk_42 (dk_at dksX2_step_10 12 rfl rfl)
theorem dX2_step_248 : decode cX2_step 248 = .ok (.iconst 2, 1) := dk_5 (dk_at dksX2_step_10 13 rfl rfl)
theorem dX2_step_249 : decode cX2_step 249 = .ok (.putfield 94, 3) := dk_181 0 94 (dk_at dksX2_step_10 14 rfl rfl)
theorem dX2_step_252 : decode cX2_step 252 = .ok (.goto 29, 3) := dk_167 0 29 (dk_at dksX2_step_10 17 rfl rfl)
theorem dX2_step_255 : decode cX2_step 255 = .ok (.iload_n 2, 1) := dk_28 (dk_at dksX2_step_10 20 rfl rfl)
theorem dX2_step_256 : decode cX2_step 256 = .ok (.bipush 6, 2) := dk_16 6 (dk_at dksX2_step_10 21 rfl rfl)
theorem dX2_step_258 : decode cX2_step 258 = .ok (.if_icmp .ne 23, 3) := dk_160 0 23 (dk_at dksX2_step_11 0 rfl rfl)
theorem dX2_step_261 : decode cX2_step 261 = .ok (.aload_n 0, 1) := dk_42 (dk_at dksX2_step_11 3 rfl rfl)
theorem dX2_step_262 : decode cX2_step 262 = .ok (.dup, 1) := dk_89 (dk_at dksX2_step_11 4 rfl rfl)
theorem dX2_step_263 : decode cX2_step 263 = .ok (.getfield 79, 3) := dk_180 0 79 (dk_at dksX2_step_11 5 rfl rfl)
theorem dX2_step_266 : decode cX2_step 266 = .ok (.iconst 1, 1) := dk_4 (dk_at dksX2_step_11 8 rfl rfl)
theorem dX2_step_267 : decode cX2_step 267 = .ok (.isub, 1) := dk_100 (dk_at dksX2_step_11 9 rfl rfl)
theorem dX2_step_268 : decode cX2_step 268 = .ok (.putfield 79, 3) := dk_181 0 79 (dk_at dksX2_step_11 10 rfl rfl)
theorem dX2_step_271 : decode cX2_step 271 = .ok (.aload_n 0, 1) := dk_42 (dk_at dksX2_step_11 13 rfl rfl)
theorem dX2_step_272 : decode cX2_step 272 = .ok (.getfield 134, 3) := dk_180 0 134 (dk_at dksX2_step_11 14 rfl rfl)
theorem dX2_step_275 : decode cX2_step 275 = .ok (.aload_n 0, 1) := dk_42 (dk_at dksX2_step_11 17 rfl rfl)
theorem dX2_step_276 : decode cX2_step 276 = .ok (.getfield 79, 3) := dk_180 0 79 (dk_at dksX2_step_11 18 rfl rfl)
theorem dX2_step_279 : decode cX2_step 279 = .ok (.iaload, 1) := dk_46 (dk_at dksX2_step_11 21 rfl rfl)
theorem dX2_step_280 : decode cX2_step 280 = .ok (.ireturn, 1) := dk_172 (dk_at dksX2_step_11 22 rfl rfl)
theorem dX2_step_281 : decode cX2_step 281 = .ok (.iload_n 2, 1) := dk_28 (dk_at dksX2_step_11 23 rfl rfl)
theorem dX2_step_282 : decode cX2_step 282 = .ok (.bipush 7, 2) := dk_16 7 (dk_at dksX2_step_12 0 rfl rfl)
theorem dX2_step_284 : decode cX2_step 284 = .ok (.if_icmp .ne 11, 3) := dk_160 0 11 (dk_at dksX2_step_12 2 rfl rfl)
theorem dX2_step_287 : decode cX2_step 287 = .ok (.aload_n 0, 1) := dk_42 (dk_at dksX2_step_12 5 rfl rfl)
theorem dX2_step_288 : decode cX2_step 288 = .ok (.iload_n 1, 1) := dk_27 (dk_at dksX2_step_12 6 rfl rfl)
theorem dX2_step_289 : decode cX2_step 289 = .ok (.iload 4, 2) := dk_21 4 (dk_at dksX2_step_12 7 rfl rfl)
theorem dX2_step_291 : decode cX2_step 291 = .ok (.invokevirtual 427, 3) := dk_182 1 171 (dk_at dksX2_step_12 9 rfl rfl)
theorem dX2_step_294 : decode cX2_step 294 = .ok (.ireturn, 1) := dk_172 (dk_at dksX2_step_12 12 rfl rfl)
theorem dX2_step_295 : decode cX2_step 295 = .ok (.iload_n 2, 1) := dk_28 (dk_at dksX2_step_12 13 rfl rfl)
theorem dX2_step_296 : decode cX2_step 296 = .ok (.bipush 8, 2) := dk_16 8 (dk_at dksX2_step_12 14 rfl rfl)
theorem dX2_step_298 : decode cX2_step 298 = .ok (.if_icmp .ne 11, 3) := dk_160 0 11 (dk_at dksX2_step_12 16 rfl rfl)
theorem dX2_step_301 : decode cX2_step 301 = .ok (.aload_n 0, 1) := dk_42 (dk_at dksX2_step_12 19 rfl rfl)
theorem dX2_step_302 : decode cX2_step 302 = .ok (.iload_n 1, 1) := dk_27 (dk_at dksX2_step_12 20 rfl rfl)
theorem dX2_step_303 : decode cX2_step 303 = .ok (.iload 4, 2) := dk_21 4 (dk_at dksX2_step_12 21 rfl rfl)
theorem dX2_step_305 : decode cX2_step 305 = .ok (.invokevirtual 430, 3) := dk_182 1 174 (dk_at dksX2_step_13 0 rfl rfl)
theorem dX2_step_308 : decode cX2_step 308 = .ok (.ireturn, 1) := dk_172 (dk_at dksX2_step_13 3 rfl rfl)
theorem dX2_step_309 : decode cX2_step 309 = .ok (.iload_n 2, 1) := dk_28 (dk_at dksX2_step_13 4 rfl rfl)
theorem dX2_step_310 : decode cX2_step 310 = .ok (.bipush 11, 2) := dk_16 11 (dk_at dksX2_step_13 5 rfl rfl)
theorem dX2_step_312 : decode cX2_step 312 = .ok (.if_icmp .ne 8, 3) := dk_160 0 8 (dk_at dksX2_step_13 7 rfl rfl)
theorem dX2_step_315 : decode cX2_step 315 = .ok (.aload_n 0, 1) := dk_42 (dk_at dksX2_step_13 10 rfl rfl)
theorem dX2_step_316 : decode cX2_step 316 = .ok (.iconst 0, 1) := dk_3 (dk_at dksX2_step_13 11 rfl rfl)
theorem dX2_step_317 : decode cX2_step 317 = .ok (.putfield 70, 3) := dk_181 0 70 (dk_at dksX2_step_13 12 rfl rfl)
theorem dX2_step_320 : decode cX2_step 320 = .ok (.iload_n 2, 1) := dk_28 (dk_at dksX2_step_13 15 rfl rfl)
theorem dX2_step_321 : decode cX2_step 321 = .ok (.bipush 12, 2) := dk_16 12 (dk_at dksX2_step_13 16 rfl rfl)
theorem dX2_step_323 : decode cX2_step 323 = .ok (.if_icmp .ne 30, 3) := dk_160 0 30 (dk_at dksX2_step_13 18 rfl rfl)
theorem dX2_step_326 : decode cX2_step 326 = .ok (.aload_n 0, 1) := dk_42 (dk_at dksX2_step_13 21 rfl rfl)
theorem dX2_step_327 : decode cX2_step 327 = .ok (.iload_n 3, 1) := dk_29 (dk_at dksX2_step_13 22 rfl rfl)
theorem dX2_step_328 : decode cX2_step 328 = .ok (.aload_n 0, 1) := dk_42 (dk_at dksX2_step_13 23 rfl rfl)
theorem dX2_step_329 : decode cX2_step 329 = .ok (.getfield 49, 3) := dk_180 0 49 (dk_at dksX2_step_14 0 rfl rfl)
theorem dX2_step_332 : decode cX2_step 332 = .ok (.iload_n 1, 1) := dk_27 (dk_at dksX2_step_14 3 rfl rfl)
theorem dX2_step_333 : decode cX2_step 333 = .ok (.bipush 8, 2) := dk_16 8 (dk_at dksX2_step_14 4 rfl rfl)
theorem dX2_step_335 : decode cX2_step 335 = .ok (.imul, 1) := dk_104 (dk_at dksX2_step_14 6 rfl rfl)
theorem dX2_step_336 : decode cX2_step 336 = .ok (.iconst 1, 1) := dk_4 (dk_at dksX2_step_14 7 rfl rfl)
theorem dX2_step_337 : decode cX2_step 337 = .ok (.iadd, 1) := dk_96 (dk_at dksX2_step_14 8 rfl rfl)
theorem dX2_step_338 : decode cX2_step 338 = .ok (.iaload, 1) := dk_46 (dk_at dksX2_step_14 9 rfl rfl)
theorem dX2_step_339 : decode cX2_step 339 = .ok (.aload_n 0, 1) := dk_42 (dk_at dksX2_step_14 10 rfl rfl)
theorem dX2_step_340 : decode cX2_step 340 = .ok (.getfield 49, 3) := dk_180 0 49 (dk_at dksX2_step_14 11 rfl rfl)
theorem dX2_step_343 : decode cX2_step 343 = .ok (.iload_n 1, 1) := dk_27 (dk_at dksX2_step_14 14 rfl rfl)
theorem dX2_step_344 : decode cX2_step 344 = .ok (.bipush 8, 2) := dk_16 8 (dk_at dksX2_step_14 15 rfl rfl)
theorem dX2_step_346 : decode cX2_step 346 = .ok (.imul, 1) := dk_104 (dk_at dksX2_step_14 17 rfl rfl)
theorem dX2_step_347 : decode cX2_step 347 = .ok (.iconst 2, 1) := dk_5 (dk_at dksX2_step_14 18 rfl rfl)
theorem dX2_step_348 : decode cX2_step 348 = .ok (.iadd, 1) := dk_96 (dk_at dksX2_step_14 19 rfl rfl)
theorem dX2_step_349 : decode cX2_step 349 = .ok (.iaload, 1) := dk_46 (dk_at dksX2_step_14 20 rfl rfl)
theorem dX2_step_350 : decode cX2_step 350 = .ok (.invokevirtual 433, 3) := dk_182 1 177 (dk_at dksX2_step_14 21 rfl rfl)
theorem dX2_step_353 : decode cX2_step 353 = .ok (.iload_n 2, 1) := dk_28 (dk_at dksX2_step_15 0 rfl rfl)
theorem dX2_step_354 : decode cX2_step 354 = .ok (.bipush 13, 2) := dk_16 13 (dk_at dksX2_step_15 1 rfl rfl)
theorem dX2_step_356 : decode cX2_step 356 = .ok (.if_icmp .ne 10, 3) := dk_160 0 10 (dk_at dksX2_step_15 3 rfl rfl)
theorem dX2_step_359 : decode cX2_step 359 = .ok (.aload_n 0, 1) := dk_42 (dk_at dksX2_step_15 6 rfl rfl)
theorem dX2_step_360 : decode cX2_step 360 = .ok (.getfield 125, 3) := dk_180 0 125 (dk_at dksX2_step_15 7 rfl rfl)
theorem dX2_step_363 : decode cX2_step 363 = .ok (.iload_n 3, 1) := dk_29 (dk_at dksX2_step_15 10 rfl rfl)
theorem dX2_step_364 : decode cX2_step 364 = .ok (.iload_n 1, 1) := dk_27 (dk_at dksX2_step_15 11 rfl rfl)
theorem dX2_step_365 : decode cX2_step 365 = .ok (.iastore, 1) := dk_79 (dk_at dksX2_step_15 12 rfl rfl)
theorem dX2_step_366 : decode cX2_step 366 = .ok (.iload_n 2, 1) := dk_28 (dk_at dksX2_step_15 13 rfl rfl)
theorem dX2_step_367 : decode cX2_step 367 = .ok (.bipush 14, 2) := dk_16 14 (dk_at dksX2_step_15 14 rfl rfl)
theorem dX2_step_369 : decode cX2_step 369 = .ok (.if_icmp .ne 8, 3) := dk_160 0 8 (dk_at dksX2_step_15 16 rfl rfl)
theorem dX2_step_372 : decode cX2_step 372 = .ok (.aload_n 0, 1) := dk_42 (dk_at dksX2_step_15 19 rfl rfl)
theorem dX2_step_373 : decode cX2_step 373 = .ok (.iload_n 1, 1) := dk_27 (dk_at dksX2_step_15 20 rfl rfl)
theorem dX2_step_374 : decode cX2_step 374 = .ok (.invokevirtual 437, 3) := dk_182 1 181 (dk_at dksX2_step_15 21 rfl rfl)
theorem dX2_step_377 : decode cX2_step 377 = .ok (.iload_n 2, 1) := dk_28 (dk_at dksX2_step_16 0 rfl rfl)
theorem dX2_step_378 : decode cX2_step 378 = .ok (.bipush 16, 2) := dk_16 16 (dk_at dksX2_step_16 1 rfl rfl)
theorem dX2_step_380 : decode cX2_step 380 = .ok (.if_icmp .ne 7, 3) := dk_160 0 7 (dk_at dksX2_step_16 3 rfl rfl)
theorem dX2_step_383 : decode cX2_step 383 = .ok (.iconst (-1), 1) := dk_2 (dk_at dksX2_step_16 6 rfl rfl)
theorem dX2_step_384 : decode cX2_step 384 = .ok (.goto 5, 3) := dk_167 0 5 (dk_at dksX2_step_16 7 rfl rfl)
theorem dX2_step_387 : decode cX2_step 387 = .ok (.iload 4, 2) := dk_21 4 (dk_at dksX2_step_16 10 rfl rfl)
theorem dX2_step_389 : decode cX2_step 389 = .ok (.ireturn, 1) := dk_172 (dk_at dksX2_step_16 12 rfl rfl)
abbrev cX2_assign : ByteArray := prog_32_method_62_code
def yX2_assign : MethodName := ⟨RX2, "assign", "(IZ)V"⟩
def dkwX2_assign_7 : List UInt8 := [164, 0, 15, 42, 180, 0, 119, 21, 4, 24, 5, 82, 167, 0, 11, 42, 180, 0, 101, 29, 24, 5, 82, 177]
abbrev dktX2_assign_7 : List UInt8 := dkwX2_assign_7 ++ []
def dkwX2_assign_6 : List UInt8 := [57, 5, 42, 89, 180, 0, 70, 4, 96, 181, 0, 70, 42, 180, 0, 94, 153, 0, 4, 177, 29, 16, 25]
abbrev dktX2_assign_6 : List UInt8 := dkwX2_assign_6 ++ dktX2_assign_7
def dkwX2_assign_5 : List UInt8 := [180, 0, 73, 160, 0, 11, 42, 6, 181, 0, 94, 167, 0, 24, 42, 180, 0, 107, 42, 180, 0, 70, 49]
abbrev dktX2_assign_5 : List UInt8 := dkwX2_assign_5 ++ dktX2_assign_6
def dkwX2_assign_4 : List UInt8 := [42, 42, 180, 0, 52, 27, 7, 104, 5, 96, 46, 182, 1, 136, 57, 5, 167, 0, 43, 42, 180, 0, 70, 42]
abbrev dktX2_assign_4 : List UInt8 := dkwX2_assign_4 ++ dktX2_assign_5
def dkwX2_assign_3 : List UInt8 := [24, 5, 24, 7, 182, 1, 112, 54, 4, 42, 180, 0, 94, 153, 0, 4, 177, 14, 57, 5, 28, 154, 0, 22]
abbrev dktX2_assign_3 : List UInt8 := dkwX2_assign_3 ++ dktX2_assign_4
def dkwX2_assign_2 : List UInt8 := [4, 96, 46, 182, 1, 136, 167, 0, 4, 14, 57, 7, 42, 180, 0, 94, 154, 0, 17, 42, 29, 16, 26, 100]
abbrev dktX2_assign_2 : List UInt8 := dkwX2_assign_2 ++ dktX2_assign_3
def dkwX2_assign_1 : List UInt8 := [27, 7, 104, 46, 182, 1, 136, 57, 5, 42, 180, 0, 94, 154, 0, 20, 42, 42, 180, 0, 52, 27, 7, 104]
abbrev dktX2_assign_1 : List UInt8 := dkwX2_assign_1 ++ dktX2_assign_2
def dkwX2_assign_0 : List UInt8 := [42, 180, 0, 49, 27, 16, 8, 104, 46, 62, 29, 54, 4, 29, 16, 25, 164, 0, 65, 42, 42, 180, 0, 52]
abbrev dktX2_assign_0 : List UInt8 := dkwX2_assign_0 ++ dktX2_assign_1
theorem dksX2_assign_0 : cX2_assign.data.toList.drop 0 = dktX2_assign_0 := by decide +kernel
theorem dksX2_assign_1 : cX2_assign.data.toList.drop 24 = dktX2_assign_1 := dk_seg dksX2_assign_0 24 rfl rfl
theorem dksX2_assign_2 : cX2_assign.data.toList.drop 48 = dktX2_assign_2 := dk_seg dksX2_assign_1 24 rfl rfl
theorem dksX2_assign_3 : cX2_assign.data.toList.drop 72 = dktX2_assign_3 := dk_seg dksX2_assign_2 24 rfl rfl
theorem dksX2_assign_4 : cX2_assign.data.toList.drop 96 = dktX2_assign_4 := dk_seg dksX2_assign_3 24 rfl rfl
theorem dksX2_assign_5 : cX2_assign.data.toList.drop 120 = dktX2_assign_5 := dk_seg dksX2_assign_4 24 rfl rfl
theorem dksX2_assign_6 : cX2_assign.data.toList.drop 143 = dktX2_assign_6 := dk_seg dksX2_assign_5 23 rfl rfl
theorem dksX2_assign_7 : cX2_assign.data.toList.drop 166 = dktX2_assign_7 := dk_seg dksX2_assign_6 23 rfl rfl
theorem dX2_assign_0 : decode cX2_assign 0 = .ok (.aload_n 0, 1) := dk_42 (dk_at dksX2_assign_0 0 rfl rfl)
theorem dX2_assign_1 : decode cX2_assign 1 = .ok (.getfield 49, 3) := dk_180 0 49 (dk_at dksX2_assign_0 1 rfl rfl)
theorem dX2_assign_4 : decode cX2_assign 4 = .ok (.iload_n 1, 1) := dk_27 (dk_at dksX2_assign_0 4 rfl rfl)
theorem dX2_assign_5 : decode cX2_assign 5 = .ok (.bipush 8, 2) := dk_16 8 (dk_at dksX2_assign_0 5 rfl rfl)
theorem dX2_assign_7 : decode cX2_assign 7 = .ok (.imul, 1) := dk_104 (dk_at dksX2_assign_0 7 rfl rfl)
theorem dX2_assign_8 : decode cX2_assign 8 = .ok (.iaload, 1) := dk_46 (dk_at dksX2_assign_0 8 rfl rfl)
theorem dX2_assign_9 : decode cX2_assign 9 = .ok (.istore_n 3, 1) := dk_62 (dk_at dksX2_assign_0 9 rfl rfl)
theorem dX2_assign_10 : decode cX2_assign 10 = .ok (.iload_n 3, 1) := dk_29 (dk_at dksX2_assign_0 10 rfl rfl)
theorem dX2_assign_11 : decode cX2_assign 11 = .ok (.istore 4, 2) := dk_54 4 (dk_at dksX2_assign_0 11 rfl rfl)
theorem dX2_assign_13 : decode cX2_assign 13 = .ok (.iload_n 3, 1) := dk_29 (dk_at dksX2_assign_0 13 rfl rfl)
theorem dX2_assign_14 : decode cX2_assign 14 = .ok (.bipush 25, 2) := dk_16 25 (dk_at dksX2_assign_0 14 rfl rfl)
theorem dX2_assign_16 : decode cX2_assign 16 = .ok (.if_icmp .le 65, 3) := dk_164 0 65 (dk_at dksX2_assign_0 16 rfl rfl)
theorem dX2_assign_19 : decode cX2_assign 19 = .ok (.aload_n 0, 1) := dk_42 (dk_at dksX2_assign_0 19 rfl rfl)
theorem dX2_assign_20 : decode cX2_assign 20 = .ok (.aload_n 0, 1) := dk_42 (dk_at dksX2_assign_0 20 rfl rfl)
theorem dX2_assign_21 : decode cX2_assign 21 = .ok (.getfield 52, 3) := dk_180 0 52 (dk_at dksX2_assign_0 21 rfl rfl)
theorem dX2_assign_24 : decode cX2_assign 24 = .ok (.iload_n 1, 1) := dk_27 (dk_at dksX2_assign_1 0 rfl rfl)
theorem dX2_assign_25 : decode cX2_assign 25 = .ok (.iconst 4, 1) := dk_7 (dk_at dksX2_assign_1 1 rfl rfl)
theorem dX2_assign_26 : decode cX2_assign 26 = .ok (.imul, 1) := dk_104 (dk_at dksX2_assign_1 2 rfl rfl)
theorem dX2_assign_27 : decode cX2_assign 27 = .ok (.iaload, 1) := dk_46 (dk_at dksX2_assign_1 3 rfl rfl)
theorem dX2_assign_28 : decode cX2_assign 28 = .ok (.invokevirtual 392, 3) := dk_182 1 136 (dk_at dksX2_assign_1 4 rfl rfl)
theorem dX2_assign_31 : decode cX2_assign 31 = .ok (.dstore 5, 2) := dk_57 5 (dk_at dksX2_assign_1 7 rfl rfl)
theorem dX2_assign_33 : decode cX2_assign 33 = .ok (.aload_n 0, 1) := dk_42 (dk_at dksX2_assign_1 9 rfl rfl)
theorem dX2_assign_34 : decode cX2_assign 34 = .ok (.getfield 94, 3) := dk_180 0 94 (dk_at dksX2_assign_1 10 rfl rfl)
theorem dX2_assign_37 : decode cX2_assign 37 = .ok (.ifCond .ne 20, 3) := dk_154 0 20 (dk_at dksX2_assign_1 13 rfl rfl)
theorem dX2_assign_40 : decode cX2_assign 40 = .ok (.aload_n 0, 1) := dk_42 (dk_at dksX2_assign_1 16 rfl rfl)
theorem dX2_assign_41 : decode cX2_assign 41 = .ok (.aload_n 0, 1) := dk_42 (dk_at dksX2_assign_1 17 rfl rfl)
theorem dX2_assign_42 : decode cX2_assign 42 = .ok (.getfield 52, 3) := dk_180 0 52 (dk_at dksX2_assign_1 18 rfl rfl)
theorem dX2_assign_45 : decode cX2_assign 45 = .ok (.iload_n 1, 1) := dk_27 (dk_at dksX2_assign_1 21 rfl rfl)
theorem dX2_assign_46 : decode cX2_assign 46 = .ok (.iconst 4, 1) := dk_7 (dk_at dksX2_assign_1 22 rfl rfl)
theorem dX2_assign_47 : decode cX2_assign 47 = .ok (.imul, 1) := dk_104 (dk_at dksX2_assign_1 23 rfl rfl)
theorem dX2_assign_48 : decode cX2_assign 48 = .ok (.iconst 1, 1) := dk_4 (dk_at dksX2_assign_2 0 rfl rfl)
theorem dX2_assign_49 : decode cX2_assign 49 = .ok (.iadd, 1) := dk_96 (dk_at dksX2_assign_2 1 rfl rfl)
theorem dX2_assign_50 : decode cX2_assign 50 = .ok (.iaload, 1) := dk_46 (dk_at dksX2_assign_2 2 rfl rfl)
theorem dX2_assign_51 : decode cX2_assign 51 = .ok (.invokevirtual 392, 3) := dk_182 1 136 (dk_at dksX2_assign_2 3 rfl rfl)
theorem dX2_assign_54 : decode cX2_assign 54 = .ok (.goto 4, 3) := dk_167 0 4 (dk_at dksX2_assign_2 6 rfl rfl)
theorem dX2_assign_57 : decode cX2_assign 57 = .ok (.dconst 0, 1) := dk_14 (dk_at dksX2_assign_2 9 rfl rfl)
theorem dX2_assign_58 : decode cX2_assign 58 = .ok (.dstore 7, 2) := dk_57 7 (dk_at dksX2_assign_2 10 rfl rfl)
theorem dX2_assign_60 : decode cX2_assign 60 = .ok (.aload_n 0, 1) := dk_42 (dk_at dksX2_assign_2 12 rfl rfl)
theorem dX2_assign_61 : decode cX2_assign 61 = .ok (.getfield 94, 3) := dk_180 0 94 (dk_at dksX2_assign_2 13 rfl rfl)
theorem dX2_assign_64 : decode cX2_assign 64 = .ok (.ifCond .ne 17, 3) := dk_154 0 17 (dk_at dksX2_assign_2 16 rfl rfl)
theorem dX2_assign_67 : decode cX2_assign 67 = .ok (.aload_n 0, 1) := dk_42 (dk_at dksX2_assign_2 19 rfl rfl)
theorem dX2_assign_68 : decode cX2_assign 68 = .ok (.iload_n 3, 1) := dk_29 (dk_at dksX2_assign_2 20 rfl rfl)
theorem dX2_assign_69 : decode cX2_assign 69 = .ok (.bipush 26, 2) := dk_16 26 (dk_at dksX2_assign_2 21 rfl rfl)
theorem dX2_assign_71 : decode cX2_assign 71 = .ok (.isub, 1) := dk_100 (dk_at dksX2_assign_2 23 rfl rfl)
theorem dX2_assign_72 : decode cX2_assign 72 = .ok (.dload 5, 2) := dk_24 5 (dk_at dksX2_assign_3 0 rfl rfl)
theorem dX2_assign_74 : decode cX2_assign 74 = .ok (.dload 7, 2) := dk_24 7 (dk_at dksX2_assign_3 2 rfl rfl)
theorem dX2_assign_76 : decode cX2_assign 76 = .ok (.invokevirtual 368, 3) := dk_182 1 112 (dk_at dksX2_assign_3 4 rfl rfl)
theorem dX2_assign_79 : decode cX2_assign 79 = .ok (.istore 4, 2) := dk_54 4 (dk_at dksX2_assign_3 7 rfl rfl)
theorem dX2_assign_81 : decode cX2_assign 81 = .ok (.aload_n 0, 1) := dk_42 (dk_at dksX2_assign_3 9 rfl rfl)
theorem dX2_assign_82 : decode cX2_assign 82 = .ok (.getfield 94, 3) := dk_180 0 94 (dk_at dksX2_assign_3 10 rfl rfl)
theorem dX2_assign_85 : decode cX2_assign 85 = .ok (.ifCond .eq 4, 3) := dk_153 0 4 (dk_at dksX2_assign_3 13 rfl rfl)
theorem dX2_assign_88 : decode cX2_assign 88 = .ok (.return_, 1) := dk_177 (dk_at dksX2_assign_3 16 rfl rfl)
theorem dX2_assign_89 : decode cX2_assign 89 = .ok (.dconst 0, 1) := dk_14 (dk_at dksX2_assign_3 17 rfl rfl)
theorem dX2_assign_90 : decode cX2_assign 90 = .ok (.dstore 5, 2) := dk_57 5 (dk_at dksX2_assign_3 18 rfl rfl)
theorem dX2_assign_92 : decode cX2_assign 92 = .ok (.iload_n 2, 1) := dk_28 (dk_at dksX2_assign_3 20 rfl rfl)
theorem dX2_assign_93 : decode cX2_assign 93 = .ok (.ifCond .ne 22, 3) := dk_154 0 22 (dk_at dksX2_assign_3 21 rfl rfl)
theorem dX2_assign_96 : decode cX2_assign 96 = .ok (.aload_n 0, 1) := dk_42 (dk_at dksX2_assign_4 0 rfl rfl)
theorem dX2_assign_97 : decode cX2_assign 97 = .ok (.aload_n 0, 1) := dk_42 (dk_at dksX2_assign_4 1 rfl rfl)
theorem dX2_assign_98 : decode cX2_assign 98 = .ok (.getfield 52, 3) := dk_180 0 52 (dk_at dksX2_assign_4 2 rfl rfl)
theorem dX2_assign_101 : decode cX2_assign 101 = .ok (.iload_n 1, 1) := dk_27 (dk_at dksX2_assign_4 5 rfl rfl)
theorem dX2_assign_102 : decode cX2_assign 102 = .ok (.iconst 4, 1) := dk_7 (dk_at dksX2_assign_4 6 rfl rfl)
theorem dX2_assign_103 : decode cX2_assign 103 = .ok (.imul, 1) := dk_104 (dk_at dksX2_assign_4 7 rfl rfl)
theorem dX2_assign_104 : decode cX2_assign 104 = .ok (.iconst 2, 1) := dk_5 (dk_at dksX2_assign_4 8 rfl rfl)
theorem dX2_assign_105 : decode cX2_assign 105 = .ok (.iadd, 1) := dk_96 (dk_at dksX2_assign_4 9 rfl rfl)
theorem dX2_assign_106 : decode cX2_assign 106 = .ok (.iaload, 1) := dk_46 (dk_at dksX2_assign_4 10 rfl rfl)
theorem dX2_assign_107 : decode cX2_assign 107 = .ok (.invokevirtual 392, 3) := dk_182 1 136 (dk_at dksX2_assign_4 11 rfl rfl)
theorem dX2_assign_110 : decode cX2_assign 110 = .ok (.dstore 5, 2) := dk_57 5 (dk_at dksX2_assign_4 14 rfl rfl)
theorem dX2_assign_112 : decode cX2_assign 112 = .ok (.goto 43, 3) := dk_167 0 43 (dk_at dksX2_assign_4 16 rfl rfl)
theorem dX2_assign_115 : decode cX2_assign 115 = .ok (.aload_n 0, 1) := dk_42 (dk_at dksX2_assign_4 19 rfl rfl)
theorem dX2_assign_116 : decode cX2_assign 116 = .ok (.getfield 70, 3) := dk_180 0 70 (dk_at dksX2_assign_4 20 rfl rfl)
theorem dX2_assign_119 : decode cX2_assign 119 = .ok (.aload_n 0, 1) := dk_42 (dk_at dksX2_assign_4 23 rfl rfl)
theorem dX2_assign_120 : decode cX2_assign 120 = .ok (.getfield 73, 3) := dk_180 0 73 (dk_at dksX2_assign_5 0 rfl rfl)
theorem dX2_assign_123 : decode cX2_assign 123 = .ok (.if_icmp .ne 11, 3) := dk_160 0 11 (dk_at dksX2_assign_5 3 rfl rfl)
theorem dX2_assign_126 : decode cX2_assign 126 = .ok (.aload_n 0, 1) := dk_42 (dk_at dksX2_assign_5 6 rfl rfl)
theorem dX2_assign_127 : decode cX2_assign 127 = .ok (.iconst 3, 1) := dk_6 (dk_at dksX2_assign_5 7 rfl rfl)
theorem dX2_assign_128 : decode cX2_assign 128 = .ok (.putfield 94, 3) := dk_181 0 94 (dk_at dksX2_assign_5 8 rfl rfl)
theorem dX2_assign_131 : decode cX2_assign 131 = .ok (.goto 24, 3) := dk_167 0 24 (dk_at dksX2_assign_5 11 rfl rfl)
theorem dX2_assign_134 : decode cX2_assign 134 = .ok (.aload_n 0, 1) := dk_42 (dk_at dksX2_assign_5 14 rfl rfl)
theorem dX2_assign_135 : decode cX2_assign 135 = .ok (.getfield 107, 3) := dk_180 0 107 (dk_at dksX2_assign_5 15 rfl rfl)
theorem dX2_assign_138 : decode cX2_assign 138 = .ok (.aload_n 0, 1) := dk_42 (dk_at dksX2_assign_5 18 rfl rfl)
theorem dX2_assign_139 : decode cX2_assign 139 = .ok (.getfield 70, 3) := dk_180 0 70 (dk_at dksX2_assign_5 19 rfl rfl)
theorem dX2_assign_142 : decode cX2_assign 142 = .ok (.daload, 1) := dk_49 (dk_at dksX2_assign_5 22 rfl rfl)
theorem dX2_assign_143 : decode cX2_assign 143 = .ok (.dstore 5, 2) := dk_57 5 (dk_at dksX2_assign_6 0 rfl rfl)
theorem dX2_assign_145 : decode cX2_assign 145 = .ok (.aload_n 0, 1) := dk_42 (dk_at dksX2_assign_6 2 rfl rfl)
theorem dX2_assign_146 : decode cX2_assign 146 = .ok (.dup, 1) := dk_89 (dk_at dksX2_assign_6 3 rfl rfl)
theorem dX2_assign_147 : decode cX2_assign 147 = .ok (.getfield 70, 3) := dk_180 0 70 (dk_at dksX2_assign_6 4 rfl rfl)
theorem dX2_assign_150 : decode cX2_assign 150 = .ok (.iconst 1, 1) := dk_4 (dk_at dksX2_assign_6 7 rfl rfl)
theorem dX2_assign_151 : decode cX2_assign 151 = .ok (.iadd, 1) := dk_96 (dk_at dksX2_assign_6 8 rfl rfl)
theorem dX2_assign_152 : decode cX2_assign 152 = .ok (.putfield 70, 3) := dk_181 0 70 (dk_at dksX2_assign_6 9 rfl rfl)
theorem dX2_assign_155 : decode cX2_assign 155 = .ok (.aload_n 0, 1) := dk_42 (dk_at dksX2_assign_6 12 rfl rfl)
theorem dX2_assign_156 : decode cX2_assign 156 = .ok (.getfield 94, 3) := dk_180 0 94 (dk_at dksX2_assign_6 13 rfl rfl)
theorem dX2_assign_159 : decode cX2_assign 159 = .ok (.ifCond .eq 4, 3) := dk_153 0 4 (dk_at dksX2_assign_6 16 rfl rfl)
theorem dX2_assign_162 : decode cX2_assign 162 = .ok (.return_, 1) := dk_177 (dk_at dksX2_assign_6 19 rfl rfl)
theorem dX2_assign_163 : decode cX2_assign 163 = .ok (.iload_n 3, 1) := dk_29 (dk_at dksX2_assign_6 20 rfl rfl)
theorem dX2_assign_164 : decode cX2_assign 164 = .ok (.bipush 25, 2) := dk_16 25 (dk_at dksX2_assign_6 21 rfl rfl)
theorem dX2_assign_166 : decode cX2_assign 166 = .ok (.if_icmp .le 15, 3) := dk_164 0 15 (dk_at dksX2_assign_7 0 rfl rfl)
theorem dX2_assign_169 : decode cX2_assign 169 = .ok (.aload_n 0, 1) := dk_42 (dk_at dksX2_assign_7 3 rfl rfl)
theorem dX2_assign_170 : decode cX2_assign 170 = .ok (.getfield 119, 3) := dk_180 0 119 (dk_at dksX2_assign_7 4 rfl rfl)
theorem dX2_assign_173 : decode cX2_assign 173 = .ok (.iload 4, 2) := dk_21 4 (dk_at dksX2_assign_7 7 rfl rfl)
theorem dX2_assign_175 : decode cX2_assign 175 = .ok (.dload 5, 2) := dk_24 5 (dk_at dksX2_assign_7 9 rfl rfl)
theorem dX2_assign_177 : decode cX2_assign 177 = .ok (.dastore, 1) := dk_82 (dk_at dksX2_assign_7 11 rfl rfl)
theorem dX2_assign_178 : decode cX2_assign 178 = .ok (.goto 11, 3) := dk_167 0 11 (dk_at dksX2_assign_7 12 rfl rfl)
theorem dX2_assign_181 : decode cX2_assign 181 = .ok (.aload_n 0, 1) := dk_42 (dk_at dksX2_assign_7 15 rfl rfl)
theorem dX2_assign_182 : decode cX2_assign 182 = .ok (.getfield 101, 3) := dk_180 0 101 (dk_at dksX2_assign_7 16 rfl rfl)
theorem dX2_assign_185 : decode cX2_assign 185 = .ok (.iload_n 3, 1) := dk_29 (dk_at dksX2_assign_7 19 rfl rfl)
theorem dX2_assign_186 : decode cX2_assign 186 = .ok (.dload 5, 2) := dk_24 5 (dk_at dksX2_assign_7 20 rfl rfl)
theorem dX2_assign_188 : decode cX2_assign 188 = .ok (.dastore, 1) := dk_82 (dk_at dksX2_assign_7 22 rfl rfl)
theorem dX2_assign_189 : decode cX2_assign 189 = .ok (.return_, 1) := dk_177 (dk_at dksX2_assign_7 23 rfl rfl)
abbrev cX2_work : ByteArray := prog_32_method_58_code
def yX2_work : MethodName := ⟨RX2, "work", "(I)D"⟩
def dkwX2_work_3 : List UInt8 := [180, 0, 85, 46, 61, 167, 255, 195, 42, 180, 0, 85, 158, 0, 10, 42, 182, 1, 130, 167, 255, 245, 14, 175]
abbrev dktX2_work_3 : List UInt8 := dkwX2_work_3 ++ []
def dkwX2_work_2 : List UInt8 := [180, 0, 85, 154, 0, 10, 42, 180, 0, 104, 3, 49, 175, 42, 182, 1, 130, 42, 180, 0, 143, 42]
abbrev dktX2_work_2 : List UInt8 := dkwX2_work_2 ++ dktX2_work_3
def dkwX2_work_1 : List UInt8 := [46, 16, 14, 159, 0, 18, 42, 42, 180, 0, 55, 28, 46, 28, 182, 1, 127, 61, 167, 255, 226, 42]
abbrev dktX2_work_1 : List UInt8 := dkwX2_work_1 ++ dktX2_work_2
def dkwX2_work_0 : List UInt8 := [27, 61, 42, 3, 181, 0, 88, 42, 3, 181, 0, 85, 42, 180, 0, 94, 154, 0, 60, 42, 180, 0, 55, 28]
abbrev dktX2_work_0 : List UInt8 := dkwX2_work_0 ++ dktX2_work_1
theorem dksX2_work_0 : cX2_work.data.toList.drop 0 = dktX2_work_0 := by decide +kernel
theorem dksX2_work_1 : cX2_work.data.toList.drop 24 = dktX2_work_1 := dk_seg dksX2_work_0 24 rfl rfl
theorem dksX2_work_2 : cX2_work.data.toList.drop 46 = dktX2_work_2 := dk_seg dksX2_work_1 22 rfl rfl
theorem dksX2_work_3 : cX2_work.data.toList.drop 68 = dktX2_work_3 := dk_seg dksX2_work_2 22 rfl rfl
theorem dX2_work_0 : decode cX2_work 0 = .ok (.iload_n 1, 1) := dk_27 (dk_at dksX2_work_0 0 rfl rfl)
theorem dX2_work_1 : decode cX2_work 1 = .ok (.istore_n 2, 1) := dk_61 (dk_at dksX2_work_0 1 rfl rfl)
theorem dX2_work_2 : decode cX2_work 2 = .ok (.aload_n 0, 1) := dk_42 (dk_at dksX2_work_0 2 rfl rfl)
theorem dX2_work_3 : decode cX2_work 3 = .ok (.iconst 0, 1) := dk_3 (dk_at dksX2_work_0 3 rfl rfl)
theorem dX2_work_4 : decode cX2_work 4 = .ok (.putfield 88, 3) := dk_181 0 88 (dk_at dksX2_work_0 4 rfl rfl)
theorem dX2_work_7 : decode cX2_work 7 = .ok (.aload_n 0, 1) := dk_42 (dk_at dksX2_work_0 7 rfl rfl)
theorem dX2_work_8 : decode cX2_work 8 = .ok (.iconst 0, 1) := dk_3 (dk_at dksX2_work_0 8 rfl rfl)
theorem dX2_work_9 : decode cX2_work 9 = .ok (.putfield 85, 3) := dk_181 0 85 (dk_at dksX2_work_0 9 rfl rfl)
theorem dX2_work_12 : decode cX2_work 12 = .ok (.aload_n 0, 1) := dk_42 (dk_at dksX2_work_0 12 rfl rfl)
theorem dX2_work_13 : decode cX2_work 13 = .ok (.getfield 94, 3) := dk_180 0 94 (dk_at dksX2_work_0 13 rfl rfl)
theorem dX2_work_16 : decode cX2_work 16 = .ok (.ifCond .ne 60, 3) := dk_154 0 60 (dk_at dksX2_work_0 16 rfl rfl)
theorem dX2_work_19 : decode cX2_work 19 = .ok (.aload_n 0, 1) := dk_42 (dk_at dksX2_work_0 19 rfl rfl)
theorem dX2_work_20 : decode cX2_work 20 = .ok (.getfield 55, 3) := dk_180 0 55 (dk_at dksX2_work_0 20 rfl rfl)
theorem dX2_work_23 : decode cX2_work 23 = .ok (.iload_n 2, 1) := dk_28 (dk_at dksX2_work_0 23 rfl rfl)
theorem dX2_work_24 : decode cX2_work 24 = .ok (.iaload, 1) := dk_46 (dk_at dksX2_work_1 0 rfl rfl)
theorem dX2_work_25 : decode cX2_work 25 = .ok (.bipush 14, 2) := dk_16 14 (dk_at dksX2_work_1 1 rfl rfl)
theorem dX2_work_27 : decode cX2_work 27 = .ok (.if_icmp .eq 18, 3) := dk_159 0 18 (dk_at dksX2_work_1 3 rfl rfl)
theorem dX2_work_30 : decode cX2_work 30 = .ok (.aload_n 0, 1) := dk_42 (dk_at dksX2_work_1 6 rfl rfl)
theorem dX2_work_31 : decode cX2_work 31 = .ok (.aload_n 0, 1) := dk_42 (dk_at dksX2_work_1 7 rfl rfl)
theorem dX2_work_32 : decode cX2_work 32 = .ok (.getfield 55, 3) := dk_180 0 55 (dk_at dksX2_work_1 8 rfl rfl)
theorem dX2_work_35 : decode cX2_work 35 = .ok (.iload_n 2, 1) := dk_28 (dk_at dksX2_work_1 11 rfl rfl)
theorem dX2_work_36 : decode cX2_work 36 = .ok (.iaload, 1) := dk_46 (dk_at dksX2_work_1 12 rfl rfl)
theorem dX2_work_37 : decode cX2_work 37 = .ok (.iload_n 2, 1) := dk_28 (dk_at dksX2_work_1 13 rfl rfl)
theorem dX2_work_38 : decode cX2_work 38 = .ok (.invokevirtual 383, 3) := dk_182 1 127 (dk_at dksX2_work_1 14 rfl rfl)
theorem dX2_work_41 : decode cX2_work 41 = .ok (.istore_n 2, 1) := dk_61 (dk_at dksX2_work_1 17 rfl rfl)
theorem dX2_work_42 : decode cX2_work 42 = .ok (.goto (-30), 3) := dk_167 255 226 (dk_at dksX2_work_1 18 rfl rfl)
theorem dX2_work_45 : decode cX2_work 45 = .ok (.aload_n 0, 1) := dk_42 (dk_at dksX2_work_1 21 rfl rfl)
theorem dX2_work_46 : decode cX2_work 46 = .ok (.getfield 85, 3) := dk_180 0 85 (dk_at dksX2_work_2 0 rfl rfl)
theorem dX2_work_49 : decode cX2_work 49 = .ok (.ifCond .ne 10, 3) := dk_154 0 10 (dk_at dksX2_work_2 3 rfl rfl)
theorem dX2_work_52 : decode cX2_work 52 = .ok (.aload_n 0, 1) := dk_42 (dk_at dksX2_work_2 6 rfl rfl)
theorem dX2_work_53 : decode cX2_work 53 = .ok (.getfield 104, 3) := dk_180 0 104 (dk_at dksX2_work_2 7 rfl rfl)
theorem dX2_work_56 : decode cX2_work 56 = .ok (.iconst 0, 1) := dk_3 (dk_at dksX2_work_2 10 rfl rfl)
theorem dX2_work_57 : decode cX2_work 57 = .ok (.daload, 1) := dk_49 (dk_at dksX2_work_2 11 rfl rfl)
theorem dX2_work_58 : decode cX2_work 58 = .ok (.dreturn, 1) := dk_175 (dk_at dksX2_work_2 12 rfl rfl)
theorem dX2_work_59 : decode cX2_work 59 = .ok (.aload_n 0, 1) := dk_42 (dk_at dksX2_work_2 13 rfl rfl)
theorem dX2_work_60 : decode cX2_work 60 = .ok (.invokevirtual 386, 3) := dk_182 1 130 (dk_at dksX2_work_2 14 rfl rfl)
theorem dX2_work_63 : decode cX2_work 63 = .ok (.aload_n 0, 1) := dk_42 (dk_at dksX2_work_2 17 rfl rfl)
theorem dX2_work_64 : decode cX2_work 64 = .ok (.getfield 143, 3) := dk_180 0 143 (dk_at dksX2_work_2 18 rfl rfl)
theorem dX2_work_67 : decode cX2_work 67 = .ok (.aload_n 0, 1) := dk_42 (dk_at dksX2_work_2 21 rfl rfl)
theorem dX2_work_68 : decode cX2_work 68 = .ok (.getfield 85, 3) := dk_180 0 85 (dk_at dksX2_work_3 0 rfl rfl)
theorem dX2_work_71 : decode cX2_work 71 = .ok (.iaload, 1) := dk_46 (dk_at dksX2_work_3 3 rfl rfl)
theorem dX2_work_72 : decode cX2_work 72 = .ok (.istore_n 2, 1) := dk_61 (dk_at dksX2_work_3 4 rfl rfl)
theorem dX2_work_73 : decode cX2_work 73 = .ok (.goto (-61), 3) := dk_167 255 195 (dk_at dksX2_work_3 5 rfl rfl)
theorem dX2_work_76 : decode cX2_work 76 = .ok (.aload_n 0, 1) := dk_42 (dk_at dksX2_work_3 8 rfl rfl)
theorem dX2_work_77 : decode cX2_work 77 = .ok (.getfield 85, 3) := dk_180 0 85 (dk_at dksX2_work_3 9 rfl rfl)
theorem dX2_work_80 : decode cX2_work 80 = .ok (.ifCond .le 10, 3) := dk_158 0 10 (dk_at dksX2_work_3 12 rfl rfl)
theorem dX2_work_83 : decode cX2_work 83 = .ok (.aload_n 0, 1) := dk_42 (dk_at dksX2_work_3 15 rfl rfl)
theorem dX2_work_84 : decode cX2_work 84 = .ok (.invokevirtual 386, 3) := dk_182 1 130 (dk_at dksX2_work_3 16 rfl rfl)
theorem dX2_work_87 : decode cX2_work 87 = .ok (.goto (-11), 3) := dk_167 255 245 (dk_at dksX2_work_3 19 rfl rfl)
theorem dX2_work_90 : decode cX2_work 90 = .ok (.dconst 0, 1) := dk_14 (dk_at dksX2_work_3 22 rfl rfl)
theorem dX2_work_91 : decode cX2_work 91 = .ok (.dreturn, 1) := dk_175 (dk_at dksX2_work_3 23 rfl rfl)
abbrev cX2_operate : ByteArray := prog_32_method_57_code
def yX2_operate : MethodName := ⟨RX2, "operate", "(II)I"⟩
def dkwX2_operate_11 : List UInt8 := [180, 0, 125, 29, 46, 156, 0, 8, 42, 6, 181, 0, 94, 28, 5, 96, 172]
abbrev dktX2_operate_11 : List UInt8 := dkwX2_operate_11 ++ []
def dkwX2_operate_10 : List UInt8 := [182, 1, 120, 82, 28, 4, 96, 172, 27, 16, 13, 160, 0, 12, 42, 29, 28, 5, 96, 182, 1, 124, 172, 42]
abbrev dktX2_operate_10 : List UInt8 := dkwX2_operate_10 ++ dktX2_operate_11
def dkwX2_operate_9 : List UInt8 := [180, 0, 104, 42, 180, 0, 88, 4, 100, 42, 27, 42, 180, 0, 104, 42, 180, 0, 88, 4, 100, 49]
abbrev dktX2_operate_9 : List UInt8 := dkwX2_operate_9 ++ dktX2_operate_10
def dkwX2_operate_8 : List UInt8 := [180, 0, 104, 42, 180, 0, 88, 49, 182, 1, 116, 82, 28, 4, 96, 172, 27, 16, 12, 162, 0, 34, 42]
abbrev dktX2_operate_8 : List UInt8 := dkwX2_operate_8 ++ dktX2_operate_9
def dkwX2_operate_7 : List UInt8 := [180, 0, 104, 42, 180, 0, 88, 4, 100, 42, 27, 42, 180, 0, 104, 42, 180, 0, 88, 4, 100, 49, 42]
abbrev dktX2_operate_7 : List UInt8 := dkwX2_operate_7 ++ dktX2_operate_8
def dkwX2_operate_6 : List UInt8 := [82, 28, 5, 96, 172, 27, 16, 8, 162, 0, 53, 42, 89, 180, 0, 88, 4, 100, 181, 0, 88, 42]
abbrev dktX2_operate_6 : List UInt8 := dkwX2_operate_6 ++ dktX2_operate_7
def dkwX2_operate_5 : List UInt8 := [54, 4, 21, 4, 155, 0, 21, 42, 180, 0, 104, 42, 180, 0, 88, 4, 100, 42, 180, 0, 119, 21, 4, 49]
abbrev dktX2_operate_5 : List UInt8 := dkwX2_operate_5 ++ dktX2_operate_6
def dkwX2_operate_4 : List UInt8 := [42, 180, 0, 104, 42, 180, 0, 88, 4, 100, 49, 42, 180, 0, 104, 42, 180, 0, 88, 49, 182, 1, 112]
abbrev dktX2_operate_4 : List UInt8 := dkwX2_operate_4 ++ dktX2_operate_5
def dkwX2_operate_3 : List UInt8 := [181, 0, 88, 28, 5, 96, 172, 27, 5, 160, 0, 67, 42, 89, 180, 0, 88, 4, 100, 181, 0, 88, 42, 29]
abbrev dktX2_operate_3 : List UInt8 := dkwX2_operate_3 ++ dktX2_operate_4
def dkwX2_operate_2 : List UInt8 := [42, 180, 0, 104, 42, 180, 0, 88, 42, 180, 0, 101, 29, 49, 82, 42, 89, 180, 0, 88, 4, 96]
abbrev dktX2_operate_2 : List UInt8 := dkwX2_operate_2 ++ dktX2_operate_3
def dkwX2_operate_1 : List UInt8 := [96, 182, 1, 108, 82, 42, 89, 180, 0, 88, 4, 96, 181, 0, 88, 28, 6, 96, 172, 27, 4, 160, 0, 32]
abbrev dktX2_operate_1 : List UInt8 := dkwX2_operate_1 ++ dktX2_operate_2
def dkwX2_operate_0 : List UInt8 := [42, 180, 0, 55, 28, 4, 96, 46, 62, 27, 154, 0, 33, 42, 180, 0, 104, 42, 180, 0, 88, 42, 28, 4]
abbrev dktX2_operate_0 : List UInt8 := dkwX2_operate_0 ++ dktX2_operate_1
theorem dksX2_operate_0 : cX2_operate.data.toList.drop 0 = dktX2_operate_0 := by decide +kernel
theorem dksX2_operate_1 : cX2_operate.data.toList.drop 24 = dktX2_operate_1 := dk_seg dksX2_operate_0 24 rfl rfl
theorem dksX2_operate_2 : cX2_operate.data.toList.drop 48 = dktX2_operate_2 := dk_seg dksX2_operate_1 24 rfl rfl
theorem dksX2_operate_3 : cX2_operate.data.toList.drop 70 = dktX2_operate_3 := dk_seg dksX2_operate_2 22 rfl rfl
theorem dksX2_operate_4 : cX2_operate.data.toList.drop 94 = dktX2_operate_4 := dk_seg dksX2_operate_3 24 rfl rfl
theorem dksX2_operate_5 : cX2_operate.data.toList.drop 117 = dktX2_operate_5 := dk_seg dksX2_operate_4 23 rfl rfl
theorem dksX2_operate_6 : cX2_operate.data.toList.drop 141 = dktX2_operate_6 := dk_seg dksX2_operate_5 24 rfl rfl
theorem dksX2_operate_7 : cX2_operate.data.toList.drop 163 = dktX2_operate_7 := dk_seg dksX2_operate_6 22 rfl rfl
theorem dksX2_operate_8 : cX2_operate.data.toList.drop 186 = dktX2_operate_8 := dk_seg dksX2_operate_7 23 rfl rfl
theorem dksX2_operate_9 : cX2_operate.data.toList.drop 209 = dktX2_operate_9 := dk_seg dksX2_operate_8 23 rfl rfl
theorem dksX2_operate_10 : cX2_operate.data.toList.drop 231 = dktX2_operate_10 := dk_seg dksX2_operate_9 22 rfl rfl
theorem dksX2_operate_11 : cX2_operate.data.toList.drop 255 = dktX2_operate_11 := dk_seg dksX2_operate_10 24 rfl rfl
theorem dX2_operate_0 : decode cX2_operate 0 = .ok (.aload_n 0, 1) := dk_42 (dk_at dksX2_operate_0 0 rfl rfl)
theorem dX2_operate_1 : decode cX2_operate 1 = .ok (.getfield 55, 3) := dk_180 0 55 (dk_at dksX2_operate_0 1 rfl rfl)
theorem dX2_operate_4 : decode cX2_operate 4 = .ok (.iload_n 2, 1) := dk_28 (dk_at dksX2_operate_0 4 rfl rfl)
theorem dX2_operate_5 : decode cX2_operate 5 = .ok (.iconst 1, 1) := dk_4 (dk_at dksX2_operate_0 5 rfl rfl)
theorem dX2_operate_6 : decode cX2_operate 6 = .ok (.iadd, 1) := dk_96 (dk_at dksX2_operate_0 6 rfl rfl)
theorem dX2_operate_7 : decode cX2_operate 7 = .ok (.iaload, 1) := dk_46 (dk_at dksX2_operate_0 7 rfl rfl)
theorem dX2_operate_8 : decode cX2_operate 8 = .ok (.istore_n 3, 1) := dk_62 (dk_at dksX2_operate_0 8 rfl rfl)
theorem dX2_operate_9 : decode cX2_operate 9 = .ok (.iload_n 1, 1) := dk_27 (dk_at dksX2_operate_0 9 rfl rfl)
theorem dX2_operate_10 : decode cX2_operate 10 = .ok (.ifCond .ne 33, 3) := dk_154 0 33 (dk_at dksX2_operate_0 10 rfl rfl)
theorem dX2_operate_13 : decode cX2_operate 13 = .ok (.aload_n 0, 1) := dk_42 (dk_at dksX2_operate_0 13 rfl rfl)
theorem dX2_operate_14 : decode cX2_operate 14 = .ok (.getfield 104, 3) := dk_180 0 104 (dk_at dksX2_operate_0 14 rfl rfl)
theorem dX2_operate_17 : decode cX2_operate 17 = .ok (.aload_n 0, 1) := dk_42 (dk_at dksX2_operate_0 17 rfl rfl)
theorem dX2_operate_18 : decode cX2_operate 18 = .ok (.getfield 88, 3) := dk_180 0 88 (dk_at dksX2_operate_0 18 rfl rfl)
theorem dX2_operate_21 : decode cX2_operate 21 = .ok (.aload_n 0, 1) := dk_42 (dk_at dksX2_operate_0 21 rfl rfl)
theorem dX2_operate_22 : decode cX2_operate 22 = .ok (.iload_n 2, 1) := dk_28 (dk_at dksX2_operate_0 22 rfl rfl)
theorem dX2_operate_23 : decode cX2_operate 23 = .ok (.iconst 1, 1) := dk_4 (dk_at dksX2_operate_0 23 rfl rfl)
theorem dX2_operate_24 : decode cX2_operate 24 = .ok (.iadd, 1) := dk_96 (dk_at dksX2_operate_1 0 rfl rfl)
theorem dX2_operate_25 : decode cX2_operate 25 = .ok (.invokevirtual 364, 3) := dk_182 1 108 (dk_at dksX2_operate_1 1 rfl rfl)
theorem dX2_operate_28 : decode cX2_operate 28 = .ok (.dastore, 1) := dk_82 (dk_at dksX2_operate_1 4 rfl rfl)
theorem dX2_operate_29 : decode cX2_operate 29 = .ok (.aload_n 0, 1) := dk_42 (dk_at dksX2_operate_1 5 rfl rfl)
theorem dX2_operate_30 : decode cX2_operate 30 = .ok (.dup, 1) := dk_89 (dk_at dksX2_operate_1 6 rfl rfl)
theorem dX2_operate_31 : decode cX2_operate 31 = .ok (.getfield 88, 3) := dk_180 0 88 (dk_at dksX2_operate_1 7 rfl rfl)
theorem dX2_operate_34 : decode cX2_operate 34 = .ok (.iconst 1, 1) := dk_4 (dk_at dksX2_operate_1 10 rfl rfl)
theorem dX2_operate_35 : decode cX2_operate 35 = .ok (.iadd, 1) := dk_96 (dk_at dksX2_operate_1 11 rfl rfl)
theorem dX2_operate_36 : decode cX2_operate 36 = .ok (.putfield 88, 3) := dk_181 0 88 (dk_at dksX2_operate_1 12 rfl rfl)
theorem dX2_operate_39 : decode cX2_operate 39 = .ok (.iload_n 2, 1) := dk_28 (dk_at dksX2_operate_1 15 rfl rfl)
theorem dX2_operate_40 : decode cX2_operate 40 = .ok (.iconst 3, 1) := dk_6 (dk_at dksX2_operate_1 16 rfl rfl)
theorem dX2_operate_41 : decode cX2_operate 41 = .ok (.iadd, 1) := dk_96 (dk_at dksX2_operate_1 17 rfl rfl)
theorem dX2_operate_42 : decode cX2_operate 42 = .ok (.ireturn, 1) := dk_172 (dk_at dksX2_operate_1 18 rfl rfl)
theorem dX2_operate_43 : decode cX2_operate 43 = .ok (.iload_n 1, 1) := dk_27 (dk_at dksX2_operate_1 19 rfl rfl)
theorem dX2_operate_44 : decode cX2_operate 44 = .ok (.iconst 1, 1) := dk_4 (dk_at dksX2_operate_1 20 rfl rfl)
theorem dX2_operate_45 : decode cX2_operate 45 = .ok (.if_icmp .ne 32, 3) := dk_160 0 32 (dk_at dksX2_operate_1 21 rfl rfl)
theorem dX2_operate_48 : decode cX2_operate 48 = .ok (.aload_n 0, 1) := dk_42 (dk_at dksX2_operate_2 0 rfl rfl)
theorem dX2_operate_49 : decode cX2_operate 49 = .ok (.getfield 104, 3) := dk_180 0 104 (dk_at dksX2_operate_2 1 rfl rfl)
theorem dX2_operate_52 : decode cX2_operate 52 = .ok (.aload_n 0, 1) := dk_42 (dk_at dksX2_operate_2 4 rfl rfl)
theorem dX2_operate_53 : decode cX2_operate 53 = .ok (.getfield 88, 3) := dk_180 0 88 (dk_at dksX2_operate_2 5 rfl rfl)
theorem dX2_operate_56 : decode cX2_operate 56 = .ok (.aload_n 0, 1) := dk_42 (dk_at dksX2_operate_2 8 rfl rfl)
theorem dX2_operate_57 : decode cX2_operate 57 = .ok (.getfield 101, 3) := dk_180 0 101 (dk_at dksX2_operate_2 9 rfl rfl)
theorem dX2_operate_60 : decode cX2_operate 60 = .ok (.iload_n 3, 1) := dk_29 (dk_at dksX2_operate_2 12 rfl rfl)
theorem dX2_operate_61 : decode cX2_operate 61 = .ok (.daload, 1) := dk_49 (dk_at dksX2_operate_2 13 rfl rfl)
theorem dX2_operate_62 : decode cX2_operate 62 = .ok (.dastore, 1) := dk_82 (dk_at dksX2_operate_2 14 rfl rfl)
theorem dX2_operate_63 : decode cX2_operate 63 = .ok (.aload_n 0, 1) := dk_42 (dk_at dksX2_operate_2 15 rfl rfl)
theorem dX2_operate_64 : decode cX2_operate 64 = .ok (.dup, 1) := dk_89 (dk_at dksX2_operate_2 16 rfl rfl)
theorem dX2_operate_65 : decode cX2_operate 65 = .ok (.getfield 88, 3) := dk_180 0 88 (dk_at dksX2_operate_2 17 rfl rfl)
theorem dX2_operate_68 : decode cX2_operate 68 = .ok (.iconst 1, 1) := dk_4 (dk_at dksX2_operate_2 20 rfl rfl)
theorem dX2_operate_69 : decode cX2_operate 69 = .ok (.iadd, 1) := dk_96 (dk_at dksX2_operate_2 21 rfl rfl)
theorem dX2_operate_70 : decode cX2_operate 70 = .ok (.putfield 88, 3) := dk_181 0 88 (dk_at dksX2_operate_3 0 rfl rfl)
theorem dX2_operate_73 : decode cX2_operate 73 = .ok (.iload_n 2, 1) := dk_28 (dk_at dksX2_operate_3 3 rfl rfl)
theorem dX2_operate_74 : decode cX2_operate 74 = .ok (.iconst 2, 1) := dk_5 (dk_at dksX2_operate_3 4 rfl rfl)
theorem dX2_operate_75 : decode cX2_operate 75 = .ok (.iadd, 1) := dk_96 (dk_at dksX2_operate_3 5 rfl rfl)
theorem dX2_operate_76 : decode cX2_operate 76 = .ok (.ireturn, 1) := dk_172 (dk_at dksX2_operate_3 6 rfl rfl)
theorem dX2_operate_77 : decode cX2_operate 77 = .ok (.iload_n 1, 1) := dk_27 (dk_at dksX2_operate_3 7 rfl rfl)
theorem dX2_operate_78 : decode cX2_operate 78 = .ok (.iconst 2, 1) := dk_5 (dk_at dksX2_operate_3 8 rfl rfl)
theorem dX2_operate_79 : decode cX2_operate 79 = .ok (.if_icmp .ne 67, 3) := dk_160 0 67 (dk_at dksX2_operate_3 9 rfl rfl)
theorem dX2_operate_82 : decode cX2_operate 82 = .ok (.aload_n 0, 1) := dk_42 (dk_at dksX2_operate_3 12 rfl rfl)
theorem dX2_operate_83 : decode cX2_operate 83 = .ok (.dup, 1) := dk_89 (dk_at dksX2_operate_3 13 rfl rfl)
theorem dX2_operate_84 : decode cX2_operate 84 = .ok (.getfield 88, 3) := dk_180 0 88 (dk_at dksX2_operate_3 14 rfl rfl)
theorem dX2_operate_87 : decode cX2_operate 87 = .ok (.iconst 1, 1) := dk_4 (dk_at dksX2_operate_3 17 rfl rfl)
theorem dX2_operate_88 : decode cX2_operate 88 = .ok (.isub, 1) := dk_100 (dk_at dksX2_operate_3 18 rfl rfl)
theorem dX2_operate_89 : decode cX2_operate 89 = .ok (.putfield 88, 3) := dk_181 0 88 (dk_at dksX2_operate_3 19 rfl rfl)
theorem dX2_operate_92 : decode cX2_operate 92 = .ok (.aload_n 0, 1) := dk_42 (dk_at dksX2_operate_3 22 rfl rfl)
theorem dX2_operate_93 : decode cX2_operate 93 = .ok (.iload_n 3, 1) := dk_29 (dk_at dksX2_operate_3 23 rfl rfl)
theorem dX2_operate_94 : decode cX2_operate 94 = .ok (.aload_n 0, 1) := dk_42 (dk_at dksX2_operate_4 0 rfl rfl)
theorem dX2_operate_95 : decode cX2_operate 95 = .ok (.getfield 104, 3) := dk_180 0 104 (dk_at dksX2_operate_4 1 rfl rfl)
theorem dX2_operate_98 : decode cX2_operate 98 = .ok (.aload_n 0, 1) := dk_42 (dk_at dksX2_operate_4 4 rfl rfl)
theorem dX2_operate_99 : decode cX2_operate 99 = .ok (.getfield 88, 3) := dk_180 0 88 (dk_at dksX2_operate_4 5 rfl rfl)
theorem dX2_operate_102 : decode cX2_operate 102 = .ok (.iconst 1, 1) := dk_4 (dk_at dksX2_operate_4 8 rfl rfl)
theorem dX2_operate_103 : decode cX2_operate 103 = .ok (.isub, 1) := dk_100 (dk_at dksX2_operate_4 9 rfl rfl)
theorem dX2_operate_104 : decode cX2_operate 104 = .ok (.daload, 1) := dk_49 (dk_at dksX2_operate_4 10 rfl rfl)
theorem dX2_operate_105 : decode cX2_operate 105 = .ok (.aload_n 0, 1) := dk_42 (dk_at dksX2_operate_4 11 rfl rfl)
theorem dX2_operate_106 : decode cX2_operate 106 = .ok (.getfield 104, 3) := dk_180 0 104 (dk_at dksX2_operate_4 12 rfl rfl)
theorem dX2_operate_109 : decode cX2_operate 109 = .ok (.aload_n 0, 1) := dk_42 (dk_at dksX2_operate_4 15 rfl rfl)
theorem dX2_operate_110 : decode cX2_operate 110 = .ok (.getfield 88, 3) := dk_180 0 88 (dk_at dksX2_operate_4 16 rfl rfl)
theorem dX2_operate_113 : decode cX2_operate 113 = .ok (.daload, 1) := dk_49 (dk_at dksX2_operate_4 19 rfl rfl)
theorem dX2_operate_114 : decode cX2_operate 114 = .ok (.invokevirtual 368, 3) := dk_182 1 112 (dk_at dksX2_operate_4 20 rfl rfl)
theorem dX2_operate_117 : decode cX2_operate 117 = .ok (.istore 4, 2) := dk_54 4 (dk_at dksX2_operate_5 0 rfl rfl)
theorem dX2_operate_119 : decode cX2_operate 119 = .ok (.iload 4, 2) := dk_21 4 (dk_at dksX2_operate_5 2 rfl rfl)
theorem dX2_operate_121 : decode cX2_operate 121 = .ok (.ifCond .lt 21, 3) := dk_155 0 21 (dk_at dksX2_operate_5 4 rfl rfl)
theorem dX2_operate_124 : decode cX2_operate 124 = .ok (.aload_n 0, 1) := dk_42 (dk_at dksX2_operate_5 7 rfl rfl)
theorem dX2_operate_125 : decode cX2_operate 125 = .ok (.getfield 104, 3) := dk_180 0 104 (dk_at dksX2_operate_5 8 rfl rfl)
theorem dX2_operate_128 : decode cX2_operate 128 = .ok (.aload_n 0, 1) := dk_42 (dk_at dksX2_operate_5 11 rfl rfl)
theorem dX2_operate_129 : decode cX2_operate 129 = .ok (.getfield 88, 3) := dk_180 0 88 (dk_at dksX2_operate_5 12 rfl rfl)
theorem dX2_operate_132 : decode cX2_operate 132 = .ok (.iconst 1, 1) := dk_4 (dk_at dksX2_operate_5 15 rfl rfl)
theorem dX2_operate_133 : decode cX2_operate 133 = .ok (.isub, 1) := dk_100 (dk_at dksX2_operate_5 16 rfl rfl)
theorem dX2_operate_134 : decode cX2_operate 134 = .ok (.aload_n 0, 1) := dk_42 (dk_at dksX2_operate_5 17 rfl rfl)
theorem dX2_operate_135 : decode cX2_operate 135 = .ok (.getfield 119, 3) := dk_180 0 119 (dk_at dksX2_operate_5 18 rfl rfl)
theorem dX2_operate_138 : decode cX2_operate 138 = .ok (.iload 4, 2) := dk_21 4 (dk_at dksX2_operate_5 21 rfl rfl)
theorem dX2_operate_140 : decode cX2_operate 140 = .ok (.daload, 1) := dk_49 (dk_at dksX2_operate_5 23 rfl rfl)
theorem dX2_operate_141 : decode cX2_operate 141 = .ok (.dastore, 1) := dk_82 (dk_at dksX2_operate_6 0 rfl rfl)
theorem dX2_operate_142 : decode cX2_operate 142 = .ok (.iload_n 2, 1) := dk_28 (dk_at dksX2_operate_6 1 rfl rfl)
theorem dX2_operate_143 : decode cX2_operate 143 = .ok (.iconst 2, 1) := dk_5 (dk_at dksX2_operate_6 2 rfl rfl)
theorem dX2_operate_144 : decode cX2_operate 144 = .ok (.iadd, 1) := dk_96 (dk_at dksX2_operate_6 3 rfl rfl)
theorem dX2_operate_145 : decode cX2_operate 145 = .ok (.ireturn, 1) := dk_172 (dk_at dksX2_operate_6 4 rfl rfl)
theorem dX2_operate_146 : decode cX2_operate 146 = .ok (.iload_n 1, 1) := dk_27 (dk_at dksX2_operate_6 5 rfl rfl)
theorem dX2_operate_147 : decode cX2_operate 147 = .ok (.bipush 8, 2) := dk_16 8 (dk_at dksX2_operate_6 6 rfl rfl)
theorem dX2_operate_149 : decode cX2_operate 149 = .ok (.if_icmp .ge 53, 3) := dk_162 0 53 (dk_at dksX2_operate_6 8 rfl rfl)
theorem dX2_operate_152 : decode cX2_operate 152 = .ok (.aload_n 0, 1) := dk_42 (dk_at dksX2_operate_6 11 rfl rfl)
theorem dX2_operate_153 : decode cX2_operate 153 = .ok (.dup, 1) := dk_89 (dk_at dksX2_operate_6 12 rfl rfl)
theorem dX2_operate_154 : decode cX2_operate 154 = .ok (.getfield 88, 3) := dk_180 0 88 (dk_at dksX2_operate_6 13 rfl rfl)
theorem dX2_operate_157 : decode cX2_operate 157 = .ok (.iconst 1, 1) := dk_4 (dk_at dksX2_operate_6 16 rfl rfl)
theorem dX2_operate_158 : decode cX2_operate 158 = .ok (.isub, 1) := dk_100 (dk_at dksX2_operate_6 17 rfl rfl)
theorem dX2_operate_159 : decode cX2_operate 159 = .ok (.putfield 88, 3) := dk_181 0 88 (dk_at dksX2_operate_6 18 rfl rfl)
theorem dX2_operate_162 : decode cX2_operate 162 = .ok (.aload_n 0, 1) := dk_42 (dk_at dksX2_operate_6 21 rfl rfl)
theorem dX2_operate_163 : decode cX2_operate 163 = .ok (.getfield 104, 3) := dk_180 0 104 (dk_at dksX2_operate_7 0 rfl rfl)
theorem dX2_operate_166 : decode cX2_operate 166 = .ok (.aload_n 0, 1) := dk_42 (dk_at dksX2_operate_7 3 rfl rfl)
theorem dX2_operate_167 : decode cX2_operate 167 = .ok (.getfield 88, 3) := dk_180 0 88 (dk_at dksX2_operate_7 4 rfl rfl)
theorem dX2_operate_170 : decode cX2_operate 170 = .ok (.iconst 1, 1) := dk_4 (dk_at dksX2_operate_7 7 rfl rfl)
theorem dX2_operate_171 : decode cX2_operate 171 = .ok (.isub, 1) := dk_100 (dk_at dksX2_operate_7 8 rfl rfl)
theorem dX2_operate_172 : decode cX2_operate 172 = .ok (.aload_n 0, 1) := dk_42 (dk_at dksX2_operate_7 9 rfl rfl)
theorem dX2_operate_173 : decode cX2_operate 173 = .ok (.iload_n 1, 1) := dk_27 (dk_at dksX2_operate_7 10 rfl rfl)
theorem dX2_operate_174 : decode cX2_operate 174 = .ok (.aload_n 0, 1) := dk_42 (dk_at dksX2_operate_7 11 rfl rfl)
theorem dX2_operate_175 : decode cX2_operate 175 = .ok (.getfield 104, 3) := dk_180 0 104 (dk_at dksX2_operate_7 12 rfl rfl)
theorem dX2_operate_178 : decode cX2_operate 178 = .ok (.aload_n 0, 1) := dk_42 (dk_at dksX2_operate_7 15 rfl rfl)
theorem dX2_operate_179 : decode cX2_operate 179 = .ok (.getfield 88, 3) := dk_180 0 88 (dk_at dksX2_operate_7 16 rfl rfl)
theorem dX2_operate_182 : decode cX2_operate 182 = .ok (.iconst 1, 1) := dk_4 (dk_at dksX2_operate_7 19 rfl rfl)
theorem dX2_operate_183 : decode cX2_operate 183 = .ok (.isub, 1) := dk_100 (dk_at dksX2_operate_7 20 rfl rfl)
theorem dX2_operate_184 : decode cX2_operate 184 = .ok (.daload, 1) := dk_49 (dk_at dksX2_operate_7 21 rfl rfl)
theorem dX2_operate_185 : decode cX2_operate 185 = .ok (.aload_n 0, 1) := dk_42 (dk_at dksX2_operate_7 22 rfl rfl)
theorem dX2_operate_186 : decode cX2_operate 186 = .ok (.getfield 104, 3) := dk_180 0 104 (dk_at dksX2_operate_8 0 rfl rfl)
theorem dX2_operate_189 : decode cX2_operate 189 = .ok (.aload_n 0, 1) := dk_42 (dk_at dksX2_operate_8 3 rfl rfl)
theorem dX2_operate_190 : decode cX2_operate 190 = .ok (.getfield 88, 3) := dk_180 0 88 (dk_at dksX2_operate_8 4 rfl rfl)
theorem dX2_operate_193 : decode cX2_operate 193 = .ok (.daload, 1) := dk_49 (dk_at dksX2_operate_8 7 rfl rfl)
theorem dX2_operate_194 : decode cX2_operate 194 = .ok (.invokevirtual 372, 3) := dk_182 1 116 (dk_at dksX2_operate_8 8 rfl rfl)
theorem dX2_operate_197 : decode cX2_operate 197 = .ok (.dastore, 1) := dk_82 (dk_at dksX2_operate_8 11 rfl rfl)
theorem dX2_operate_198 : decode cX2_operate 198 = .ok (.iload_n 2, 1) := dk_28 (dk_at dksX2_operate_8 12 rfl rfl)
theorem dX2_operate_199 : decode cX2_operate 199 = .ok (.iconst 1, 1) := dk_4 (dk_at dksX2_operate_8 13 rfl rfl)
theorem dX2_operate_200 : decode cX2_operate 200 = .ok (.iadd, 1) := dk_96 (dk_at dksX2_operate_8 14 rfl rfl)
theorem dX2_operate_201 : decode cX2_operate 201 = .ok (.ireturn, 1) := dk_172 (dk_at dksX2_operate_8 15 rfl rfl)
theorem dX2_operate_202 : decode cX2_operate 202 = .ok (.iload_n 1, 1) := dk_27 (dk_at dksX2_operate_8 16 rfl rfl)
theorem dX2_operate_203 : decode cX2_operate 203 = .ok (.bipush 12, 2) := dk_16 12 (dk_at dksX2_operate_8 17 rfl rfl)
theorem dX2_operate_205 : decode cX2_operate 205 = .ok (.if_icmp .ge 34, 3) := dk_162 0 34 (dk_at dksX2_operate_8 19 rfl rfl)
theorem dX2_operate_208 : decode cX2_operate 208 = .ok (.aload_n 0, 1) := dk_42 (dk_at dksX2_operate_8 22 rfl rfl)
theorem dX2_operate_209 : decode cX2_operate 209 = .ok (.getfield 104, 3) := dk_180 0 104 (dk_at dksX2_operate_9 0 rfl rfl)
theorem dX2_operate_212 : decode cX2_operate 212 = .ok (.aload_n 0, 1) := dk_42 (dk_at dksX2_operate_9 3 rfl rfl)
theorem dX2_operate_213 : decode cX2_operate 213 = .ok (.getfield 88, 3) := dk_180 0 88 (dk_at dksX2_operate_9 4 rfl rfl)
theorem dX2_operate_216 : decode cX2_operate 216 = .ok (.iconst 1, 1) := dk_4 (dk_at dksX2_operate_9 7 rfl rfl)
theorem dX2_operate_217 : decode cX2_operate 217 = .ok (.isub, 1) := dk_100 (dk_at dksX2_operate_9 8 rfl rfl)
theorem dX2_operate_218 : decode cX2_operate 218 = .ok (.aload_n 0, 1) := dk_42 (dk_at dksX2_operate_9 9 rfl rfl)
theorem dX2_operate_219 : decode cX2_operate 219 = .ok (.iload_n 1, 1) := dk_27 (dk_at dksX2_operate_9 10 rfl rfl)
theorem dX2_operate_220 : decode cX2_operate 220 = .ok (.aload_n 0, 1) := dk_42 (dk_at dksX2_operate_9 11 rfl rfl)
theorem dX2_operate_221 : decode cX2_operate 221 = .ok (.getfield 104, 3) := dk_180 0 104 (dk_at dksX2_operate_9 12 rfl rfl)
theorem dX2_operate_224 : decode cX2_operate 224 = .ok (.aload_n 0, 1) := dk_42 (dk_at dksX2_operate_9 15 rfl rfl)
theorem dX2_operate_225 : decode cX2_operate 225 = .ok (.getfield 88, 3) := dk_180 0 88 (dk_at dksX2_operate_9 16 rfl rfl)
theorem dX2_operate_228 : decode cX2_operate 228 = .ok (.iconst 1, 1) := dk_4 (dk_at dksX2_operate_9 19 rfl rfl)
theorem dX2_operate_229 : decode cX2_operate 229 = .ok (.isub, 1) := dk_100 (dk_at dksX2_operate_9 20 rfl rfl)
theorem dX2_operate_230 : decode cX2_operate 230 = .ok (.daload, 1) := dk_49 (dk_at dksX2_operate_9 21 rfl rfl)
theorem dX2_operate_231 : decode cX2_operate 231 = .ok (.invokevirtual 376, 3) := dk_182 1 120 (dk_at dksX2_operate_10 0 rfl rfl)
theorem dX2_operate_234 : decode cX2_operate 234 = .ok (.dastore, 1) := dk_82 (dk_at dksX2_operate_10 3 rfl rfl)
theorem dX2_operate_235 : decode cX2_operate 235 = .ok (.iload_n 2, 1) := dk_28 (dk_at dksX2_operate_10 4 rfl rfl)
theorem dX2_operate_236 : decode cX2_operate 236 = .ok (.iconst 1, 1) := dk_4 (dk_at dksX2_operate_10 5 rfl rfl)
theorem dX2_operate_237 : decode cX2_operate 237 = .ok (.iadd, 1) := dk_96 (dk_at dksX2_operate_10 6 rfl rfl)
theorem dX2_operate_238 : decode cX2_operate 238 = .ok (.ireturn, 1) := dk_172 (dk_at dksX2_operate_10 7 rfl rfl)
theorem dX2_operate_239 : decode cX2_operate 239 = .ok (.iload_n 1, 1) := dk_27 (dk_at dksX2_operate_10 8 rfl rfl)
theorem dX2_operate_240 : decode cX2_operate 240 = .ok (.bipush 13, 2) := dk_16 13 (dk_at dksX2_operate_10 9 rfl rfl)
theorem dX2_operate_242 : decode cX2_operate 242 = .ok (.if_icmp .ne 12, 3) := dk_160 0 12 (dk_at dksX2_operate_10 11 rfl rfl)
theorem dX2_operate_245 : decode cX2_operate 245 = .ok (.aload_n 0, 1) := dk_42 (dk_at dksX2_operate_10 14 rfl rfl)
theorem dX2_operate_246 : decode cX2_operate 246 = .ok (.iload_n 3, 1) := dk_29 (dk_at dksX2_operate_10 15 rfl rfl)
theorem dX2_operate_247 : decode cX2_operate 247 = .ok (.iload_n 2, 1) := dk_28 (dk_at dksX2_operate_10 16 rfl rfl)
theorem dX2_operate_248 : decode cX2_operate 248 = .ok (.iconst 2, 1) := dk_5 (dk_at dksX2_operate_10 17 rfl rfl)
theorem dX2_operate_249 : decode cX2_operate 249 = .ok (.iadd, 1) := dk_96 (dk_at dksX2_operate_10 18 rfl rfl)
theorem dX2_operate_250 : decode cX2_operate 250 = .ok (.invokevirtual 380, 3) := dk_182 1 124 (dk_at dksX2_operate_10 19 rfl rfl)
theorem dX2_operate_253 : decode cX2_operate 253 = .ok (.ireturn, 1) := dk_172 (dk_at dksX2_operate_10 22 rfl rfl)
theorem dX2_operate_254 : decode cX2_operate 254 = .ok (.aload_n 0, 1) := dk_42 (dk_at dksX2_operate_10 23 rfl rfl)
theorem dX2_operate_255 : decode cX2_operate 255 = .ok (.getfield 125, 3) := dk_180 0 125 (dk_at dksX2_operate_11 0 rfl rfl)
theorem dX2_operate_258 : decode cX2_operate 258 = .ok (.iload_n 3, 1) := dk_29 (dk_at dksX2_operate_11 3 rfl rfl)
theorem dX2_operate_259 : decode cX2_operate 259 = .ok (.iaload, 1) := dk_46 (dk_at dksX2_operate_11 4 rfl rfl)
theorem dX2_operate_260 : decode cX2_operate 260 = .ok (.ifCond .ge 8, 3) := dk_156 0 8 (dk_at dksX2_operate_11 5 rfl rfl)
theorem dX2_operate_263 : decode cX2_operate 263 = .ok (.aload_n 0, 1) := dk_42 (dk_at dksX2_operate_11 8 rfl rfl)
theorem dX2_operate_264 : decode cX2_operate 264 = .ok (.iconst 3, 1) := dk_6 (dk_at dksX2_operate_11 9 rfl rfl)
theorem dX2_operate_265 : decode cX2_operate 265 = .ok (.putfield 94, 3) := dk_181 0 94 (dk_at dksX2_operate_11 10 rfl rfl)
theorem dX2_operate_268 : decode cX2_operate 268 = .ok (.iload_n 2, 1) := dk_28 (dk_at dksX2_operate_11 13 rfl rfl)
theorem dX2_operate_269 : decode cX2_operate 269 = .ok (.iconst 2, 1) := dk_5 (dk_at dksX2_operate_11 14 rfl rfl)
theorem dX2_operate_270 : decode cX2_operate 270 = .ok (.iadd, 1) := dk_96 (dk_at dksX2_operate_11 15 rfl rfl)
theorem dX2_operate_271 : decode cX2_operate 271 = .ok (.ireturn, 1) := dk_172 (dk_at dksX2_operate_11 16 rfl rfl)
abbrev cX2_placeOf : ByteArray := prog_32_method_54_code
def yX2_placeOf : MethodName := ⟨RX2, "placeOf", "(IDD)I"⟩
def dkwX2_placeOf_3 : List UInt8 := [22, 8, 10, 101, 136, 96, 172]
abbrev dktX2_placeOf_3 : List UInt8 := dkwX2_placeOf_3 ++ []
def dkwX2_placeOf_2 : List UInt8 := [158, 0, 10, 42, 8, 181, 0, 94, 2, 172, 27, 16, 36, 104, 22, 6, 10, 101, 136, 16, 6, 104, 96]
abbrev dktX2_placeOf_2 : List UInt8 := dkwX2_placeOf_2 ++ dktX2_placeOf_3
def dkwX2_placeOf_1 : List UInt8 := [133, 148, 157, 0, 23, 22, 8, 10, 148, 155, 0, 16, 22, 8, 42, 180, 0, 131, 27, 46, 133, 148]
abbrev dktX2_placeOf_1 : List UInt8 := dkwX2_placeOf_1 ++ dktX2_placeOf_2
def dkwX2_placeOf_0 : List UInt8 := [40, 143, 55, 6, 24, 4, 143, 55, 8, 22, 6, 10, 148, 155, 0, 36, 22, 6, 42, 180, 0, 128, 27, 46]
abbrev dktX2_placeOf_0 : List UInt8 := dkwX2_placeOf_0 ++ dktX2_placeOf_1
theorem dksX2_placeOf_0 : cX2_placeOf.data.toList.drop 0 = dktX2_placeOf_0 := by decide +kernel
theorem dksX2_placeOf_1 : cX2_placeOf.data.toList.drop 24 = dktX2_placeOf_1 := dk_seg dksX2_placeOf_0 24 rfl rfl
theorem dksX2_placeOf_2 : cX2_placeOf.data.toList.drop 46 = dktX2_placeOf_2 := dk_seg dksX2_placeOf_1 22 rfl rfl
theorem dksX2_placeOf_3 : cX2_placeOf.data.toList.drop 69 = dktX2_placeOf_3 := dk_seg dksX2_placeOf_2 23 rfl rfl
theorem dX2_placeOf_0 : decode cX2_placeOf 0 = .ok (.dload_n 2, 1) := dk_40 (dk_at dksX2_placeOf_0 0 rfl rfl)
theorem dX2_placeOf_1 : decode cX2_placeOf 1 = .ok (.d2l, 1) := dk_143 (dk_at dksX2_placeOf_0 1 rfl rfl)
theorem dX2_placeOf_2 : decode cX2_placeOf 2 = .ok (.lstore 6, 2) := dk_55 6 (dk_at dksX2_placeOf_0 2 rfl rfl)
theorem dX2_placeOf_4 : decode cX2_placeOf 4 = .ok (.dload 4, 2) := dk_24 4 (dk_at dksX2_placeOf_0 4 rfl rfl)
theorem dX2_placeOf_6 : decode cX2_placeOf 6 = .ok (.d2l, 1) := dk_143 (dk_at dksX2_placeOf_0 6 rfl rfl)
theorem dX2_placeOf_7 : decode cX2_placeOf 7 = .ok (.lstore 8, 2) := dk_55 8 (dk_at dksX2_placeOf_0 7 rfl rfl)
theorem dX2_placeOf_9 : decode cX2_placeOf 9 = .ok (.lload 6, 2) := dk_22 6 (dk_at dksX2_placeOf_0 9 rfl rfl)
theorem dX2_placeOf_11 : decode cX2_placeOf 11 = .ok (.lconst 1, 1) := dk_10 (dk_at dksX2_placeOf_0 11 rfl rfl)
theorem dX2_placeOf_12 : decode cX2_placeOf 12 = .ok (.lcmp, 1) := dk_148 (dk_at dksX2_placeOf_0 12 rfl rfl)
theorem dX2_placeOf_13 : decode cX2_placeOf 13 = .ok (.ifCond .lt 36, 3) := dk_155 0 36 (dk_at dksX2_placeOf_0 13 rfl rfl)
theorem dX2_placeOf_16 : decode cX2_placeOf 16 = .ok (.lload 6, 2) := dk_22 6 (dk_at dksX2_placeOf_0 16 rfl rfl)
theorem dX2_placeOf_18 : decode cX2_placeOf 18 = .ok (.aload_n 0, 1) := dk_42 (dk_at dksX2_placeOf_0 18 rfl rfl)
theorem dX2_placeOf_19 : decode cX2_placeOf 19 = .ok (.getfield 128, 3) := dk_180 0 128 (dk_at dksX2_placeOf_0 19 rfl rfl)
theorem dX2_placeOf_22 : decode cX2_placeOf 22 = .ok (.iload_n 1, 1) := dk_27 (dk_at dksX2_placeOf_0 22 rfl rfl)
theorem dX2_placeOf_23 : decode cX2_placeOf 23 = .ok (.iaload, 1) := dk_46 (dk_at dksX2_placeOf_0 23 rfl rfl)
theorem dX2_placeOf_24 : decode cX2_placeOf 24 = .ok (.i2l, 1) := dk_133 (dk_at dksX2_placeOf_1 0 rfl rfl)
theorem dX2_placeOf_25 : decode cX2_placeOf 25 = .ok (.lcmp, 1) := dk_148 (dk_at dksX2_placeOf_1 1 rfl rfl)
theorem dX2_placeOf_26 : decode cX2_placeOf 26 = .ok (.ifCond .gt 23, 3) := dk_157 0 23 (dk_at dksX2_placeOf_1 2 rfl rfl)
theorem dX2_placeOf_29 : decode cX2_placeOf 29 = .ok (.lload 8, 2) := dk_22 8 (dk_at dksX2_placeOf_1 5 rfl rfl)
theorem dX2_placeOf_31 : decode cX2_placeOf 31 = .ok (.lconst 1, 1) := dk_10 (dk_at dksX2_placeOf_1 7 rfl rfl)
theorem dX2_placeOf_32 : decode cX2_placeOf 32 = .ok (.lcmp, 1) := dk_148 (dk_at dksX2_placeOf_1 8 rfl rfl)
theorem dX2_placeOf_33 : decode cX2_placeOf 33 = .ok (.ifCond .lt 16, 3) := dk_155 0 16 (dk_at dksX2_placeOf_1 9 rfl rfl)
theorem dX2_placeOf_36 : decode cX2_placeOf 36 = .ok (.lload 8, 2) := dk_22 8 (dk_at dksX2_placeOf_1 12 rfl rfl)
theorem dX2_placeOf_38 : decode cX2_placeOf 38 = .ok (.aload_n 0, 1) := dk_42 (dk_at dksX2_placeOf_1 14 rfl rfl)
theorem dX2_placeOf_39 : decode cX2_placeOf 39 = .ok (.getfield 131, 3) := dk_180 0 131 (dk_at dksX2_placeOf_1 15 rfl rfl)
theorem dX2_placeOf_42 : decode cX2_placeOf 42 = .ok (.iload_n 1, 1) := dk_27 (dk_at dksX2_placeOf_1 18 rfl rfl)
theorem dX2_placeOf_43 : decode cX2_placeOf 43 = .ok (.iaload, 1) := dk_46 (dk_at dksX2_placeOf_1 19 rfl rfl)
theorem dX2_placeOf_44 : decode cX2_placeOf 44 = .ok (.i2l, 1) := dk_133 (dk_at dksX2_placeOf_1 20 rfl rfl)
theorem dX2_placeOf_45 : decode cX2_placeOf 45 = .ok (.lcmp, 1) := dk_148 (dk_at dksX2_placeOf_1 21 rfl rfl)
theorem dX2_placeOf_46 : decode cX2_placeOf 46 = .ok (.ifCond .le 10, 3) := dk_158 0 10 (dk_at dksX2_placeOf_2 0 rfl rfl)
theorem dX2_placeOf_49 : decode cX2_placeOf 49 = .ok (.aload_n 0, 1) := dk_42 (dk_at dksX2_placeOf_2 3 rfl rfl)
theorem dX2_placeOf_50 : decode cX2_placeOf 50 = .ok (.iconst 5, 1) := dk_8 (dk_at dksX2_placeOf_2 4 rfl rfl)
theorem dX2_placeOf_51 : decode cX2_placeOf 51 = .ok (.putfield 94, 3) := dk_181 0 94 (dk_at dksX2_placeOf_2 5 rfl rfl)
theorem dX2_placeOf_54 : decode cX2_placeOf 54 = .ok (.iconst (-1), 1) := dk_2 (dk_at dksX2_placeOf_2 8 rfl rfl)
theorem dX2_placeOf_55 : decode cX2_placeOf 55 = .ok (.ireturn, 1) := dk_172 (dk_at dksX2_placeOf_2 9 rfl rfl)
theorem dX2_placeOf_56 : decode cX2_placeOf 56 = .ok (.iload_n 1, 1) := dk_27 (dk_at dksX2_placeOf_2 10 rfl rfl)
theorem dX2_placeOf_57 : decode cX2_placeOf 57 = .ok (.bipush 36, 2) := dk_16 36 (dk_at dksX2_placeOf_2 11 rfl rfl)
theorem dX2_placeOf_59 : decode cX2_placeOf 59 = .ok (.imul, 1) := dk_104 (dk_at dksX2_placeOf_2 13 rfl rfl)
theorem dX2_placeOf_60 : decode cX2_placeOf 60 = .ok (.lload 6, 2) := dk_22 6 (dk_at dksX2_placeOf_2 14 rfl rfl)
theorem dX2_placeOf_62 : decode cX2_placeOf 62 = .ok (.lconst 1, 1) := dk_10 (dk_at dksX2_placeOf_2 16 rfl rfl)
theorem dX2_placeOf_63 : decode cX2_placeOf 63 = .ok (.lsub, 1) := dk_101 (dk_at dksX2_placeOf_2 17 rfl rfl)
theorem dX2_placeOf_64 : decode cX2_placeOf 64 = .ok (.l2i, 1) := dk_136 (dk_at dksX2_placeOf_2 18 rfl rfl)
theorem dX2_placeOf_65 : decode cX2_placeOf 65 = .ok (.bipush 6, 2) := dk_16 6 (dk_at dksX2_placeOf_2 19 rfl rfl)
theorem dX2_placeOf_67 : decode cX2_placeOf 67 = .ok (.imul, 1) := dk_104 (dk_at dksX2_placeOf_2 21 rfl rfl)
theorem dX2_placeOf_68 : decode cX2_placeOf 68 = .ok (.iadd, 1) := dk_96 (dk_at dksX2_placeOf_2 22 rfl rfl)
theorem dX2_placeOf_69 : decode cX2_placeOf 69 = .ok (.lload 8, 2) := dk_22 8 (dk_at dksX2_placeOf_3 0 rfl rfl)
theorem dX2_placeOf_71 : decode cX2_placeOf 71 = .ok (.lconst 1, 1) := dk_10 (dk_at dksX2_placeOf_3 2 rfl rfl)
theorem dX2_placeOf_72 : decode cX2_placeOf 72 = .ok (.lsub, 1) := dk_101 (dk_at dksX2_placeOf_3 3 rfl rfl)
theorem dX2_placeOf_73 : decode cX2_placeOf 73 = .ok (.l2i, 1) := dk_136 (dk_at dksX2_placeOf_3 4 rfl rfl)
theorem dX2_placeOf_74 : decode cX2_placeOf 74 = .ok (.iadd, 1) := dk_96 (dk_at dksX2_placeOf_3 5 rfl rfl)
theorem dX2_placeOf_75 : decode cX2_placeOf 75 = .ok (.ireturn, 1) := dk_172 (dk_at dksX2_placeOf_3 6 rfl rfl)
abbrev cX2_two : ByteArray := prog_32_method_51_code
def yX2_two : MethodName := ⟨RX2, "two", "(IDD)D"⟩
def dkwX2_two_2 : List UInt8 := [42, 40, 24, 4, 182, 1, 94, 167, 0, 10, 42, 40, 24, 4, 182, 1, 98, 175]
abbrev dktX2_two_2 : List UInt8 := dkwX2_two_2 ++ []
def dkwX2_two_1 : List UInt8 := [182, 1, 86, 175, 27, 8, 160, 0, 12, 42, 40, 24, 4, 107, 182, 1, 86, 175, 27, 16, 6, 160, 0, 13]
abbrev dktX2_two_1 : List UInt8 := dkwX2_two_1 ++ dktX2_two_2
def dkwX2_two_0 : List UInt8 := [27, 6, 160, 0, 12, 42, 40, 24, 4, 99, 182, 1, 86, 175, 27, 7, 160, 0, 12, 42, 40, 24, 4, 103]
abbrev dktX2_two_0 : List UInt8 := dkwX2_two_0 ++ dktX2_two_1
theorem dksX2_two_0 : cX2_two.data.toList.drop 0 = dktX2_two_0 := by decide +kernel
theorem dksX2_two_1 : cX2_two.data.toList.drop 24 = dktX2_two_1 := dk_seg dksX2_two_0 24 rfl rfl
theorem dksX2_two_2 : cX2_two.data.toList.drop 48 = dktX2_two_2 := dk_seg dksX2_two_1 24 rfl rfl
theorem dX2_two_0 : decode cX2_two 0 = .ok (.iload_n 1, 1) := dk_27 (dk_at dksX2_two_0 0 rfl rfl)
theorem dX2_two_1 : decode cX2_two 1 = .ok (.iconst 3, 1) := dk_6 (dk_at dksX2_two_0 1 rfl rfl)
theorem dX2_two_2 : decode cX2_two 2 = .ok (.if_icmp .ne 12, 3) := dk_160 0 12 (dk_at dksX2_two_0 2 rfl rfl)
theorem dX2_two_5 : decode cX2_two 5 = .ok (.aload_n 0, 1) := dk_42 (dk_at dksX2_two_0 5 rfl rfl)
theorem dX2_two_6 : decode cX2_two 6 = .ok (.dload_n 2, 1) := dk_40 (dk_at dksX2_two_0 6 rfl rfl)
theorem dX2_two_7 : decode cX2_two 7 = .ok (.dload 4, 2) := dk_24 4 (dk_at dksX2_two_0 7 rfl rfl)
theorem dX2_two_9 : decode cX2_two 9 = .ok (.dadd, 1) := dk_99 (dk_at dksX2_two_0 9 rfl rfl)
theorem dX2_two_10 : decode cX2_two 10 = .ok (.invokevirtual 342, 3) := dk_182 1 86 (dk_at dksX2_two_0 10 rfl rfl)
theorem dX2_two_13 : decode cX2_two 13 = .ok (.dreturn, 1) := dk_175 (dk_at dksX2_two_0 13 rfl rfl)
theorem dX2_two_14 : decode cX2_two 14 = .ok (.iload_n 1, 1) := dk_27 (dk_at dksX2_two_0 14 rfl rfl)
theorem dX2_two_15 : decode cX2_two 15 = .ok (.iconst 4, 1) := dk_7 (dk_at dksX2_two_0 15 rfl rfl)
theorem dX2_two_16 : decode cX2_two 16 = .ok (.if_icmp .ne 12, 3) := dk_160 0 12 (dk_at dksX2_two_0 16 rfl rfl)
theorem dX2_two_19 : decode cX2_two 19 = .ok (.aload_n 0, 1) := dk_42 (dk_at dksX2_two_0 19 rfl rfl)
theorem dX2_two_20 : decode cX2_two 20 = .ok (.dload_n 2, 1) := dk_40 (dk_at dksX2_two_0 20 rfl rfl)
theorem dX2_two_21 : decode cX2_two 21 = .ok (.dload 4, 2) := dk_24 4 (dk_at dksX2_two_0 21 rfl rfl)
theorem dX2_two_23 : decode cX2_two 23 = .ok (.dsub, 1) := dk_103 (dk_at dksX2_two_0 23 rfl rfl)
theorem dX2_two_24 : decode cX2_two 24 = .ok (.invokevirtual 342, 3) := dk_182 1 86 (dk_at dksX2_two_1 0 rfl rfl)
theorem dX2_two_27 : decode cX2_two 27 = .ok (.dreturn, 1) := dk_175 (dk_at dksX2_two_1 3 rfl rfl)
theorem dX2_two_28 : decode cX2_two 28 = .ok (.iload_n 1, 1) := dk_27 (dk_at dksX2_two_1 4 rfl rfl)
theorem dX2_two_29 : decode cX2_two 29 = .ok (.iconst 5, 1) := dk_8 (dk_at dksX2_two_1 5 rfl rfl)
theorem dX2_two_30 : decode cX2_two 30 = .ok (.if_icmp .ne 12, 3) := dk_160 0 12 (dk_at dksX2_two_1 6 rfl rfl)
theorem dX2_two_33 : decode cX2_two 33 = .ok (.aload_n 0, 1) := dk_42 (dk_at dksX2_two_1 9 rfl rfl)
theorem dX2_two_34 : decode cX2_two 34 = .ok (.dload_n 2, 1) := dk_40 (dk_at dksX2_two_1 10 rfl rfl)
theorem dX2_two_35 : decode cX2_two 35 = .ok (.dload 4, 2) := dk_24 4 (dk_at dksX2_two_1 11 rfl rfl)
theorem dX2_two_37 : decode cX2_two 37 = .ok (.dmul, 1) := dk_107 (dk_at dksX2_two_1 13 rfl rfl)
theorem dX2_two_38 : decode cX2_two 38 = .ok (.invokevirtual 342, 3) := dk_182 1 86 (dk_at dksX2_two_1 14 rfl rfl)
theorem dX2_two_41 : decode cX2_two 41 = .ok (.dreturn, 1) := dk_175 (dk_at dksX2_two_1 17 rfl rfl)
theorem dX2_two_42 : decode cX2_two 42 = .ok (.iload_n 1, 1) := dk_27 (dk_at dksX2_two_1 18 rfl rfl)
theorem dX2_two_43 : decode cX2_two 43 = .ok (.bipush 6, 2) := dk_16 6 (dk_at dksX2_two_1 19 rfl rfl)
theorem dX2_two_45 : decode cX2_two 45 = .ok (.if_icmp .ne 13, 3) := dk_160 0 13 (dk_at dksX2_two_1 21 rfl rfl)
theorem dX2_two_48 : decode cX2_two 48 = .ok (.aload_n 0, 1) := dk_42 (dk_at dksX2_two_2 0 rfl rfl)
theorem dX2_two_49 : decode cX2_two 49 = .ok (.dload_n 2, 1) := dk_40 (dk_at dksX2_two_2 1 rfl rfl)
theorem dX2_two_50 : decode cX2_two 50 = .ok (.dload 4, 2) := dk_24 4 (dk_at dksX2_two_2 2 rfl rfl)
theorem dX2_two_52 : decode cX2_two 52 = .ok (.invokevirtual 350, 3) := dk_182 1 94 (dk_at dksX2_two_2 4 rfl rfl)
theorem dX2_two_55 : decode cX2_two 55 = .ok (.goto 10, 3) := dk_167 0 10 (dk_at dksX2_two_2 7 rfl rfl)
theorem dX2_two_58 : decode cX2_two 58 = .ok (.aload_n 0, 1) := dk_42 (dk_at dksX2_two_2 10 rfl rfl)
theorem dX2_two_59 : decode cX2_two 59 = .ok (.dload_n 2, 1) := dk_40 (dk_at dksX2_two_2 11 rfl rfl)
theorem dX2_two_60 : decode cX2_two 60 = .ok (.dload 4, 2) := dk_24 4 (dk_at dksX2_two_2 12 rfl rfl)
theorem dX2_two_62 : decode cX2_two 62 = .ok (.invokevirtual 354, 3) := dk_182 1 98 (dk_at dksX2_two_2 14 rfl rfl)
theorem dX2_two_65 : decode cX2_two 65 = .ok (.dreturn, 1) := dk_175 (dk_at dksX2_two_2 17 rfl rfl)
abbrev cX2_kept : ByteArray := prog_32_method_47_code
def yX2_kept : MethodName := ⟨RX2, "kept", "(D)D"⟩
def dkwX2_kept_1 : List UInt8 := [175]
abbrev dktX2_kept_1 : List UInt8 := dkwX2_kept_1 ++ []
def dkwX2_kept_0 : List UInt8 := [39, 20, 1, 82, 151, 157, 0, 11, 39, 20, 1, 84, 152, 156, 0, 10, 42, 7, 181, 0, 94, 14, 175, 39]
abbrev dktX2_kept_0 : List UInt8 := dkwX2_kept_0 ++ dktX2_kept_1
theorem dksX2_kept_0 : cX2_kept.data.toList.drop 0 = dktX2_kept_0 := by decide +kernel
theorem dksX2_kept_1 : cX2_kept.data.toList.drop 24 = dktX2_kept_1 := dk_seg dksX2_kept_0 24 rfl rfl
theorem dX2_kept_0 : decode cX2_kept 0 = .ok (.dload_n 1, 1) := dk_39 (dk_at dksX2_kept_0 0 rfl rfl)
theorem dX2_kept_1 : decode cX2_kept 1 = .ok (.ldc2_w 338, 3) := dk_20 1 82 (dk_at dksX2_kept_0 1 rfl rfl)
theorem dX2_kept_4 : decode cX2_kept 4 = .ok (.dcmp .l, 1) := dk_151 (dk_at dksX2_kept_0 4 rfl rfl)
theorem dX2_kept_5 : decode cX2_kept 5 = .ok (.ifCond .gt 11, 3) := dk_157 0 11 (dk_at dksX2_kept_0 5 rfl rfl)
theorem dX2_kept_8 : decode cX2_kept 8 = .ok (.dload_n 1, 1) := dk_39 (dk_at dksX2_kept_0 8 rfl rfl)
theorem dX2_kept_9 : decode cX2_kept 9 = .ok (.ldc2_w 340, 3) := dk_20 1 84 (dk_at dksX2_kept_0 9 rfl rfl)
theorem dX2_kept_12 : decode cX2_kept 12 = .ok (.dcmp .g, 1) := dk_152 (dk_at dksX2_kept_0 12 rfl rfl)
theorem dX2_kept_13 : decode cX2_kept 13 = .ok (.ifCond .ge 10, 3) := dk_156 0 10 (dk_at dksX2_kept_0 13 rfl rfl)
theorem dX2_kept_16 : decode cX2_kept 16 = .ok (.aload_n 0, 1) := dk_42 (dk_at dksX2_kept_0 16 rfl rfl)
theorem dX2_kept_17 : decode cX2_kept 17 = .ok (.iconst 4, 1) := dk_7 (dk_at dksX2_kept_0 17 rfl rfl)
theorem dX2_kept_18 : decode cX2_kept 18 = .ok (.putfield 94, 3) := dk_181 0 94 (dk_at dksX2_kept_0 18 rfl rfl)
theorem dX2_kept_21 : decode cX2_kept 21 = .ok (.dconst 0, 1) := dk_14 (dk_at dksX2_kept_0 21 rfl rfl)
theorem dX2_kept_22 : decode cX2_kept 22 = .ok (.dreturn, 1) := dk_175 (dk_at dksX2_kept_0 22 rfl rfl)
theorem dX2_kept_23 : decode cX2_kept 23 = .ok (.dload_n 1, 1) := dk_39 (dk_at dksX2_kept_0 23 rfl rfl)
theorem dX2_kept_24 : decode cX2_kept 24 = .ok (.dreturn, 1) := dk_175 (dk_at dksX2_kept_1 0 rfl rfl)
abbrev cX2_divided : ByteArray := prog_32_method_48_code
def yX2_divided : MethodName := ⟨RX2, "divided", "(DD)D"⟩
def dkwX2_divided_0 : List UInt8 := [41, 14, 151, 154, 0, 10, 42, 7, 181, 0, 94, 14, 175, 42, 39, 41, 111, 182, 1, 86, 175]
abbrev dktX2_divided_0 : List UInt8 := dkwX2_divided_0 ++ []
theorem dksX2_divided_0 : cX2_divided.data.toList.drop 0 = dktX2_divided_0 := by decide +kernel
theorem dX2_divided_0 : decode cX2_divided 0 = .ok (.dload_n 3, 1) := dk_41 (dk_at dksX2_divided_0 0 rfl rfl)
theorem dX2_divided_1 : decode cX2_divided 1 = .ok (.dconst 0, 1) := dk_14 (dk_at dksX2_divided_0 1 rfl rfl)
theorem dX2_divided_2 : decode cX2_divided 2 = .ok (.dcmp .l, 1) := dk_151 (dk_at dksX2_divided_0 2 rfl rfl)
theorem dX2_divided_3 : decode cX2_divided 3 = .ok (.ifCond .ne 10, 3) := dk_154 0 10 (dk_at dksX2_divided_0 3 rfl rfl)
theorem dX2_divided_6 : decode cX2_divided 6 = .ok (.aload_n 0, 1) := dk_42 (dk_at dksX2_divided_0 6 rfl rfl)
theorem dX2_divided_7 : decode cX2_divided 7 = .ok (.iconst 4, 1) := dk_7 (dk_at dksX2_divided_0 7 rfl rfl)
theorem dX2_divided_8 : decode cX2_divided 8 = .ok (.putfield 94, 3) := dk_181 0 94 (dk_at dksX2_divided_0 8 rfl rfl)
theorem dX2_divided_11 : decode cX2_divided 11 = .ok (.dconst 0, 1) := dk_14 (dk_at dksX2_divided_0 11 rfl rfl)
theorem dX2_divided_12 : decode cX2_divided 12 = .ok (.dreturn, 1) := dk_175 (dk_at dksX2_divided_0 12 rfl rfl)
theorem dX2_divided_13 : decode cX2_divided 13 = .ok (.aload_n 0, 1) := dk_42 (dk_at dksX2_divided_0 13 rfl rfl)
theorem dX2_divided_14 : decode cX2_divided 14 = .ok (.dload_n 1, 1) := dk_39 (dk_at dksX2_divided_0 14 rfl rfl)
theorem dX2_divided_15 : decode cX2_divided 15 = .ok (.dload_n 3, 1) := dk_41 (dk_at dksX2_divided_0 15 rfl rfl)
theorem dX2_divided_16 : decode cX2_divided 16 = .ok (.ddiv, 1) := dk_111 (dk_at dksX2_divided_0 16 rfl rfl)
theorem dX2_divided_17 : decode cX2_divided 17 = .ok (.invokevirtual 342, 3) := dk_182 1 86 (dk_at dksX2_divided_0 17 rfl rfl)
theorem dX2_divided_20 : decode cX2_divided 20 = .ok (.dreturn, 1) := dk_175 (dk_at dksX2_divided_0 20 rfl rfl)
abbrev cX2_power : ByteArray := prog_32_method_50_code
def yX2_power : MethodName := ⟨RX2, "power", "(DD)D"⟩
def dkwX2_power_4 : List UInt8 := [15, 24, 6, 182, 1, 94, 167, 0, 5, 24, 6, 175]
abbrev dktX2_power_4 : List UInt8 := dkwX2_power_4 ++ []
def dkwX2_power_3 : List UInt8 := [182, 1, 86, 57, 6, 132, 8, 1, 167, 255, 218, 21, 5, 156, 0, 20, 42, 180, 0, 94, 154, 0, 13, 42]
abbrev dktX2_power_3 : List UInt8 := dkwX2_power_3 ++ dktX2_power_4
def dkwX2_power_2 : List UInt8 := [21, 5, 116, 167, 0, 5, 21, 5, 162, 0, 26, 42, 180, 0, 94, 154, 0, 19, 42, 24, 6, 39, 107]
abbrev dktX2_power_2 : List UInt8 := dkwX2_power_2 ++ dktX2_power_3
def dkwX2_power_1 : List UInt8 := [42, 7, 181, 0, 94, 14, 175, 41, 142, 54, 5, 15, 57, 6, 3, 54, 8, 21, 8, 21, 5, 156, 0, 9]
abbrev dktX2_power_1 : List UInt8 := dkwX2_power_1 ++ dktX2_power_2
def dkwX2_power_0 : List UInt8 := [41, 20, 1, 90, 152, 155, 0, 19, 41, 20, 1, 92, 151, 157, 0, 11, 41, 143, 138, 41, 151, 153, 0, 10]
abbrev dktX2_power_0 : List UInt8 := dkwX2_power_0 ++ dktX2_power_1
theorem dksX2_power_0 : cX2_power.data.toList.drop 0 = dktX2_power_0 := by decide +kernel
theorem dksX2_power_1 : cX2_power.data.toList.drop 24 = dktX2_power_1 := dk_seg dksX2_power_0 24 rfl rfl
theorem dksX2_power_2 : cX2_power.data.toList.drop 48 = dktX2_power_2 := dk_seg dksX2_power_1 24 rfl rfl
theorem dksX2_power_3 : cX2_power.data.toList.drop 71 = dktX2_power_3 := dk_seg dksX2_power_2 23 rfl rfl
theorem dksX2_power_4 : cX2_power.data.toList.drop 95 = dktX2_power_4 := dk_seg dksX2_power_3 24 rfl rfl
theorem dX2_power_0 : decode cX2_power 0 = .ok (.dload_n 3, 1) := dk_41 (dk_at dksX2_power_0 0 rfl rfl)
theorem dX2_power_1 : decode cX2_power 1 = .ok (.ldc2_w 346, 3) := dk_20 1 90 (dk_at dksX2_power_0 1 rfl rfl)
theorem dX2_power_4 : decode cX2_power 4 = .ok (.dcmp .g, 1) := dk_152 (dk_at dksX2_power_0 4 rfl rfl)
theorem dX2_power_5 : decode cX2_power 5 = .ok (.ifCond .lt 19, 3) := dk_155 0 19 (dk_at dksX2_power_0 5 rfl rfl)
theorem dX2_power_8 : decode cX2_power 8 = .ok (.dload_n 3, 1) := dk_41 (dk_at dksX2_power_0 8 rfl rfl)
theorem dX2_power_9 : decode cX2_power 9 = .ok (.ldc2_w 348, 3) := dk_20 1 92 (dk_at dksX2_power_0 9 rfl rfl)
theorem dX2_power_12 : decode cX2_power 12 = .ok (.dcmp .l, 1) := dk_151 (dk_at dksX2_power_0 12 rfl rfl)
theorem dX2_power_13 : decode cX2_power 13 = .ok (.ifCond .gt 11, 3) := dk_157 0 11 (dk_at dksX2_power_0 13 rfl rfl)
theorem dX2_power_16 : decode cX2_power 16 = .ok (.dload_n 3, 1) := dk_41 (dk_at dksX2_power_0 16 rfl rfl)
theorem dX2_power_17 : decode cX2_power 17 = .ok (.d2l, 1) := dk_143 (dk_at dksX2_power_0 17 rfl rfl)
theorem dX2_power_18 : decode cX2_power 18 = .ok (.l2d, 1) := dk_138 (dk_at dksX2_power_0 18 rfl rfl)
theorem dX2_power_19 : decode cX2_power 19 = .ok (.dload_n 3, 1) := dk_41 (dk_at dksX2_power_0 19 rfl rfl)
theorem dX2_power_20 : decode cX2_power 20 = .ok (.dcmp .l, 1) := dk_151 (dk_at dksX2_power_0 20 rfl rfl)
theorem dX2_power_21 : decode cX2_power 21 = .ok (.ifCond .eq 10, 3) := dk_153 0 10 (dk_at dksX2_power_0 21 rfl rfl)
theorem dX2_power_24 : decode cX2_power 24 = .ok (.aload_n 0, 1) := dk_42 (dk_at dksX2_power_1 0 rfl rfl)
theorem dX2_power_25 : decode cX2_power 25 = .ok (.iconst 4, 1) := dk_7 (dk_at dksX2_power_1 1 rfl rfl)
theorem dX2_power_26 : decode cX2_power 26 = .ok (.putfield 94, 3) := dk_181 0 94 (dk_at dksX2_power_1 2 rfl rfl)
theorem dX2_power_29 : decode cX2_power 29 = .ok (.dconst 0, 1) := dk_14 (dk_at dksX2_power_1 5 rfl rfl)
theorem dX2_power_30 : decode cX2_power 30 = .ok (.dreturn, 1) := dk_175 (dk_at dksX2_power_1 6 rfl rfl)
theorem dX2_power_31 : decode cX2_power 31 = .ok (.dload_n 3, 1) := dk_41 (dk_at dksX2_power_1 7 rfl rfl)
theorem dX2_power_32 : decode cX2_power 32 = .ok (.d2i, 1) := dk_142 (dk_at dksX2_power_1 8 rfl rfl)
theorem dX2_power_33 : decode cX2_power 33 = .ok (.istore 5, 2) := dk_54 5 (dk_at dksX2_power_1 9 rfl rfl)
theorem dX2_power_35 : decode cX2_power 35 = .ok (.dconst 1, 1) := dk_15 (dk_at dksX2_power_1 11 rfl rfl)
theorem dX2_power_36 : decode cX2_power 36 = .ok (.dstore 6, 2) := dk_57 6 (dk_at dksX2_power_1 12 rfl rfl)
theorem dX2_power_38 : decode cX2_power 38 = .ok (.iconst 0, 1) := dk_3 (dk_at dksX2_power_1 14 rfl rfl)
theorem dX2_power_39 : decode cX2_power 39 = .ok (.istore 8, 2) := dk_54 8 (dk_at dksX2_power_1 15 rfl rfl)
theorem dX2_power_41 : decode cX2_power 41 = .ok (.iload 8, 2) := dk_21 8 (dk_at dksX2_power_1 17 rfl rfl)
theorem dX2_power_43 : decode cX2_power 43 = .ok (.iload 5, 2) := dk_21 5 (dk_at dksX2_power_1 19 rfl rfl)
theorem dX2_power_45 : decode cX2_power 45 = .ok (.ifCond .ge 9, 3) := dk_156 0 9 (dk_at dksX2_power_1 21 rfl rfl)
theorem dX2_power_48 : decode cX2_power 48 = .ok (.iload 5, 2) := dk_21 5 (dk_at dksX2_power_2 0 rfl rfl)
theorem dX2_power_50 : decode cX2_power 50 = .ok (.ineg, 1) := dk_116 (dk_at dksX2_power_2 2 rfl rfl)
theorem dX2_power_51 : decode cX2_power 51 = .ok (.goto 5, 3) := dk_167 0 5 (dk_at dksX2_power_2 3 rfl rfl)
theorem dX2_power_54 : decode cX2_power 54 = .ok (.iload 5, 2) := dk_21 5 (dk_at dksX2_power_2 6 rfl rfl)
theorem dX2_power_56 : decode cX2_power 56 = .ok (.if_icmp .ge 26, 3) := dk_162 0 26 (dk_at dksX2_power_2 8 rfl rfl)
theorem dX2_power_59 : decode cX2_power 59 = .ok (.aload_n 0, 1) := dk_42 (dk_at dksX2_power_2 11 rfl rfl)
theorem dX2_power_60 : decode cX2_power 60 = .ok (.getfield 94, 3) := dk_180 0 94 (dk_at dksX2_power_2 12 rfl rfl)
theorem dX2_power_63 : decode cX2_power 63 = .ok (.ifCond .ne 19, 3) := dk_154 0 19 (dk_at dksX2_power_2 15 rfl rfl)
theorem dX2_power_66 : decode cX2_power 66 = .ok (.aload_n 0, 1) := dk_42 (dk_at dksX2_power_2 18 rfl rfl)
theorem dX2_power_67 : decode cX2_power 67 = .ok (.dload 6, 2) := dk_24 6 (dk_at dksX2_power_2 19 rfl rfl)
theorem dX2_power_69 : decode cX2_power 69 = .ok (.dload_n 1, 1) := dk_39 (dk_at dksX2_power_2 21 rfl rfl)
theorem dX2_power_70 : decode cX2_power 70 = .ok (.dmul, 1) := dk_107 (dk_at dksX2_power_2 22 rfl rfl)
theorem dX2_power_71 : decode cX2_power 71 = .ok (.invokevirtual 342, 3) := dk_182 1 86 (dk_at dksX2_power_3 0 rfl rfl)
theorem dX2_power_74 : decode cX2_power 74 = .ok (.dstore 6, 2) := dk_57 6 (dk_at dksX2_power_3 3 rfl rfl)
theorem dX2_power_76 : decode cX2_power 76 = .ok (.iinc 8 1, 3) := dk_132 8 1 (dk_at dksX2_power_3 5 rfl rfl)
theorem dX2_power_79 : decode cX2_power 79 = .ok (.goto (-38), 3) := dk_167 255 218 (dk_at dksX2_power_3 8 rfl rfl)
theorem dX2_power_82 : decode cX2_power 82 = .ok (.iload 5, 2) := dk_21 5 (dk_at dksX2_power_3 11 rfl rfl)
theorem dX2_power_84 : decode cX2_power 84 = .ok (.ifCond .ge 20, 3) := dk_156 0 20 (dk_at dksX2_power_3 13 rfl rfl)
theorem dX2_power_87 : decode cX2_power 87 = .ok (.aload_n 0, 1) := dk_42 (dk_at dksX2_power_3 16 rfl rfl)
theorem dX2_power_88 : decode cX2_power 88 = .ok (.getfield 94, 3) := dk_180 0 94 (dk_at dksX2_power_3 17 rfl rfl)
theorem dX2_power_91 : decode cX2_power 91 = .ok (.ifCond .ne 13, 3) := dk_154 0 13 (dk_at dksX2_power_3 20 rfl rfl)
theorem dX2_power_94 : decode cX2_power 94 = .ok (.aload_n 0, 1) := dk_42 (dk_at dksX2_power_3 23 rfl rfl)
theorem dX2_power_95 : decode cX2_power 95 = .ok (.dconst 1, 1) := dk_15 (dk_at dksX2_power_4 0 rfl rfl)
theorem dX2_power_96 : decode cX2_power 96 = .ok (.dload 6, 2) := dk_24 6 (dk_at dksX2_power_4 1 rfl rfl)
theorem dX2_power_98 : decode cX2_power 98 = .ok (.invokevirtual 350, 3) := dk_182 1 94 (dk_at dksX2_power_4 3 rfl rfl)
theorem dX2_power_101 : decode cX2_power 101 = .ok (.goto 5, 3) := dk_167 0 5 (dk_at dksX2_power_4 6 rfl rfl)
theorem dX2_power_104 : decode cX2_power 104 = .ok (.dload 6, 2) := dk_24 6 (dk_at dksX2_power_4 9 rfl rfl)
theorem dX2_power_106 : decode cX2_power 106 = .ok (.dreturn, 1) := dk_175 (dk_at dksX2_power_4 11 rfl rfl)
abbrev cX2_one : ByteArray := prog_32_method_52_code
def yX2_one : MethodName := ⟨RX2, "one", "(ID)D"⟩
def dkwX2_one_2 : List UInt8 := [20, 1, 104, 167, 0, 14, 40, 14, 151, 158, 0, 7, 15, 167, 0, 4, 14, 175]
abbrev dktX2_one_2 : List UInt8 := dkwX2_one_2 ++ []
def dkwX2_one_1 : List UInt8 := [167, 0, 4, 40, 175, 27, 16, 10, 160, 0, 9, 42, 40, 182, 1, 101, 175, 40, 14, 152, 156, 0, 9]
abbrev dktX2_one_1 : List UInt8 := dkwX2_one_1 ++ dktX2_one_2
def dkwX2_one_0 : List UInt8 := [27, 16, 8, 160, 0, 6, 40, 119, 175, 27, 16, 9, 160, 0, 16, 40, 14, 152, 156, 0, 8, 40, 119]
abbrev dktX2_one_0 : List UInt8 := dkwX2_one_0 ++ dktX2_one_1
theorem dksX2_one_0 : cX2_one.data.toList.drop 0 = dktX2_one_0 := by decide +kernel
theorem dksX2_one_1 : cX2_one.data.toList.drop 23 = dktX2_one_1 := dk_seg dksX2_one_0 23 rfl rfl
theorem dksX2_one_2 : cX2_one.data.toList.drop 46 = dktX2_one_2 := dk_seg dksX2_one_1 23 rfl rfl
theorem dX2_one_0 : decode cX2_one 0 = .ok (.iload_n 1, 1) := dk_27 (dk_at dksX2_one_0 0 rfl rfl)
theorem dX2_one_1 : decode cX2_one 1 = .ok (.bipush 8, 2) := dk_16 8 (dk_at dksX2_one_0 1 rfl rfl)
theorem dX2_one_3 : decode cX2_one 3 = .ok (.if_icmp .ne 6, 3) := dk_160 0 6 (dk_at dksX2_one_0 3 rfl rfl)
theorem dX2_one_6 : decode cX2_one 6 = .ok (.dload_n 2, 1) := dk_40 (dk_at dksX2_one_0 6 rfl rfl)
theorem dX2_one_7 : decode cX2_one 7 = .ok (.dneg, 1) := dk_119 (dk_at dksX2_one_0 7 rfl rfl)
theorem dX2_one_8 : decode cX2_one 8 = .ok (.dreturn, 1) := dk_175 (dk_at dksX2_one_0 8 rfl rfl)
theorem dX2_one_9 : decode cX2_one 9 = .ok (.iload_n 1, 1) := dk_27 (dk_at dksX2_one_0 9 rfl rfl)
theorem dX2_one_10 : decode cX2_one 10 = .ok (.bipush 9, 2) := dk_16 9 (dk_at dksX2_one_0 10 rfl rfl)
theorem dX2_one_12 : decode cX2_one 12 = .ok (.if_icmp .ne 16, 3) := dk_160 0 16 (dk_at dksX2_one_0 12 rfl rfl)
theorem dX2_one_15 : decode cX2_one 15 = .ok (.dload_n 2, 1) := dk_40 (dk_at dksX2_one_0 15 rfl rfl)
theorem dX2_one_16 : decode cX2_one 16 = .ok (.dconst 0, 1) := dk_14 (dk_at dksX2_one_0 16 rfl rfl)
theorem dX2_one_17 : decode cX2_one 17 = .ok (.dcmp .g, 1) := dk_152 (dk_at dksX2_one_0 17 rfl rfl)
theorem dX2_one_18 : decode cX2_one 18 = .ok (.ifCond .ge 8, 3) := dk_156 0 8 (dk_at dksX2_one_0 18 rfl rfl)
theorem dX2_one_21 : decode cX2_one 21 = .ok (.dload_n 2, 1) := dk_40 (dk_at dksX2_one_0 21 rfl rfl)
theorem dX2_one_22 : decode cX2_one 22 = .ok (.dneg, 1) := dk_119 (dk_at dksX2_one_0 22 rfl rfl)
theorem dX2_one_23 : decode cX2_one 23 = .ok (.goto 4, 3) := dk_167 0 4 (dk_at dksX2_one_1 0 rfl rfl)
theorem dX2_one_26 : decode cX2_one 26 = .ok (.dload_n 2, 1) := dk_40 (dk_at dksX2_one_1 3 rfl rfl)
theorem dX2_one_27 : decode cX2_one 27 = .ok (.dreturn, 1) := dk_175 (dk_at dksX2_one_1 4 rfl rfl)
theorem dX2_one_28 : decode cX2_one 28 = .ok (.iload_n 1, 1) := dk_27 (dk_at dksX2_one_1 5 rfl rfl)
theorem dX2_one_29 : decode cX2_one 29 = .ok (.bipush 10, 2) := dk_16 10 (dk_at dksX2_one_1 6 rfl rfl)
theorem dX2_one_31 : decode cX2_one 31 = .ok (.if_icmp .ne 9, 3) := dk_160 0 9 (dk_at dksX2_one_1 8 rfl rfl)
theorem dX2_one_34 : decode cX2_one 34 = .ok (.aload_n 0, 1) := dk_42 (dk_at dksX2_one_1 11 rfl rfl)
theorem dX2_one_35 : decode cX2_one 35 = .ok (.dload_n 2, 1) := dk_40 (dk_at dksX2_one_1 12 rfl rfl)
theorem dX2_one_36 : decode cX2_one 36 = .ok (.invokevirtual 357, 3) := dk_182 1 101 (dk_at dksX2_one_1 13 rfl rfl)
theorem dX2_one_39 : decode cX2_one 39 = .ok (.dreturn, 1) := dk_175 (dk_at dksX2_one_1 16 rfl rfl)
theorem dX2_one_40 : decode cX2_one 40 = .ok (.dload_n 2, 1) := dk_40 (dk_at dksX2_one_1 17 rfl rfl)
theorem dX2_one_41 : decode cX2_one 41 = .ok (.dconst 0, 1) := dk_14 (dk_at dksX2_one_1 18 rfl rfl)
theorem dX2_one_42 : decode cX2_one 42 = .ok (.dcmp .g, 1) := dk_152 (dk_at dksX2_one_1 19 rfl rfl)
theorem dX2_one_43 : decode cX2_one 43 = .ok (.ifCond .ge 9, 3) := dk_156 0 9 (dk_at dksX2_one_1 20 rfl rfl)
theorem dX2_one_46 : decode cX2_one 46 = .ok (.ldc2_w 360, 3) := dk_20 1 104 (dk_at dksX2_one_2 0 rfl rfl)
theorem dX2_one_49 : decode cX2_one 49 = .ok (.goto 14, 3) := dk_167 0 14 (dk_at dksX2_one_2 3 rfl rfl)
theorem dX2_one_52 : decode cX2_one 52 = .ok (.dload_n 2, 1) := dk_40 (dk_at dksX2_one_2 6 rfl rfl)
theorem dX2_one_53 : decode cX2_one 53 = .ok (.dconst 0, 1) := dk_14 (dk_at dksX2_one_2 7 rfl rfl)
theorem dX2_one_54 : decode cX2_one 54 = .ok (.dcmp .l, 1) := dk_151 (dk_at dksX2_one_2 8 rfl rfl)
theorem dX2_one_55 : decode cX2_one 55 = .ok (.ifCond .le 7, 3) := dk_158 0 7 (dk_at dksX2_one_2 9 rfl rfl)
theorem dX2_one_58 : decode cX2_one 58 = .ok (.dconst 1, 1) := dk_15 (dk_at dksX2_one_2 12 rfl rfl)
theorem dX2_one_59 : decode cX2_one 59 = .ok (.goto 4, 3) := dk_167 0 4 (dk_at dksX2_one_2 13 rfl rfl)
theorem dX2_one_62 : decode cX2_one 62 = .ok (.dconst 0, 1) := dk_14 (dk_at dksX2_one_2 16 rfl rfl)
theorem dX2_one_63 : decode cX2_one 63 = .ok (.dreturn, 1) := dk_175 (dk_at dksX2_one_2 17 rfl rfl)
abbrev cX2_floor : ByteArray := prog_32_method_49_code
def yX2_floor : MethodName := ⟨RX2, "floor", "(D)D"⟩
def dkwX2_floor_0 : List UInt8 := [39, 143, 66, 33, 138, 39, 151, 158, 0, 9, 33, 10, 101, 167, 0, 4, 33, 138, 175]
abbrev dktX2_floor_0 : List UInt8 := dkwX2_floor_0 ++ []
theorem dksX2_floor_0 : cX2_floor.data.toList.drop 0 = dktX2_floor_0 := by decide +kernel
theorem dX2_floor_0 : decode cX2_floor 0 = .ok (.dload_n 1, 1) := dk_39 (dk_at dksX2_floor_0 0 rfl rfl)
theorem dX2_floor_1 : decode cX2_floor 1 = .ok (.d2l, 1) := dk_143 (dk_at dksX2_floor_0 1 rfl rfl)
theorem dX2_floor_2 : decode cX2_floor 2 = .ok (.lstore_n 3, 1) := dk_66 (dk_at dksX2_floor_0 2 rfl rfl)
theorem dX2_floor_3 : decode cX2_floor 3 = .ok (.lload_n 3, 1) := dk_33 (dk_at dksX2_floor_0 3 rfl rfl)
theorem dX2_floor_4 : decode cX2_floor 4 = .ok (.l2d, 1) := dk_138 (dk_at dksX2_floor_0 4 rfl rfl)
theorem dX2_floor_5 : decode cX2_floor 5 = .ok (.dload_n 1, 1) := dk_39 (dk_at dksX2_floor_0 5 rfl rfl)
theorem dX2_floor_6 : decode cX2_floor 6 = .ok (.dcmp .l, 1) := dk_151 (dk_at dksX2_floor_0 6 rfl rfl)
theorem dX2_floor_7 : decode cX2_floor 7 = .ok (.ifCond .le 9, 3) := dk_158 0 9 (dk_at dksX2_floor_0 7 rfl rfl)
theorem dX2_floor_10 : decode cX2_floor 10 = .ok (.lload_n 3, 1) := dk_33 (dk_at dksX2_floor_0 10 rfl rfl)
theorem dX2_floor_11 : decode cX2_floor 11 = .ok (.lconst 1, 1) := dk_10 (dk_at dksX2_floor_0 11 rfl rfl)
theorem dX2_floor_12 : decode cX2_floor 12 = .ok (.lsub, 1) := dk_101 (dk_at dksX2_floor_0 12 rfl rfl)
theorem dX2_floor_13 : decode cX2_floor 13 = .ok (.goto 4, 3) := dk_167 0 4 (dk_at dksX2_floor_0 13 rfl rfl)
theorem dX2_floor_16 : decode cX2_floor 16 = .ok (.lload_n 3, 1) := dk_33 (dk_at dksX2_floor_0 16 rfl rfl)
theorem dX2_floor_17 : decode cX2_floor 17 = .ok (.l2d, 1) := dk_138 (dk_at dksX2_floor_0 17 rfl rfl)
theorem dX2_floor_18 : decode cX2_floor 18 = .ok (.dreturn, 1) := dk_175 (dk_at dksX2_floor_0 18 rfl rfl)
abbrev cX2_call : ByteArray := prog_32_method_55_code
def yX2_call : MethodName := ⟨RX2, "call", "(II)I"⟩
def dkwX2_call_4 : List UInt8 := [180, 0, 104, 42, 180, 0, 88, 49, 82, 42, 180, 0, 52, 42, 180, 0, 125, 27, 46, 7, 104, 46, 172]
abbrev dktX2_call_4 : List UInt8 := dkwX2_call_4 ++ []
def dkwX2_call_3 : List UInt8 := [180, 0, 85, 4, 96, 181, 0, 85, 42, 89, 180, 0, 88, 4, 100, 181, 0, 88, 42, 180, 0, 101, 29, 42]
abbrev dktX2_call_3 : List UInt8 := dkwX2_call_3 ++ dktX2_call_4
def dkwX2_call_2 : List UInt8 := [180, 0, 85, 29, 79, 42, 180, 0, 116, 42, 180, 0, 85, 42, 180, 0, 101, 29, 49, 82, 42, 89]
abbrev dktX2_call_2 : List UInt8 := dkwX2_call_2 ++ dktX2_call_3
def dkwX2_call_1 : List UInt8 := [46, 16, 8, 104, 4, 96, 46, 62, 42, 180, 0, 143, 42, 180, 0, 85, 28, 79, 42, 180, 0, 146, 42]
abbrev dktX2_call_1 : List UInt8 := dkwX2_call_1 ++ dktX2_call_2
def dkwX2_call_0 : List UInt8 := [42, 180, 0, 85, 6, 160, 0, 10, 42, 5, 181, 0, 94, 28, 172, 42, 180, 0, 49, 42, 180, 0, 125, 27]
abbrev dktX2_call_0 : List UInt8 := dkwX2_call_0 ++ dktX2_call_1
theorem dksX2_call_0 : cX2_call.data.toList.drop 0 = dktX2_call_0 := by decide +kernel
theorem dksX2_call_1 : cX2_call.data.toList.drop 24 = dktX2_call_1 := dk_seg dksX2_call_0 24 rfl rfl
theorem dksX2_call_2 : cX2_call.data.toList.drop 47 = dktX2_call_2 := dk_seg dksX2_call_1 23 rfl rfl
theorem dksX2_call_3 : cX2_call.data.toList.drop 69 = dktX2_call_3 := dk_seg dksX2_call_2 22 rfl rfl
theorem dksX2_call_4 : cX2_call.data.toList.drop 93 = dktX2_call_4 := dk_seg dksX2_call_3 24 rfl rfl
theorem dX2_call_0 : decode cX2_call 0 = .ok (.aload_n 0, 1) := dk_42 (dk_at dksX2_call_0 0 rfl rfl)
theorem dX2_call_1 : decode cX2_call 1 = .ok (.getfield 85, 3) := dk_180 0 85 (dk_at dksX2_call_0 1 rfl rfl)
theorem dX2_call_4 : decode cX2_call 4 = .ok (.iconst 3, 1) := dk_6 (dk_at dksX2_call_0 4 rfl rfl)
theorem dX2_call_5 : decode cX2_call 5 = .ok (.if_icmp .ne 10, 3) := dk_160 0 10 (dk_at dksX2_call_0 5 rfl rfl)
theorem dX2_call_8 : decode cX2_call 8 = .ok (.aload_n 0, 1) := dk_42 (dk_at dksX2_call_0 8 rfl rfl)
theorem dX2_call_9 : decode cX2_call 9 = .ok (.iconst 2, 1) := dk_5 (dk_at dksX2_call_0 9 rfl rfl)
theorem dX2_call_10 : decode cX2_call 10 = .ok (.putfield 94, 3) := dk_181 0 94 (dk_at dksX2_call_0 10 rfl rfl)
theorem dX2_call_13 : decode cX2_call 13 = .ok (.iload_n 2, 1) := dk_28 (dk_at dksX2_call_0 13 rfl rfl)
theorem dX2_call_14 : decode cX2_call 14 = .ok (.ireturn, 1) := dk_172 (dk_at dksX2_call_0 14 rfl rfl)
theorem dX2_call_15 : decode cX2_call 15 = .ok (.aload_n 0, 1) := dk_42 (dk_at dksX2_call_0 15 rfl rfl)
theorem dX2_call_16 : decode cX2_call 16 = .ok (.getfield 49, 3) := dk_180 0 49 (dk_at dksX2_call_0 16 rfl rfl)
theorem dX2_call_19 : decode cX2_call 19 = .ok (.aload_n 0, 1) := dk_42 (dk_at dksX2_call_0 19 rfl rfl)
theorem dX2_call_20 : decode cX2_call 20 = .ok (.getfield 125, 3) := dk_180 0 125 (dk_at dksX2_call_0 20 rfl rfl)
theorem dX2_call_23 : decode cX2_call 23 = .ok (.iload_n 1, 1) := dk_27 (dk_at dksX2_call_0 23 rfl rfl)
theorem dX2_call_24 : decode cX2_call 24 = .ok (.iaload, 1) := dk_46 (dk_at dksX2_call_1 0 rfl rfl)
theorem dX2_call_25 : decode cX2_call 25 = .ok (.bipush 8, 2) := dk_16 8 (dk_at dksX2_call_1 1 rfl rfl)
theorem dX2_call_27 : decode cX2_call 27 = .ok (.imul, 1) := dk_104 (dk_at dksX2_call_1 3 rfl rfl)
theorem dX2_call_28 : decode cX2_call 28 = .ok (.iconst 1, 1) := dk_4 (dk_at dksX2_call_1 4 rfl rfl)
theorem dX2_call_29 : decode cX2_call 29 = .ok (.iadd, 1) := dk_96 (dk_at dksX2_call_1 5 rfl rfl)
theorem dX2_call_30 : decode cX2_call 30 = .ok (.iaload, 1) := dk_46 (dk_at dksX2_call_1 6 rfl rfl)
theorem dX2_call_31 : decode cX2_call 31 = .ok (.istore_n 3, 1) := dk_62 (dk_at dksX2_call_1 7 rfl rfl)
theorem dX2_call_32 : decode cX2_call 32 = .ok (.aload_n 0, 1) := dk_42 (dk_at dksX2_call_1 8 rfl rfl)
theorem dX2_call_33 : decode cX2_call 33 = .ok (.getfield 143, 3) := dk_180 0 143 (dk_at dksX2_call_1 9 rfl rfl)
theorem dX2_call_36 : decode cX2_call 36 = .ok (.aload_n 0, 1) := dk_42 (dk_at dksX2_call_1 12 rfl rfl)
theorem dX2_call_37 : decode cX2_call 37 = .ok (.getfield 85, 3) := dk_180 0 85 (dk_at dksX2_call_1 13 rfl rfl)
theorem dX2_call_40 : decode cX2_call 40 = .ok (.iload_n 2, 1) := dk_28 (dk_at dksX2_call_1 16 rfl rfl)
theorem dX2_call_41 : decode cX2_call 41 = .ok (.iastore, 1) := dk_79 (dk_at dksX2_call_1 17 rfl rfl)
theorem dX2_call_42 : decode cX2_call 42 = .ok (.aload_n 0, 1) := dk_42 (dk_at dksX2_call_1 18 rfl rfl)
theorem dX2_call_43 : decode cX2_call 43 = .ok (.getfield 146, 3) := dk_180 0 146 (dk_at dksX2_call_1 19 rfl rfl)
theorem dX2_call_46 : decode cX2_call 46 = .ok (.aload_n 0, 1) := dk_42 (dk_at dksX2_call_1 22 rfl rfl)
theorem dX2_call_47 : decode cX2_call 47 = .ok (.getfield 85, 3) := dk_180 0 85 (dk_at dksX2_call_2 0 rfl rfl)
theorem dX2_call_50 : decode cX2_call 50 = .ok (.iload_n 3, 1) := dk_29 (dk_at dksX2_call_2 3 rfl rfl)
theorem dX2_call_51 : decode cX2_call 51 = .ok (.iastore, 1) := dk_79 (dk_at dksX2_call_2 4 rfl rfl)
theorem dX2_call_52 : decode cX2_call 52 = .ok (.aload_n 0, 1) := dk_42 (dk_at dksX2_call_2 5 rfl rfl)
theorem dX2_call_53 : decode cX2_call 53 = .ok (.getfield 116, 3) := dk_180 0 116 (dk_at dksX2_call_2 6 rfl rfl)
theorem dX2_call_56 : decode cX2_call 56 = .ok (.aload_n 0, 1) := dk_42 (dk_at dksX2_call_2 9 rfl rfl)
theorem dX2_call_57 : decode cX2_call 57 = .ok (.getfield 85, 3) := dk_180 0 85 (dk_at dksX2_call_2 10 rfl rfl)
theorem dX2_call_60 : decode cX2_call 60 = .ok (.aload_n 0, 1) := dk_42 (dk_at dksX2_call_2 13 rfl rfl)
theorem dX2_call_61 : decode cX2_call 61 = .ok (.getfield 101, 3) := dk_180 0 101 (dk_at dksX2_call_2 14 rfl rfl)
theorem dX2_call_64 : decode cX2_call 64 = .ok (.iload_n 3, 1) := dk_29 (dk_at dksX2_call_2 17 rfl rfl)
theorem dX2_call_65 : decode cX2_call 65 = .ok (.daload, 1) := dk_49 (dk_at dksX2_call_2 18 rfl rfl)
theorem dX2_call_66 : decode cX2_call 66 = .ok (.dastore, 1) := dk_82 (dk_at dksX2_call_2 19 rfl rfl)
theorem dX2_call_67 : decode cX2_call 67 = .ok (.aload_n 0, 1) := dk_42 (dk_at dksX2_call_2 20 rfl rfl)
theorem dX2_call_68 : decode cX2_call 68 = .ok (.dup, 1) := dk_89 (dk_at dksX2_call_2 21 rfl rfl)
theorem dX2_call_69 : decode cX2_call 69 = .ok (.getfield 85, 3) := dk_180 0 85 (dk_at dksX2_call_3 0 rfl rfl)
theorem dX2_call_72 : decode cX2_call 72 = .ok (.iconst 1, 1) := dk_4 (dk_at dksX2_call_3 3 rfl rfl)
theorem dX2_call_73 : decode cX2_call 73 = .ok (.iadd, 1) := dk_96 (dk_at dksX2_call_3 4 rfl rfl)
theorem dX2_call_74 : decode cX2_call 74 = .ok (.putfield 85, 3) := dk_181 0 85 (dk_at dksX2_call_3 5 rfl rfl)
theorem dX2_call_77 : decode cX2_call 77 = .ok (.aload_n 0, 1) := dk_42 (dk_at dksX2_call_3 8 rfl rfl)
theorem dX2_call_78 : decode cX2_call 78 = .ok (.dup, 1) := dk_89 (dk_at dksX2_call_3 9 rfl rfl)
theorem dX2_call_79 : decode cX2_call 79 = .ok (.getfield 88, 3) := dk_180 0 88 (dk_at dksX2_call_3 10 rfl rfl)
theorem dX2_call_82 : decode cX2_call 82 = .ok (.iconst 1, 1) := dk_4 (dk_at dksX2_call_3 13 rfl rfl)
theorem dX2_call_83 : decode cX2_call 83 = .ok (.isub, 1) := dk_100 (dk_at dksX2_call_3 14 rfl rfl)
theorem dX2_call_84 : decode cX2_call 84 = .ok (.putfield 88, 3) := dk_181 0 88 (dk_at dksX2_call_3 15 rfl rfl)
theorem dX2_call_87 : decode cX2_call 87 = .ok (.aload_n 0, 1) := dk_42 (dk_at dksX2_call_3 18 rfl rfl)
theorem dX2_call_88 : decode cX2_call 88 = .ok (.getfield 101, 3) := dk_180 0 101 (dk_at dksX2_call_3 19 rfl rfl)
theorem dX2_call_91 : decode cX2_call 91 = .ok (.iload_n 3, 1) := dk_29 (dk_at dksX2_call_3 22 rfl rfl)
theorem dX2_call_92 : decode cX2_call 92 = .ok (.aload_n 0, 1) := dk_42 (dk_at dksX2_call_3 23 rfl rfl)
theorem dX2_call_93 : decode cX2_call 93 = .ok (.getfield 104, 3) := dk_180 0 104 (dk_at dksX2_call_4 0 rfl rfl)
theorem dX2_call_96 : decode cX2_call 96 = .ok (.aload_n 0, 1) := dk_42 (dk_at dksX2_call_4 3 rfl rfl)
theorem dX2_call_97 : decode cX2_call 97 = .ok (.getfield 88, 3) := dk_180 0 88 (dk_at dksX2_call_4 4 rfl rfl)
theorem dX2_call_100 : decode cX2_call 100 = .ok (.daload, 1) := dk_49 (dk_at dksX2_call_4 7 rfl rfl)
theorem dX2_call_101 : decode cX2_call 101 = .ok (.dastore, 1) := dk_82 (dk_at dksX2_call_4 8 rfl rfl)
theorem dX2_call_102 : decode cX2_call 102 = .ok (.aload_n 0, 1) := dk_42 (dk_at dksX2_call_4 9 rfl rfl)
theorem dX2_call_103 : decode cX2_call 103 = .ok (.getfield 52, 3) := dk_180 0 52 (dk_at dksX2_call_4 10 rfl rfl)
theorem dX2_call_106 : decode cX2_call 106 = .ok (.aload_n 0, 1) := dk_42 (dk_at dksX2_call_4 13 rfl rfl)
theorem dX2_call_107 : decode cX2_call 107 = .ok (.getfield 125, 3) := dk_180 0 125 (dk_at dksX2_call_4 14 rfl rfl)
theorem dX2_call_110 : decode cX2_call 110 = .ok (.iload_n 1, 1) := dk_27 (dk_at dksX2_call_4 17 rfl rfl)
theorem dX2_call_111 : decode cX2_call 111 = .ok (.iaload, 1) := dk_46 (dk_at dksX2_call_4 18 rfl rfl)
theorem dX2_call_112 : decode cX2_call 112 = .ok (.iconst 4, 1) := dk_7 (dk_at dksX2_call_4 19 rfl rfl)
theorem dX2_call_113 : decode cX2_call 113 = .ok (.imul, 1) := dk_104 (dk_at dksX2_call_4 20 rfl rfl)
theorem dX2_call_114 : decode cX2_call 114 = .ok (.iaload, 1) := dk_46 (dk_at dksX2_call_4 21 rfl rfl)
theorem dX2_call_115 : decode cX2_call 115 = .ok (.ireturn, 1) := dk_172 (dk_at dksX2_call_4 22 rfl rfl)
abbrev cX2_leave : ByteArray := prog_32_method_56_code
def yX2_leave : MethodName := ⟨RX2, "leave", "()V"⟩
def dkwX2_leave_1 : List UInt8 := [180, 0, 116, 42, 180, 0, 85, 49, 82, 177]
abbrev dktX2_leave_1 : List UInt8 := dkwX2_leave_1 ++ []
def dkwX2_leave_0 : List UInt8 := [42, 89, 180, 0, 85, 4, 100, 181, 0, 85, 42, 180, 0, 101, 42, 180, 0, 146, 42, 180, 0, 85, 46, 42]
abbrev dktX2_leave_0 : List UInt8 := dkwX2_leave_0 ++ dktX2_leave_1
theorem dksX2_leave_0 : cX2_leave.data.toList.drop 0 = dktX2_leave_0 := by decide +kernel
theorem dksX2_leave_1 : cX2_leave.data.toList.drop 24 = dktX2_leave_1 := dk_seg dksX2_leave_0 24 rfl rfl
theorem dX2_leave_0 : decode cX2_leave 0 = .ok (.aload_n 0, 1) := dk_42 (dk_at dksX2_leave_0 0 rfl rfl)
theorem dX2_leave_1 : decode cX2_leave 1 = .ok (.dup, 1) := dk_89 (dk_at dksX2_leave_0 1 rfl rfl)
theorem dX2_leave_2 : decode cX2_leave 2 = .ok (.getfield 85, 3) := dk_180 0 85 (dk_at dksX2_leave_0 2 rfl rfl)
theorem dX2_leave_5 : decode cX2_leave 5 = .ok (.iconst 1, 1) := dk_4 (dk_at dksX2_leave_0 5 rfl rfl)
theorem dX2_leave_6 : decode cX2_leave 6 = .ok (.isub, 1) := dk_100 (dk_at dksX2_leave_0 6 rfl rfl)
theorem dX2_leave_7 : decode cX2_leave 7 = .ok (.putfield 85, 3) := dk_181 0 85 (dk_at dksX2_leave_0 7 rfl rfl)
theorem dX2_leave_10 : decode cX2_leave 10 = .ok (.aload_n 0, 1) := dk_42 (dk_at dksX2_leave_0 10 rfl rfl)
theorem dX2_leave_11 : decode cX2_leave 11 = .ok (.getfield 101, 3) := dk_180 0 101 (dk_at dksX2_leave_0 11 rfl rfl)
theorem dX2_leave_14 : decode cX2_leave 14 = .ok (.aload_n 0, 1) := dk_42 (dk_at dksX2_leave_0 14 rfl rfl)
theorem dX2_leave_15 : decode cX2_leave 15 = .ok (.getfield 146, 3) := dk_180 0 146 (dk_at dksX2_leave_0 15 rfl rfl)
theorem dX2_leave_18 : decode cX2_leave 18 = .ok (.aload_n 0, 1) := dk_42 (dk_at dksX2_leave_0 18 rfl rfl)
theorem dX2_leave_19 : decode cX2_leave 19 = .ok (.getfield 85, 3) := dk_180 0 85 (dk_at dksX2_leave_0 19 rfl rfl)
theorem dX2_leave_22 : decode cX2_leave 22 = .ok (.iaload, 1) := dk_46 (dk_at dksX2_leave_0 22 rfl rfl)
theorem dX2_leave_23 : decode cX2_leave 23 = .ok (.aload_n 0, 1) := dk_42 (dk_at dksX2_leave_0 23 rfl rfl)
theorem dX2_leave_24 : decode cX2_leave 24 = .ok (.getfield 116, 3) := dk_180 0 116 (dk_at dksX2_leave_1 0 rfl rfl)
theorem dX2_leave_27 : decode cX2_leave 27 = .ok (.aload_n 0, 1) := dk_42 (dk_at dksX2_leave_1 3 rfl rfl)
theorem dX2_leave_28 : decode cX2_leave 28 = .ok (.getfield 85, 3) := dk_180 0 85 (dk_at dksX2_leave_1 4 rfl rfl)
theorem dX2_leave_31 : decode cX2_leave 31 = .ok (.daload, 1) := dk_49 (dk_at dksX2_leave_1 7 rfl rfl)
theorem dX2_leave_32 : decode cX2_leave 32 = .ok (.dastore, 1) := dk_82 (dk_at dksX2_leave_1 8 rfl rfl)
theorem dX2_leave_33 : decode cX2_leave 33 = .ok (.return_, 1) := dk_177 (dk_at dksX2_leave_1 9 rfl rfl)
abbrev cX2_holds : ByteArray := prog_32_method_63_code
def yX2_holds : MethodName := ⟨RX2, "holds", "(IDD)Z"⟩
def dkwX2_holds_5 : List UInt8 := [153, 0, 7, 4, 167, 0, 4, 3, 172]
abbrev dktX2_holds_5 : List UInt8 := dkwX2_holds_5 ++ []
def dkwX2_holds_4 : List UInt8 := [167, 0, 4, 3, 172, 40, 24, 4, 151, 155, 0, 7, 4, 167, 0, 4, 3, 172, 40, 24, 4, 151]
abbrev dktX2_holds_4 : List UInt8 := dkwX2_holds_4 ++ dktX2_holds_5
def dkwX2_holds_3 : List UInt8 := [3, 172, 40, 24, 4, 151, 158, 0, 7, 4, 167, 0, 4, 3, 172, 40, 24, 4, 152, 157, 0, 7, 4]
abbrev dktX2_holds_3 : List UInt8 := dkwX2_holds_3 ++ dktX2_holds_4
def dkwX2_holds_2 : List UInt8 := [40, 24, 4, 151, 154, 0, 7, 4, 167, 0, 4, 3, 172, 40, 24, 4, 152, 156, 0, 7, 4, 167, 0, 4]
abbrev dktX2_holds_2 : List UInt8 := dkwX2_holds_2 ++ dktX2_holds_3
def dkwX2_holds_1 : List UInt8 := [170, 0, 0, 0, 0, 0, 100, 0, 0, 0, 0, 0, 0, 0, 4, 0, 0, 0, 35, 0, 0, 0, 48, 0, 0, 0, 61, 0, 0, 0, 74, 0, 0, 0, 87]
abbrev dktX2_holds_1 : List UInt8 := dkwX2_holds_1 ++ dktX2_holds_2
def dkwX2_holds_0 : List UInt8 := [27]
abbrev dktX2_holds_0 : List UInt8 := dkwX2_holds_0 ++ dktX2_holds_1
theorem dksX2_holds_0 : cX2_holds.data.toList.drop 0 = dktX2_holds_0 := by decide +kernel
theorem dksX2_holds_1 : cX2_holds.data.toList.drop 1 = dktX2_holds_1 := dk_seg dksX2_holds_0 1 rfl rfl
theorem dksX2_holds_2 : cX2_holds.data.toList.drop 36 = dktX2_holds_2 := dk_seg dksX2_holds_1 35 rfl rfl
theorem dksX2_holds_3 : cX2_holds.data.toList.drop 60 = dktX2_holds_3 := dk_seg dksX2_holds_2 24 rfl rfl
theorem dksX2_holds_4 : cX2_holds.data.toList.drop 83 = dktX2_holds_4 := dk_seg dksX2_holds_3 23 rfl rfl
theorem dksX2_holds_5 : cX2_holds.data.toList.drop 105 = dktX2_holds_5 := dk_seg dksX2_holds_4 22 rfl rfl
theorem dX2_holds_0 : decode cX2_holds 0 = .ok (.iload_n 1, 1) := dk_27 (dk_at dksX2_holds_0 0 rfl rfl)
theorem dX2_holds_1 : decode cX2_holds 1 = .ok (.tableswitch 100 0 4 #[35, 48, 61, 74, 87], 35) := by decide +kernel
theorem dX2_holds_36 : decode cX2_holds 36 = .ok (.dload_n 2, 1) := dk_40 (dk_at dksX2_holds_2 0 rfl rfl)
theorem dX2_holds_37 : decode cX2_holds 37 = .ok (.dload 4, 2) := dk_24 4 (dk_at dksX2_holds_2 1 rfl rfl)
theorem dX2_holds_39 : decode cX2_holds 39 = .ok (.dcmp .l, 1) := dk_151 (dk_at dksX2_holds_2 3 rfl rfl)
theorem dX2_holds_40 : decode cX2_holds 40 = .ok (.ifCond .ne 7, 3) := dk_154 0 7 (dk_at dksX2_holds_2 4 rfl rfl)
theorem dX2_holds_43 : decode cX2_holds 43 = .ok (.iconst 1, 1) := dk_4 (dk_at dksX2_holds_2 7 rfl rfl)
theorem dX2_holds_44 : decode cX2_holds 44 = .ok (.goto 4, 3) := dk_167 0 4 (dk_at dksX2_holds_2 8 rfl rfl)
theorem dX2_holds_47 : decode cX2_holds 47 = .ok (.iconst 0, 1) := dk_3 (dk_at dksX2_holds_2 11 rfl rfl)
theorem dX2_holds_48 : decode cX2_holds 48 = .ok (.ireturn, 1) := dk_172 (dk_at dksX2_holds_2 12 rfl rfl)
theorem dX2_holds_49 : decode cX2_holds 49 = .ok (.dload_n 2, 1) := dk_40 (dk_at dksX2_holds_2 13 rfl rfl)
theorem dX2_holds_50 : decode cX2_holds 50 = .ok (.dload 4, 2) := dk_24 4 (dk_at dksX2_holds_2 14 rfl rfl)
theorem dX2_holds_52 : decode cX2_holds 52 = .ok (.dcmp .g, 1) := dk_152 (dk_at dksX2_holds_2 16 rfl rfl)
theorem dX2_holds_53 : decode cX2_holds 53 = .ok (.ifCond .ge 7, 3) := dk_156 0 7 (dk_at dksX2_holds_2 17 rfl rfl)
theorem dX2_holds_56 : decode cX2_holds 56 = .ok (.iconst 1, 1) := dk_4 (dk_at dksX2_holds_2 20 rfl rfl)
theorem dX2_holds_57 : decode cX2_holds 57 = .ok (.goto 4, 3) := dk_167 0 4 (dk_at dksX2_holds_2 21 rfl rfl)
theorem dX2_holds_60 : decode cX2_holds 60 = .ok (.iconst 0, 1) := dk_3 (dk_at dksX2_holds_3 0 rfl rfl)
theorem dX2_holds_61 : decode cX2_holds 61 = .ok (.ireturn, 1) := dk_172 (dk_at dksX2_holds_3 1 rfl rfl)
theorem dX2_holds_62 : decode cX2_holds 62 = .ok (.dload_n 2, 1) := dk_40 (dk_at dksX2_holds_3 2 rfl rfl)
theorem dX2_holds_63 : decode cX2_holds 63 = .ok (.dload 4, 2) := dk_24 4 (dk_at dksX2_holds_3 3 rfl rfl)
theorem dX2_holds_65 : decode cX2_holds 65 = .ok (.dcmp .l, 1) := dk_151 (dk_at dksX2_holds_3 5 rfl rfl)
theorem dX2_holds_66 : decode cX2_holds 66 = .ok (.ifCond .le 7, 3) := dk_158 0 7 (dk_at dksX2_holds_3 6 rfl rfl)
theorem dX2_holds_69 : decode cX2_holds 69 = .ok (.iconst 1, 1) := dk_4 (dk_at dksX2_holds_3 9 rfl rfl)
theorem dX2_holds_70 : decode cX2_holds 70 = .ok (.goto 4, 3) := dk_167 0 4 (dk_at dksX2_holds_3 10 rfl rfl)
theorem dX2_holds_73 : decode cX2_holds 73 = .ok (.iconst 0, 1) := dk_3 (dk_at dksX2_holds_3 13 rfl rfl)
theorem dX2_holds_74 : decode cX2_holds 74 = .ok (.ireturn, 1) := dk_172 (dk_at dksX2_holds_3 14 rfl rfl)
theorem dX2_holds_75 : decode cX2_holds 75 = .ok (.dload_n 2, 1) := dk_40 (dk_at dksX2_holds_3 15 rfl rfl)
theorem dX2_holds_76 : decode cX2_holds 76 = .ok (.dload 4, 2) := dk_24 4 (dk_at dksX2_holds_3 16 rfl rfl)
theorem dX2_holds_78 : decode cX2_holds 78 = .ok (.dcmp .g, 1) := dk_152 (dk_at dksX2_holds_3 18 rfl rfl)
theorem dX2_holds_79 : decode cX2_holds 79 = .ok (.ifCond .gt 7, 3) := dk_157 0 7 (dk_at dksX2_holds_3 19 rfl rfl)
theorem dX2_holds_82 : decode cX2_holds 82 = .ok (.iconst 1, 1) := dk_4 (dk_at dksX2_holds_3 22 rfl rfl)
theorem dX2_holds_83 : decode cX2_holds 83 = .ok (.goto 4, 3) := dk_167 0 4 (dk_at dksX2_holds_4 0 rfl rfl)
theorem dX2_holds_86 : decode cX2_holds 86 = .ok (.iconst 0, 1) := dk_3 (dk_at dksX2_holds_4 3 rfl rfl)
theorem dX2_holds_87 : decode cX2_holds 87 = .ok (.ireturn, 1) := dk_172 (dk_at dksX2_holds_4 4 rfl rfl)
theorem dX2_holds_88 : decode cX2_holds 88 = .ok (.dload_n 2, 1) := dk_40 (dk_at dksX2_holds_4 5 rfl rfl)
theorem dX2_holds_89 : decode cX2_holds 89 = .ok (.dload 4, 2) := dk_24 4 (dk_at dksX2_holds_4 6 rfl rfl)
theorem dX2_holds_91 : decode cX2_holds 91 = .ok (.dcmp .l, 1) := dk_151 (dk_at dksX2_holds_4 8 rfl rfl)
theorem dX2_holds_92 : decode cX2_holds 92 = .ok (.ifCond .lt 7, 3) := dk_155 0 7 (dk_at dksX2_holds_4 9 rfl rfl)
theorem dX2_holds_95 : decode cX2_holds 95 = .ok (.iconst 1, 1) := dk_4 (dk_at dksX2_holds_4 12 rfl rfl)
theorem dX2_holds_96 : decode cX2_holds 96 = .ok (.goto 4, 3) := dk_167 0 4 (dk_at dksX2_holds_4 13 rfl rfl)
theorem dX2_holds_99 : decode cX2_holds 99 = .ok (.iconst 0, 1) := dk_3 (dk_at dksX2_holds_4 16 rfl rfl)
theorem dX2_holds_100 : decode cX2_holds 100 = .ok (.ireturn, 1) := dk_172 (dk_at dksX2_holds_4 17 rfl rfl)
theorem dX2_holds_101 : decode cX2_holds 101 = .ok (.dload_n 2, 1) := dk_40 (dk_at dksX2_holds_4 18 rfl rfl)
theorem dX2_holds_102 : decode cX2_holds 102 = .ok (.dload 4, 2) := dk_24 4 (dk_at dksX2_holds_4 19 rfl rfl)
theorem dX2_holds_104 : decode cX2_holds 104 = .ok (.dcmp .l, 1) := dk_151 (dk_at dksX2_holds_4 21 rfl rfl)
theorem dX2_holds_105 : decode cX2_holds 105 = .ok (.ifCond .eq 7, 3) := dk_153 0 7 (dk_at dksX2_holds_5 0 rfl rfl)
theorem dX2_holds_108 : decode cX2_holds 108 = .ok (.iconst 1, 1) := dk_4 (dk_at dksX2_holds_5 3 rfl rfl)
theorem dX2_holds_109 : decode cX2_holds 109 = .ok (.goto 4, 3) := dk_167 0 4 (dk_at dksX2_holds_5 4 rfl rfl)
theorem dX2_holds_112 : decode cX2_holds 112 = .ok (.iconst 0, 1) := dk_3 (dk_at dksX2_holds_5 7 rfl rfl)
theorem dX2_holds_113 : decode cX2_holds 113 = .ok (.ireturn, 1) := dk_172 (dk_at dksX2_holds_5 8 rfl rfl)
abbrev cX2_goTo : ByteArray := prog_32_method_60_code
def yX2_goTo : MethodName := ⟨RX2, "goTo", "(I)I"⟩
def dkwX2_goTo_0 : List UInt8 := [42, 27, 182, 1, 73, 61, 28, 156, 0, 8, 42, 6, 181, 0, 94, 28, 172]
abbrev dktX2_goTo_0 : List UInt8 := dkwX2_goTo_0 ++ []
theorem dksX2_goTo_0 : cX2_goTo.data.toList.drop 0 = dktX2_goTo_0 := by decide +kernel
theorem dX2_goTo_0 : decode cX2_goTo 0 = .ok (.aload_n 0, 1) := dk_42 (dk_at dksX2_goTo_0 0 rfl rfl)
theorem dX2_goTo_1 : decode cX2_goTo 1 = .ok (.iload_n 1, 1) := dk_27 (dk_at dksX2_goTo_0 1 rfl rfl)
theorem dX2_goTo_2 : decode cX2_goTo 2 = .ok (.invokevirtual 329, 3) := dk_182 1 73 (dk_at dksX2_goTo_0 2 rfl rfl)
theorem dX2_goTo_5 : decode cX2_goTo 5 = .ok (.istore_n 2, 1) := dk_61 (dk_at dksX2_goTo_0 5 rfl rfl)
theorem dX2_goTo_6 : decode cX2_goTo 6 = .ok (.iload_n 2, 1) := dk_28 (dk_at dksX2_goTo_0 6 rfl rfl)
theorem dX2_goTo_7 : decode cX2_goTo 7 = .ok (.ifCond .ge 8, 3) := dk_156 0 8 (dk_at dksX2_goTo_0 7 rfl rfl)
theorem dX2_goTo_10 : decode cX2_goTo 10 = .ok (.aload_n 0, 1) := dk_42 (dk_at dksX2_goTo_0 10 rfl rfl)
theorem dX2_goTo_11 : decode cX2_goTo 11 = .ok (.iconst 3, 1) := dk_6 (dk_at dksX2_goTo_0 11 rfl rfl)
theorem dX2_goTo_12 : decode cX2_goTo 12 = .ok (.putfield 94, 3) := dk_181 0 94 (dk_at dksX2_goTo_0 12 rfl rfl)
theorem dX2_goTo_15 : decode cX2_goTo 15 = .ok (.iload_n 2, 1) := dk_28 (dk_at dksX2_goTo_0 15 rfl rfl)
theorem dX2_goTo_16 : decode cX2_goTo 16 = .ok (.ireturn, 1) := dk_172 (dk_at dksX2_goTo_0 16 rfl rfl)
abbrev cX2_choose : ByteArray := prog_32_method_68_code
def yX2_choose : MethodName := ⟨RX2, "choose", "(I)I"⟩
def dkwX2_choose_3 : List UInt8 := [182, 1, 146, 172]
abbrev dktX2_choose_3 : List UInt8 := dkwX2_choose_3 ++ []
def dkwX2_choose_2 : List UInt8 := [158, 0, 10, 42, 4, 181, 0, 94, 2, 172, 42, 42, 180, 0, 49, 27, 16, 8, 104, 22, 4, 136, 96, 46]
abbrev dktX2_choose_2 : List UInt8 := dkwX2_choose_2 ++ dktX2_choose_3
def dkwX2_choose_1 : List UInt8 := [55, 4, 22, 4, 10, 148, 155, 0, 19, 22, 4, 42, 180, 0, 49, 27, 16, 8, 104, 46, 133, 148]
abbrev dktX2_choose_1 : List UInt8 := dkwX2_choose_1 ++ dktX2_choose_2
def dkwX2_choose_0 : List UInt8 := [42, 42, 180, 0, 52, 27, 7, 104, 46, 182, 1, 136, 73, 42, 180, 0, 94, 153, 0, 5, 2, 172, 40, 143]
abbrev dktX2_choose_0 : List UInt8 := dkwX2_choose_0 ++ dktX2_choose_1
theorem dksX2_choose_0 : cX2_choose.data.toList.drop 0 = dktX2_choose_0 := by decide +kernel
theorem dksX2_choose_1 : cX2_choose.data.toList.drop 24 = dktX2_choose_1 := dk_seg dksX2_choose_0 24 rfl rfl
theorem dksX2_choose_2 : cX2_choose.data.toList.drop 46 = dktX2_choose_2 := dk_seg dksX2_choose_1 22 rfl rfl
theorem dksX2_choose_3 : cX2_choose.data.toList.drop 70 = dktX2_choose_3 := dk_seg dksX2_choose_2 24 rfl rfl
theorem dX2_choose_0 : decode cX2_choose 0 = .ok (.aload_n 0, 1) := dk_42 (dk_at dksX2_choose_0 0 rfl rfl)
theorem dX2_choose_1 : decode cX2_choose 1 = .ok (.aload_n 0, 1) := dk_42 (dk_at dksX2_choose_0 1 rfl rfl)
theorem dX2_choose_2 : decode cX2_choose 2 = .ok (.getfield 52, 3) := dk_180 0 52 (dk_at dksX2_choose_0 2 rfl rfl)
theorem dX2_choose_5 : decode cX2_choose 5 = .ok (.iload_n 1, 1) := dk_27 (dk_at dksX2_choose_0 5 rfl rfl)
theorem dX2_choose_6 : decode cX2_choose 6 = .ok (.iconst 4, 1) := dk_7 (dk_at dksX2_choose_0 6 rfl rfl)
theorem dX2_choose_7 : decode cX2_choose 7 = .ok (.imul, 1) := dk_104 (dk_at dksX2_choose_0 7 rfl rfl)
theorem dX2_choose_8 : decode cX2_choose 8 = .ok (.iaload, 1) := dk_46 (dk_at dksX2_choose_0 8 rfl rfl)
theorem dX2_choose_9 : decode cX2_choose 9 = .ok (.invokevirtual 392, 3) := dk_182 1 136 (dk_at dksX2_choose_0 9 rfl rfl)
theorem dX2_choose_12 : decode cX2_choose 12 = .ok (.dstore_n 2, 1) := dk_73 (dk_at dksX2_choose_0 12 rfl rfl)
theorem dX2_choose_13 : decode cX2_choose 13 = .ok (.aload_n 0, 1) := dk_42 (dk_at dksX2_choose_0 13 rfl rfl)
theorem dX2_choose_14 : decode cX2_choose 14 = .ok (.getfield 94, 3) := dk_180 0 94 (dk_at dksX2_choose_0 14 rfl rfl)
theorem dX2_choose_17 : decode cX2_choose 17 = .ok (.ifCond .eq 5, 3) := dk_153 0 5 (dk_at dksX2_choose_0 17 rfl rfl)
theorem dX2_choose_20 : decode cX2_choose 20 = .ok (.iconst (-1), 1) := dk_2 (dk_at dksX2_choose_0 20 rfl rfl)
theorem dX2_choose_21 : decode cX2_choose 21 = .ok (.ireturn, 1) := dk_172 (dk_at dksX2_choose_0 21 rfl rfl)
theorem dX2_choose_22 : decode cX2_choose 22 = .ok (.dload_n 2, 1) := dk_40 (dk_at dksX2_choose_0 22 rfl rfl)
theorem dX2_choose_23 : decode cX2_choose 23 = .ok (.d2l, 1) := dk_143 (dk_at dksX2_choose_0 23 rfl rfl)
theorem dX2_choose_24 : decode cX2_choose 24 = .ok (.lstore 4, 2) := dk_55 4 (dk_at dksX2_choose_1 0 rfl rfl)
theorem dX2_choose_26 : decode cX2_choose 26 = .ok (.lload 4, 2) := dk_22 4 (dk_at dksX2_choose_1 2 rfl rfl)
theorem dX2_choose_28 : decode cX2_choose 28 = .ok (.lconst 1, 1) := dk_10 (dk_at dksX2_choose_1 4 rfl rfl)
theorem dX2_choose_29 : decode cX2_choose 29 = .ok (.lcmp, 1) := dk_148 (dk_at dksX2_choose_1 5 rfl rfl)
theorem dX2_choose_30 : decode cX2_choose 30 = .ok (.ifCond .lt 19, 3) := dk_155 0 19 (dk_at dksX2_choose_1 6 rfl rfl)
theorem dX2_choose_33 : decode cX2_choose 33 = .ok (.lload 4, 2) := dk_22 4 (dk_at dksX2_choose_1 9 rfl rfl)
theorem dX2_choose_35 : decode cX2_choose 35 = .ok (.aload_n 0, 1) := dk_42 (dk_at dksX2_choose_1 11 rfl rfl)
theorem dX2_choose_36 : decode cX2_choose 36 = .ok (.getfield 49, 3) := dk_180 0 49 (dk_at dksX2_choose_1 12 rfl rfl)
theorem dX2_choose_39 : decode cX2_choose 39 = .ok (.iload_n 1, 1) := dk_27 (dk_at dksX2_choose_1 15 rfl rfl)
theorem dX2_choose_40 : decode cX2_choose 40 = .ok (.bipush 8, 2) := dk_16 8 (dk_at dksX2_choose_1 16 rfl rfl)
theorem dX2_choose_42 : decode cX2_choose 42 = .ok (.imul, 1) := dk_104 (dk_at dksX2_choose_1 18 rfl rfl)
theorem dX2_choose_43 : decode cX2_choose 43 = .ok (.iaload, 1) := dk_46 (dk_at dksX2_choose_1 19 rfl rfl)
theorem dX2_choose_44 : decode cX2_choose 44 = .ok (.i2l, 1) := dk_133 (dk_at dksX2_choose_1 20 rfl rfl)
theorem dX2_choose_45 : decode cX2_choose 45 = .ok (.lcmp, 1) := dk_148 (dk_at dksX2_choose_1 21 rfl rfl)
theorem dX2_choose_46 : decode cX2_choose 46 = .ok (.ifCond .le 10, 3) := dk_158 0 10 (dk_at dksX2_choose_2 0 rfl rfl)
theorem dX2_choose_49 : decode cX2_choose 49 = .ok (.aload_n 0, 1) := dk_42 (dk_at dksX2_choose_2 3 rfl rfl)
theorem dX2_choose_50 : decode cX2_choose 50 = .ok (.iconst 1, 1) := dk_4 (dk_at dksX2_choose_2 4 rfl rfl)
theorem dX2_choose_51 : decode cX2_choose 51 = .ok (.putfield 94, 3) := dk_181 0 94 (dk_at dksX2_choose_2 5 rfl rfl)
theorem dX2_choose_54 : decode cX2_choose 54 = .ok (.iconst (-1), 1) := dk_2 (dk_at dksX2_choose_2 8 rfl rfl)
theorem dX2_choose_55 : decode cX2_choose 55 = .ok (.ireturn, 1) := dk_172 (dk_at dksX2_choose_2 9 rfl rfl)
theorem dX2_choose_56 : decode cX2_choose 56 = .ok (.aload_n 0, 1) := dk_42 (dk_at dksX2_choose_2 10 rfl rfl)
theorem dX2_choose_57 : decode cX2_choose 57 = .ok (.aload_n 0, 1) := dk_42 (dk_at dksX2_choose_2 11 rfl rfl)
theorem dX2_choose_58 : decode cX2_choose 58 = .ok (.getfield 49, 3) := dk_180 0 49 (dk_at dksX2_choose_2 12 rfl rfl)
theorem dX2_choose_61 : decode cX2_choose 61 = .ok (.iload_n 1, 1) := dk_27 (dk_at dksX2_choose_2 15 rfl rfl)
theorem dX2_choose_62 : decode cX2_choose 62 = .ok (.bipush 8, 2) := dk_16 8 (dk_at dksX2_choose_2 16 rfl rfl)
theorem dX2_choose_64 : decode cX2_choose 64 = .ok (.imul, 1) := dk_104 (dk_at dksX2_choose_2 18 rfl rfl)
theorem dX2_choose_65 : decode cX2_choose 65 = .ok (.lload 4, 2) := dk_22 4 (dk_at dksX2_choose_2 19 rfl rfl)
theorem dX2_choose_67 : decode cX2_choose 67 = .ok (.l2i, 1) := dk_136 (dk_at dksX2_choose_2 21 rfl rfl)
theorem dX2_choose_68 : decode cX2_choose 68 = .ok (.iadd, 1) := dk_96 (dk_at dksX2_choose_2 22 rfl rfl)
theorem dX2_choose_69 : decode cX2_choose 69 = .ok (.iaload, 1) := dk_46 (dk_at dksX2_choose_2 23 rfl rfl)
theorem dX2_choose_70 : decode cX2_choose 70 = .ok (.invokevirtual 402, 3) := dk_182 1 146 (dk_at dksX2_choose_3 0 rfl rfl)
theorem dX2_choose_73 : decode cX2_choose 73 = .ok (.ireturn, 1) := dk_172 (dk_at dksX2_choose_3 3 rfl rfl)
abbrev cX2_goSub : ByteArray := prog_32_method_69_code
def yX2_goSub : MethodName := ⟨RX2, "goSub", "(II)I"⟩
def dkwX2_goSub_2 : List UInt8 := [89, 180, 0, 79, 4, 96, 181, 0, 79, 29, 172]
abbrev dktX2_goSub_2 : List UInt8 := dkwX2_goSub_2 ++ []
def dkwX2_goSub_1 : List UInt8 := [104, 46, 182, 1, 146, 62, 42, 180, 0, 94, 154, 0, 23, 42, 180, 0, 134, 42, 180, 0, 79, 28, 79, 42]
abbrev dktX2_goSub_1 : List UInt8 := dkwX2_goSub_1 ++ dktX2_goSub_2
def dkwX2_goSub_0 : List UInt8 := [42, 180, 0, 79, 16, 8, 160, 0, 10, 42, 5, 181, 0, 94, 2, 172, 42, 42, 180, 0, 49, 27, 16, 8]
abbrev dktX2_goSub_0 : List UInt8 := dkwX2_goSub_0 ++ dktX2_goSub_1
theorem dksX2_goSub_0 : cX2_goSub.data.toList.drop 0 = dktX2_goSub_0 := by decide +kernel
theorem dksX2_goSub_1 : cX2_goSub.data.toList.drop 24 = dktX2_goSub_1 := dk_seg dksX2_goSub_0 24 rfl rfl
theorem dksX2_goSub_2 : cX2_goSub.data.toList.drop 48 = dktX2_goSub_2 := dk_seg dksX2_goSub_1 24 rfl rfl
theorem dX2_goSub_0 : decode cX2_goSub 0 = .ok (.aload_n 0, 1) := dk_42 (dk_at dksX2_goSub_0 0 rfl rfl)
theorem dX2_goSub_1 : decode cX2_goSub 1 = .ok (.getfield 79, 3) := dk_180 0 79 (dk_at dksX2_goSub_0 1 rfl rfl)
theorem dX2_goSub_4 : decode cX2_goSub 4 = .ok (.bipush 8, 2) := dk_16 8 (dk_at dksX2_goSub_0 4 rfl rfl)
theorem dX2_goSub_6 : decode cX2_goSub 6 = .ok (.if_icmp .ne 10, 3) := dk_160 0 10 (dk_at dksX2_goSub_0 6 rfl rfl)
theorem dX2_goSub_9 : decode cX2_goSub 9 = .ok (.aload_n 0, 1) := dk_42 (dk_at dksX2_goSub_0 9 rfl rfl)
theorem dX2_goSub_10 : decode cX2_goSub 10 = .ok (.iconst 2, 1) := dk_5 (dk_at dksX2_goSub_0 10 rfl rfl)
theorem dX2_goSub_11 : decode cX2_goSub 11 = .ok (.putfield 94, 3) := dk_181 0 94 (dk_at dksX2_goSub_0 11 rfl rfl)
theorem dX2_goSub_14 : decode cX2_goSub 14 = .ok (.iconst (-1), 1) := dk_2 (dk_at dksX2_goSub_0 14 rfl rfl)
theorem dX2_goSub_15 : decode cX2_goSub 15 = .ok (.ireturn, 1) := dk_172 (dk_at dksX2_goSub_0 15 rfl rfl)
theorem dX2_goSub_16 : decode cX2_goSub 16 = .ok (.aload_n 0, 1) := dk_42 (dk_at dksX2_goSub_0 16 rfl rfl)
theorem dX2_goSub_17 : decode cX2_goSub 17 = .ok (.aload_n 0, 1) := dk_42 (dk_at dksX2_goSub_0 17 rfl rfl)
theorem dX2_goSub_18 : decode cX2_goSub 18 = .ok (.getfield 49, 3) := dk_180 0 49 (dk_at dksX2_goSub_0 18 rfl rfl)
theorem dX2_goSub_21 : decode cX2_goSub 21 = .ok (.iload_n 1, 1) := dk_27 (dk_at dksX2_goSub_0 21 rfl rfl)
theorem dX2_goSub_22 : decode cX2_goSub 22 = .ok (.bipush 8, 2) := dk_16 8 (dk_at dksX2_goSub_0 22 rfl rfl)
theorem dX2_goSub_24 : decode cX2_goSub 24 = .ok (.imul, 1) := dk_104 (dk_at dksX2_goSub_1 0 rfl rfl)
theorem dX2_goSub_25 : decode cX2_goSub 25 = .ok (.iaload, 1) := dk_46 (dk_at dksX2_goSub_1 1 rfl rfl)
theorem dX2_goSub_26 : decode cX2_goSub 26 = .ok (.invokevirtual 402, 3) := dk_182 1 146 (dk_at dksX2_goSub_1 2 rfl rfl)
theorem dX2_goSub_29 : decode cX2_goSub 29 = .ok (.istore_n 3, 1) := dk_62 (dk_at dksX2_goSub_1 5 rfl rfl)
theorem dX2_goSub_30 : decode cX2_goSub 30 = .ok (.aload_n 0, 1) := dk_42 (dk_at dksX2_goSub_1 6 rfl rfl)
theorem dX2_goSub_31 : decode cX2_goSub 31 = .ok (.getfield 94, 3) := dk_180 0 94 (dk_at dksX2_goSub_1 7 rfl rfl)
theorem dX2_goSub_34 : decode cX2_goSub 34 = .ok (.ifCond .ne 23, 3) := dk_154 0 23 (dk_at dksX2_goSub_1 10 rfl rfl)
theorem dX2_goSub_37 : decode cX2_goSub 37 = .ok (.aload_n 0, 1) := dk_42 (dk_at dksX2_goSub_1 13 rfl rfl)
theorem dX2_goSub_38 : decode cX2_goSub 38 = .ok (.getfield 134, 3) := dk_180 0 134 (dk_at dksX2_goSub_1 14 rfl rfl)
theorem dX2_goSub_41 : decode cX2_goSub 41 = .ok (.aload_n 0, 1) := dk_42 (dk_at dksX2_goSub_1 17 rfl rfl)
theorem dX2_goSub_42 : decode cX2_goSub 42 = .ok (.getfield 79, 3) := dk_180 0 79 (dk_at dksX2_goSub_1 18 rfl rfl)
theorem dX2_goSub_45 : decode cX2_goSub 45 = .ok (.iload_n 2, 1) := dk_28 (dk_at dksX2_goSub_1 21 rfl rfl)
theorem dX2_goSub_46 : decode cX2_goSub 46 = .ok (.iastore, 1) := dk_79 (dk_at dksX2_goSub_1 22 rfl rfl)
theorem dX2_goSub_47 : decode cX2_goSub 47 = .ok (.aload_n 0, 1) := dk_42 (dk_at dksX2_goSub_1 23 rfl rfl)
theorem dX2_goSub_48 : decode cX2_goSub 48 = .ok (.dup, 1) := dk_89 (dk_at dksX2_goSub_2 0 rfl rfl)
theorem dX2_goSub_49 : decode cX2_goSub 49 = .ok (.getfield 79, 3) := dk_180 0 79 (dk_at dksX2_goSub_2 1 rfl rfl)
theorem dX2_goSub_52 : decode cX2_goSub 52 = .ok (.iconst 1, 1) := dk_4 (dk_at dksX2_goSub_2 4 rfl rfl)
theorem dX2_goSub_53 : decode cX2_goSub 53 = .ok (.iadd, 1) := dk_96 (dk_at dksX2_goSub_2 5 rfl rfl)
theorem dX2_goSub_54 : decode cX2_goSub 54 = .ok (.putfield 79, 3) := dk_181 0 79 (dk_at dksX2_goSub_2 6 rfl rfl)
theorem dX2_goSub_57 : decode cX2_goSub 57 = .ok (.iload_n 3, 1) := dk_29 (dk_at dksX2_goSub_2 9 rfl rfl)
theorem dX2_goSub_58 : decode cX2_goSub 58 = .ok (.ireturn, 1) := dk_172 (dk_at dksX2_goSub_2 10 rfl rfl)
abbrev cX2_doFor : ByteArray := prog_32_method_66_code
def yX2_doFor : MethodName := ⟨RX2, "doFor", "(II)I"⟩
def dkwX2_doFor_11 : List UInt8 := [180, 0, 113, 42, 180, 0, 82, 24, 8, 82, 42, 89, 180, 0, 82, 4, 96, 181, 0, 82, 28, 172]
abbrev dktX2_doFor_11 : List UInt8 := dkwX2_doFor_11 ++ []
def dkwX2_doFor_10 : List UInt8 := [79, 42, 180, 0, 140, 42, 180, 0, 82, 27, 79, 42, 180, 0, 110, 42, 180, 0, 82, 24, 6, 82, 42]
abbrev dktX2_doFor_10 : List UInt8 := dkwX2_doFor_10 ++ dktX2_doFor_11
def dkwX2_doFor_9 : List UInt8 := [180, 0, 82, 16, 6, 160, 0, 10, 42, 5, 181, 0, 94, 28, 172, 42, 180, 0, 137, 42, 180, 0, 82, 29]
abbrev dktX2_doFor_9 : List UInt8 := dkwX2_doFor_9 ++ dktX2_doFor_10
def dkwX2_doFor_8 : List UInt8 := [180, 0, 42, 21, 10, 46, 182, 1, 133, 54, 10, 167, 255, 200, 42, 5, 181, 0, 94, 28, 172, 42]
abbrev dktX2_doFor_8 : List UInt8 := dkwX2_doFor_8 ++ dktX2_doFor_9
def dkwX2_doFor_7 : List UInt8 := [16, 8, 104, 46, 29, 160, 0, 15, 42, 42, 180, 0, 42, 21, 10, 46, 182, 1, 133, 172, 42, 42]
abbrev dktX2_doFor_7 : List UInt8 := dkwX2_doFor_7 ++ dktX2_doFor_8
def dkwX2_doFor_6 : List UInt8 := [21, 10, 155, 0, 57, 42, 180, 0, 46, 21, 10, 46, 16, 8, 160, 0, 29, 42, 180, 0, 49, 21, 10]
abbrev dktX2_doFor_6 : List UInt8 := dkwX2_doFor_6 ++ dktX2_doFor_7
def dkwX2_doFor_5 : List UInt8 := [180, 0, 101, 29, 24, 4, 82, 42, 24, 4, 24, 6, 24, 8, 182, 1, 142, 153, 0, 72, 28, 54, 10]
abbrev dktX2_doFor_5 : List UInt8 := dkwX2_doFor_5 ++ dktX2_doFor_6
def dkwX2_doFor_4 : List UInt8 := [153, 0, 5, 28, 172, 42, 29, 182, 1, 139, 155, 0, 12, 42, 42, 29, 182, 1, 139, 181, 0, 82, 42]
abbrev dktX2_doFor_4 : List UInt8 := dkwX2_doFor_4 ++ dktX2_doFor_5
def dkwX2_doFor_3 : List UInt8 := [4, 160, 0, 19, 42, 42, 180, 0, 52, 27, 7, 104, 5, 96, 46, 182, 1, 136, 57, 8, 42, 180, 0, 94]
abbrev dktX2_doFor_3 : List UInt8 := dkwX2_doFor_3 ++ dktX2_doFor_4
def dkwX2_doFor_2 : List UInt8 := [14, 57, 6, 15, 57, 8, 42, 180, 0, 94, 154, 0, 34, 42, 180, 0, 49, 27, 16, 8, 104, 4, 96, 46]
abbrev dktX2_doFor_2 : List UInt8 := dkwX2_doFor_2 ++ dktX2_doFor_3
def dkwX2_doFor_1 : List UInt8 := [42, 180, 0, 94, 154, 0, 20, 42, 42, 180, 0, 52, 27, 7, 104, 4, 96, 46, 182, 1, 136, 167, 0, 4]
abbrev dktX2_doFor_1 : List UInt8 := dkwX2_doFor_1 ++ dktX2_doFor_2
def dkwX2_doFor_0 : List UInt8 := [42, 180, 0, 49, 27, 16, 8, 104, 46, 62, 42, 42, 180, 0, 52, 27, 7, 104, 46, 182, 1, 136, 57, 4]
abbrev dktX2_doFor_0 : List UInt8 := dkwX2_doFor_0 ++ dktX2_doFor_1
theorem dksX2_doFor_0 : cX2_doFor.data.toList.drop 0 = dktX2_doFor_0 := by decide +kernel
theorem dksX2_doFor_1 : cX2_doFor.data.toList.drop 24 = dktX2_doFor_1 := dk_seg dksX2_doFor_0 24 rfl rfl
theorem dksX2_doFor_2 : cX2_doFor.data.toList.drop 48 = dktX2_doFor_2 := dk_seg dksX2_doFor_1 24 rfl rfl
theorem dksX2_doFor_3 : cX2_doFor.data.toList.drop 72 = dktX2_doFor_3 := dk_seg dksX2_doFor_2 24 rfl rfl
theorem dksX2_doFor_4 : cX2_doFor.data.toList.drop 96 = dktX2_doFor_4 := dk_seg dksX2_doFor_3 24 rfl rfl
theorem dksX2_doFor_5 : cX2_doFor.data.toList.drop 119 = dktX2_doFor_5 := dk_seg dksX2_doFor_4 23 rfl rfl
theorem dksX2_doFor_6 : cX2_doFor.data.toList.drop 142 = dktX2_doFor_6 := dk_seg dksX2_doFor_5 23 rfl rfl
theorem dksX2_doFor_7 : cX2_doFor.data.toList.drop 165 = dktX2_doFor_7 := dk_seg dksX2_doFor_6 23 rfl rfl
theorem dksX2_doFor_8 : cX2_doFor.data.toList.drop 187 = dktX2_doFor_8 := dk_seg dksX2_doFor_7 22 rfl rfl
theorem dksX2_doFor_9 : cX2_doFor.data.toList.drop 209 = dktX2_doFor_9 := dk_seg dksX2_doFor_8 22 rfl rfl
theorem dksX2_doFor_10 : cX2_doFor.data.toList.drop 233 = dktX2_doFor_10 := dk_seg dksX2_doFor_9 24 rfl rfl
theorem dksX2_doFor_11 : cX2_doFor.data.toList.drop 256 = dktX2_doFor_11 := dk_seg dksX2_doFor_10 23 rfl rfl
theorem dX2_doFor_0 : decode cX2_doFor 0 = .ok (.aload_n 0, 1) := dk_42 (dk_at dksX2_doFor_0 0 rfl rfl)
theorem dX2_doFor_1 : decode cX2_doFor 1 = .ok (.getfield 49, 3) := dk_180 0 49 (dk_at dksX2_doFor_0 1 rfl rfl)
theorem dX2_doFor_4 : decode cX2_doFor 4 = .ok (.iload_n 1, 1) := dk_27 (dk_at dksX2_doFor_0 4 rfl rfl)
theorem dX2_doFor_5 : decode cX2_doFor 5 = .ok (.bipush 8, 2) := dk_16 8 (dk_at dksX2_doFor_0 5 rfl rfl)
theorem dX2_doFor_7 : decode cX2_doFor 7 = .ok (.imul, 1) := dk_104 (dk_at dksX2_doFor_0 7 rfl rfl)
theorem dX2_doFor_8 : decode cX2_doFor 8 = .ok (.iaload, 1) := dk_46 (dk_at dksX2_doFor_0 8 rfl rfl)
theorem dX2_doFor_9 : decode cX2_doFor 9 = .ok (.istore_n 3, 1) := dk_62 (dk_at dksX2_doFor_0 9 rfl rfl)
theorem dX2_doFor_10 : decode cX2_doFor 10 = .ok (.aload_n 0, 1) := dk_42 (dk_at dksX2_doFor_0 10 rfl rfl)
theorem dX2_doFor_11 : decode cX2_doFor 11 = .ok (.aload_n 0, 1) := dk_42 (dk_at dksX2_doFor_0 11 rfl rfl)
theorem dX2_doFor_12 : decode cX2_doFor 12 = .ok (.getfield 52, 3) := dk_180 0 52 (dk_at dksX2_doFor_0 12 rfl rfl)
theorem dX2_doFor_15 : decode cX2_doFor 15 = .ok (.iload_n 1, 1) := dk_27 (dk_at dksX2_doFor_0 15 rfl rfl)
theorem dX2_doFor_16 : decode cX2_doFor 16 = .ok (.iconst 4, 1) := dk_7 (dk_at dksX2_doFor_0 16 rfl rfl)
theorem dX2_doFor_17 : decode cX2_doFor 17 = .ok (.imul, 1) := dk_104 (dk_at dksX2_doFor_0 17 rfl rfl)
theorem dX2_doFor_18 : decode cX2_doFor 18 = .ok (.iaload, 1) := dk_46 (dk_at dksX2_doFor_0 18 rfl rfl)
theorem dX2_doFor_19 : decode cX2_doFor 19 = .ok (.invokevirtual 392, 3) := dk_182 1 136 (dk_at dksX2_doFor_0 19 rfl rfl)
theorem dX2_doFor_22 : decode cX2_doFor 22 = .ok (.dstore 4, 2) := dk_57 4 (dk_at dksX2_doFor_0 22 rfl rfl)
theorem dX2_doFor_24 : decode cX2_doFor 24 = .ok (.aload_n 0, 1) := dk_42 (dk_at dksX2_doFor_1 0 rfl rfl)
theorem dX2_doFor_25 : decode cX2_doFor 25 = .ok (.getfield 94, 3) := dk_180 0 94 (dk_at dksX2_doFor_1 1 rfl rfl)
theorem dX2_doFor_28 : decode cX2_doFor 28 = .ok (.ifCond .ne 20, 3) := dk_154 0 20 (dk_at dksX2_doFor_1 4 rfl rfl)
theorem dX2_doFor_31 : decode cX2_doFor 31 = .ok (.aload_n 0, 1) := dk_42 (dk_at dksX2_doFor_1 7 rfl rfl)
theorem dX2_doFor_32 : decode cX2_doFor 32 = .ok (.aload_n 0, 1) := dk_42 (dk_at dksX2_doFor_1 8 rfl rfl)
theorem dX2_doFor_33 : decode cX2_doFor 33 = .ok (.getfield 52, 3) := dk_180 0 52 (dk_at dksX2_doFor_1 9 rfl rfl)
theorem dX2_doFor_36 : decode cX2_doFor 36 = .ok (.iload_n 1, 1) := dk_27 (dk_at dksX2_doFor_1 12 rfl rfl)
theorem dX2_doFor_37 : decode cX2_doFor 37 = .ok (.iconst 4, 1) := dk_7 (dk_at dksX2_doFor_1 13 rfl rfl)
theorem dX2_doFor_38 : decode cX2_doFor 38 = .ok (.imul, 1) := dk_104 (dk_at dksX2_doFor_1 14 rfl rfl)
theorem dX2_doFor_39 : decode cX2_doFor 39 = .ok (.iconst 1, 1) := dk_4 (dk_at dksX2_doFor_1 15 rfl rfl)
theorem dX2_doFor_40 : decode cX2_doFor 40 = .ok (.iadd, 1) := dk_96 (dk_at dksX2_doFor_1 16 rfl rfl)
theorem dX2_doFor_41 : decode cX2_doFor 41 = .ok (.iaload, 1) := dk_46 (dk_at dksX2_doFor_1 17 rfl rfl)
theorem dX2_doFor_42 : decode cX2_doFor 42 = .ok (.invokevirtual 392, 3) := dk_182 1 136 (dk_at dksX2_doFor_1 18 rfl rfl)
theorem dX2_doFor_45 : decode cX2_doFor 45 = .ok (.goto 4, 3) := dk_167 0 4 (dk_at dksX2_doFor_1 21 rfl rfl)
theorem dX2_doFor_48 : decode cX2_doFor 48 = .ok (.dconst 0, 1) := dk_14 (dk_at dksX2_doFor_2 0 rfl rfl)
theorem dX2_doFor_49 : decode cX2_doFor 49 = .ok (.dstore 6, 2) := dk_57 6 (dk_at dksX2_doFor_2 1 rfl rfl)
theorem dX2_doFor_51 : decode cX2_doFor 51 = .ok (.dconst 1, 1) := dk_15 (dk_at dksX2_doFor_2 3 rfl rfl)
theorem dX2_doFor_52 : decode cX2_doFor 52 = .ok (.dstore 8, 2) := dk_57 8 (dk_at dksX2_doFor_2 4 rfl rfl)
theorem dX2_doFor_54 : decode cX2_doFor 54 = .ok (.aload_n 0, 1) := dk_42 (dk_at dksX2_doFor_2 6 rfl rfl)
theorem dX2_doFor_55 : decode cX2_doFor 55 = .ok (.getfield 94, 3) := dk_180 0 94 (dk_at dksX2_doFor_2 7 rfl rfl)
theorem dX2_doFor_58 : decode cX2_doFor 58 = .ok (.ifCond .ne 34, 3) := dk_154 0 34 (dk_at dksX2_doFor_2 10 rfl rfl)
theorem dX2_doFor_61 : decode cX2_doFor 61 = .ok (.aload_n 0, 1) := dk_42 (dk_at dksX2_doFor_2 13 rfl rfl)
theorem dX2_doFor_62 : decode cX2_doFor 62 = .ok (.getfield 49, 3) := dk_180 0 49 (dk_at dksX2_doFor_2 14 rfl rfl)
theorem dX2_doFor_65 : decode cX2_doFor 65 = .ok (.iload_n 1, 1) := dk_27 (dk_at dksX2_doFor_2 17 rfl rfl)
theorem dX2_doFor_66 : decode cX2_doFor 66 = .ok (.bipush 8, 2) := dk_16 8 (dk_at dksX2_doFor_2 18 rfl rfl)
theorem dX2_doFor_68 : decode cX2_doFor 68 = .ok (.imul, 1) := dk_104 (dk_at dksX2_doFor_2 20 rfl rfl)
theorem dX2_doFor_69 : decode cX2_doFor 69 = .ok (.iconst 1, 1) := dk_4 (dk_at dksX2_doFor_2 21 rfl rfl)
theorem dX2_doFor_70 : decode cX2_doFor 70 = .ok (.iadd, 1) := dk_96 (dk_at dksX2_doFor_2 22 rfl rfl)
theorem dX2_doFor_71 : decode cX2_doFor 71 = .ok (.iaload, 1) := dk_46 (dk_at dksX2_doFor_2 23 rfl rfl)
theorem dX2_doFor_72 : decode cX2_doFor 72 = .ok (.iconst 1, 1) := dk_4 (dk_at dksX2_doFor_3 0 rfl rfl)
theorem dX2_doFor_73 : decode cX2_doFor 73 = .ok (.if_icmp .ne 19, 3) := dk_160 0 19 (dk_at dksX2_doFor_3 1 rfl rfl)
theorem dX2_doFor_76 : decode cX2_doFor 76 = .ok (.aload_n 0, 1) := dk_42 (dk_at dksX2_doFor_3 4 rfl rfl)
theorem dX2_doFor_77 : decode cX2_doFor 77 = .ok (.aload_n 0, 1) := dk_42 (dk_at dksX2_doFor_3 5 rfl rfl)
theorem dX2_doFor_78 : decode cX2_doFor 78 = .ok (.getfield 52, 3) := dk_180 0 52 (dk_at dksX2_doFor_3 6 rfl rfl)
theorem dX2_doFor_81 : decode cX2_doFor 81 = .ok (.iload_n 1, 1) := dk_27 (dk_at dksX2_doFor_3 9 rfl rfl)
theorem dX2_doFor_82 : decode cX2_doFor 82 = .ok (.iconst 4, 1) := dk_7 (dk_at dksX2_doFor_3 10 rfl rfl)
theorem dX2_doFor_83 : decode cX2_doFor 83 = .ok (.imul, 1) := dk_104 (dk_at dksX2_doFor_3 11 rfl rfl)
theorem dX2_doFor_84 : decode cX2_doFor 84 = .ok (.iconst 2, 1) := dk_5 (dk_at dksX2_doFor_3 12 rfl rfl)
theorem dX2_doFor_85 : decode cX2_doFor 85 = .ok (.iadd, 1) := dk_96 (dk_at dksX2_doFor_3 13 rfl rfl)
theorem dX2_doFor_86 : decode cX2_doFor 86 = .ok (.iaload, 1) := dk_46 (dk_at dksX2_doFor_3 14 rfl rfl)
theorem dX2_doFor_87 : decode cX2_doFor 87 = .ok (.invokevirtual 392, 3) := dk_182 1 136 (dk_at dksX2_doFor_3 15 rfl rfl)
theorem dX2_doFor_90 : decode cX2_doFor 90 = .ok (.dstore 8, 2) := dk_57 8 (dk_at dksX2_doFor_3 18 rfl rfl)
theorem dX2_doFor_92 : decode cX2_doFor 92 = .ok (.aload_n 0, 1) := dk_42 (dk_at dksX2_doFor_3 20 rfl rfl)
theorem dX2_doFor_93 : decode cX2_doFor 93 = .ok (.getfield 94, 3) := dk_180 0 94 (dk_at dksX2_doFor_3 21 rfl rfl)
theorem dX2_doFor_96 : decode cX2_doFor 96 = .ok (.ifCond .eq 5, 3) := dk_153 0 5 (dk_at dksX2_doFor_4 0 rfl rfl)
theorem dX2_doFor_99 : decode cX2_doFor 99 = .ok (.iload_n 2, 1) := dk_28 (dk_at dksX2_doFor_4 3 rfl rfl)
theorem dX2_doFor_100 : decode cX2_doFor 100 = .ok (.ireturn, 1) := dk_172 (dk_at dksX2_doFor_4 4 rfl rfl)
theorem dX2_doFor_101 : decode cX2_doFor 101 = .ok (.aload_n 0, 1) := dk_42 (dk_at dksX2_doFor_4 5 rfl rfl)
theorem dX2_doFor_102 : decode cX2_doFor 102 = .ok (.iload_n 3, 1) := dk_29 (dk_at dksX2_doFor_4 6 rfl rfl)
theorem dX2_doFor_103 : decode cX2_doFor 103 = .ok (.invokevirtual 395, 3) := dk_182 1 139 (dk_at dksX2_doFor_4 7 rfl rfl)
theorem dX2_doFor_106 : decode cX2_doFor 106 = .ok (.ifCond .lt 12, 3) := dk_155 0 12 (dk_at dksX2_doFor_4 10 rfl rfl)
theorem dX2_doFor_109 : decode cX2_doFor 109 = .ok (.aload_n 0, 1) := dk_42 (dk_at dksX2_doFor_4 13 rfl rfl)
theorem dX2_doFor_110 : decode cX2_doFor 110 = .ok (.aload_n 0, 1) := dk_42 (dk_at dksX2_doFor_4 14 rfl rfl)
theorem dX2_doFor_111 : decode cX2_doFor 111 = .ok (.iload_n 3, 1) := dk_29 (dk_at dksX2_doFor_4 15 rfl rfl)
theorem dX2_doFor_112 : decode cX2_doFor 112 = .ok (.invokevirtual 395, 3) := dk_182 1 139 (dk_at dksX2_doFor_4 16 rfl rfl)
theorem dX2_doFor_115 : decode cX2_doFor 115 = .ok (.putfield 82, 3) := dk_181 0 82 (dk_at dksX2_doFor_4 19 rfl rfl)
theorem dX2_doFor_118 : decode cX2_doFor 118 = .ok (.aload_n 0, 1) := dk_42 (dk_at dksX2_doFor_4 22 rfl rfl)
theorem dX2_doFor_119 : decode cX2_doFor 119 = .ok (.getfield 101, 3) := dk_180 0 101 (dk_at dksX2_doFor_5 0 rfl rfl)
theorem dX2_doFor_122 : decode cX2_doFor 122 = .ok (.iload_n 3, 1) := dk_29 (dk_at dksX2_doFor_5 3 rfl rfl)
theorem dX2_doFor_123 : decode cX2_doFor 123 = .ok (.dload 4, 2) := dk_24 4 (dk_at dksX2_doFor_5 4 rfl rfl)
theorem dX2_doFor_125 : decode cX2_doFor 125 = .ok (.dastore, 1) := dk_82 (dk_at dksX2_doFor_5 6 rfl rfl)
theorem dX2_doFor_126 : decode cX2_doFor 126 = .ok (.aload_n 0, 1) := dk_42 (dk_at dksX2_doFor_5 7 rfl rfl)
theorem dX2_doFor_127 : decode cX2_doFor 127 = .ok (.dload 4, 2) := dk_24 4 (dk_at dksX2_doFor_5 8 rfl rfl)
theorem dX2_doFor_129 : decode cX2_doFor 129 = .ok (.dload 6, 2) := dk_24 6 (dk_at dksX2_doFor_5 10 rfl rfl)
theorem dX2_doFor_131 : decode cX2_doFor 131 = .ok (.dload 8, 2) := dk_24 8 (dk_at dksX2_doFor_5 12 rfl rfl)
theorem dX2_doFor_133 : decode cX2_doFor 133 = .ok (.invokevirtual 398, 3) := dk_182 1 142 (dk_at dksX2_doFor_5 14 rfl rfl)
theorem dX2_doFor_136 : decode cX2_doFor 136 = .ok (.ifCond .eq 72, 3) := dk_153 0 72 (dk_at dksX2_doFor_5 17 rfl rfl)
theorem dX2_doFor_139 : decode cX2_doFor 139 = .ok (.iload_n 2, 1) := dk_28 (dk_at dksX2_doFor_5 20 rfl rfl)
theorem dX2_doFor_140 : decode cX2_doFor 140 = .ok (.istore 10, 2) := dk_54 10 (dk_at dksX2_doFor_5 21 rfl rfl)
theorem dX2_doFor_142 : decode cX2_doFor 142 = .ok (.iload 10, 2) := dk_21 10 (dk_at dksX2_doFor_6 0 rfl rfl)
theorem dX2_doFor_144 : decode cX2_doFor 144 = .ok (.ifCond .lt 57, 3) := dk_155 0 57 (dk_at dksX2_doFor_6 2 rfl rfl)
theorem dX2_doFor_147 : decode cX2_doFor 147 = .ok (.aload_n 0, 1) := dk_42 (dk_at dksX2_doFor_6 5 rfl rfl)
theorem dX2_doFor_148 : decode cX2_doFor 148 = .ok (.getfield 46, 3) := dk_180 0 46 (dk_at dksX2_doFor_6 6 rfl rfl)
theorem dX2_doFor_151 : decode cX2_doFor 151 = .ok (.iload 10, 2) := dk_21 10 (dk_at dksX2_doFor_6 9 rfl rfl)
theorem dX2_doFor_153 : decode cX2_doFor 153 = .ok (.iaload, 1) := dk_46 (dk_at dksX2_doFor_6 11 rfl rfl)
theorem dX2_doFor_154 : decode cX2_doFor 154 = .ok (.bipush 8, 2) := dk_16 8 (dk_at dksX2_doFor_6 12 rfl rfl)
theorem dX2_doFor_156 : decode cX2_doFor 156 = .ok (.if_icmp .ne 29, 3) := dk_160 0 29 (dk_at dksX2_doFor_6 14 rfl rfl)
theorem dX2_doFor_159 : decode cX2_doFor 159 = .ok (.aload_n 0, 1) := dk_42 (dk_at dksX2_doFor_6 17 rfl rfl)
theorem dX2_doFor_160 : decode cX2_doFor 160 = .ok (.getfield 49, 3) := dk_180 0 49 (dk_at dksX2_doFor_6 18 rfl rfl)
theorem dX2_doFor_163 : decode cX2_doFor 163 = .ok (.iload 10, 2) := dk_21 10 (dk_at dksX2_doFor_6 21 rfl rfl)
theorem dX2_doFor_165 : decode cX2_doFor 165 = .ok (.bipush 8, 2) := dk_16 8 (dk_at dksX2_doFor_7 0 rfl rfl)
theorem dX2_doFor_167 : decode cX2_doFor 167 = .ok (.imul, 1) := dk_104 (dk_at dksX2_doFor_7 2 rfl rfl)
theorem dX2_doFor_168 : decode cX2_doFor 168 = .ok (.iaload, 1) := dk_46 (dk_at dksX2_doFor_7 3 rfl rfl)
theorem dX2_doFor_169 : decode cX2_doFor 169 = .ok (.iload_n 3, 1) := dk_29 (dk_at dksX2_doFor_7 4 rfl rfl)
theorem dX2_doFor_170 : decode cX2_doFor 170 = .ok (.if_icmp .ne 15, 3) := dk_160 0 15 (dk_at dksX2_doFor_7 5 rfl rfl)
theorem dX2_doFor_173 : decode cX2_doFor 173 = .ok (.aload_n 0, 1) := dk_42 (dk_at dksX2_doFor_7 8 rfl rfl)
theorem dX2_doFor_174 : decode cX2_doFor 174 = .ok (.aload_n 0, 1) := dk_42 (dk_at dksX2_doFor_7 9 rfl rfl)
theorem dX2_doFor_175 : decode cX2_doFor 175 = .ok (.getfield 42, 3) := dk_180 0 42 (dk_at dksX2_doFor_7 10 rfl rfl)
theorem dX2_doFor_178 : decode cX2_doFor 178 = .ok (.iload 10, 2) := dk_21 10 (dk_at dksX2_doFor_7 13 rfl rfl)
theorem dX2_doFor_180 : decode cX2_doFor 180 = .ok (.iaload, 1) := dk_46 (dk_at dksX2_doFor_7 15 rfl rfl)
theorem dX2_doFor_181 : decode cX2_doFor 181 = .ok (.invokevirtual 389, 3) := dk_182 1 133 (dk_at dksX2_doFor_7 16 rfl rfl)
theorem dX2_doFor_184 : decode cX2_doFor 184 = .ok (.ireturn, 1) := dk_172 (dk_at dksX2_doFor_7 19 rfl rfl)
theorem dX2_doFor_185 : decode cX2_doFor 185 = .ok (.aload_n 0, 1) := dk_42 (dk_at dksX2_doFor_7 20 rfl rfl)
theorem dX2_doFor_186 : decode cX2_doFor 186 = .ok (.aload_n 0, 1) := dk_42 (dk_at dksX2_doFor_7 21 rfl rfl)
theorem dX2_doFor_187 : decode cX2_doFor 187 = .ok (.getfield 42, 3) := dk_180 0 42 (dk_at dksX2_doFor_8 0 rfl rfl)
theorem dX2_doFor_190 : decode cX2_doFor 190 = .ok (.iload 10, 2) := dk_21 10 (dk_at dksX2_doFor_8 3 rfl rfl)
theorem dX2_doFor_192 : decode cX2_doFor 192 = .ok (.iaload, 1) := dk_46 (dk_at dksX2_doFor_8 5 rfl rfl)
theorem dX2_doFor_193 : decode cX2_doFor 193 = .ok (.invokevirtual 389, 3) := dk_182 1 133 (dk_at dksX2_doFor_8 6 rfl rfl)
theorem dX2_doFor_196 : decode cX2_doFor 196 = .ok (.istore 10, 2) := dk_54 10 (dk_at dksX2_doFor_8 9 rfl rfl)
theorem dX2_doFor_198 : decode cX2_doFor 198 = .ok (.goto (-56), 3) := dk_167 255 200 (dk_at dksX2_doFor_8 11 rfl rfl)
theorem dX2_doFor_201 : decode cX2_doFor 201 = .ok (.aload_n 0, 1) := dk_42 (dk_at dksX2_doFor_8 14 rfl rfl)
theorem dX2_doFor_202 : decode cX2_doFor 202 = .ok (.iconst 2, 1) := dk_5 (dk_at dksX2_doFor_8 15 rfl rfl)
theorem dX2_doFor_203 : decode cX2_doFor 203 = .ok (.putfield 94, 3) := dk_181 0 94 (dk_at dksX2_doFor_8 16 rfl rfl)
theorem dX2_doFor_206 : decode cX2_doFor 206 = .ok (.iload_n 2, 1) := dk_28 (dk_at dksX2_doFor_8 19 rfl rfl)
theorem dX2_doFor_207 : decode cX2_doFor 207 = .ok (.ireturn, 1) := dk_172 (dk_at dksX2_doFor_8 20 rfl rfl)
theorem dX2_doFor_208 : decode cX2_doFor 208 = .ok (.aload_n 0, 1) := dk_42 (dk_at dksX2_doFor_8 21 rfl rfl)
theorem dX2_doFor_209 : decode cX2_doFor 209 = .ok (.getfield 82, 3) := dk_180 0 82 (dk_at dksX2_doFor_9 0 rfl rfl)
theorem dX2_doFor_212 : decode cX2_doFor 212 = .ok (.bipush 6, 2) := dk_16 6 (dk_at dksX2_doFor_9 3 rfl rfl)
theorem dX2_doFor_214 : decode cX2_doFor 214 = .ok (.if_icmp .ne 10, 3) := dk_160 0 10 (dk_at dksX2_doFor_9 5 rfl rfl)
theorem dX2_doFor_217 : decode cX2_doFor 217 = .ok (.aload_n 0, 1) := dk_42 (dk_at dksX2_doFor_9 8 rfl rfl)
theorem dX2_doFor_218 : decode cX2_doFor 218 = .ok (.iconst 2, 1) := dk_5 (dk_at dksX2_doFor_9 9 rfl rfl)
theorem dX2_doFor_219 : decode cX2_doFor 219 = .ok (.putfield 94, 3) := dk_181 0 94 (dk_at dksX2_doFor_9 10 rfl rfl)
theorem dX2_doFor_222 : decode cX2_doFor 222 = .ok (.iload_n 2, 1) := dk_28 (dk_at dksX2_doFor_9 13 rfl rfl)
theorem dX2_doFor_223 : decode cX2_doFor 223 = .ok (.ireturn, 1) := dk_172 (dk_at dksX2_doFor_9 14 rfl rfl)
theorem dX2_doFor_224 : decode cX2_doFor 224 = .ok (.aload_n 0, 1) := dk_42 (dk_at dksX2_doFor_9 15 rfl rfl)
theorem dX2_doFor_225 : decode cX2_doFor 225 = .ok (.getfield 137, 3) := dk_180 0 137 (dk_at dksX2_doFor_9 16 rfl rfl)
theorem dX2_doFor_228 : decode cX2_doFor 228 = .ok (.aload_n 0, 1) := dk_42 (dk_at dksX2_doFor_9 19 rfl rfl)
theorem dX2_doFor_229 : decode cX2_doFor 229 = .ok (.getfield 82, 3) := dk_180 0 82 (dk_at dksX2_doFor_9 20 rfl rfl)
theorem dX2_doFor_232 : decode cX2_doFor 232 = .ok (.iload_n 3, 1) := dk_29 (dk_at dksX2_doFor_9 23 rfl rfl)
theorem dX2_doFor_233 : decode cX2_doFor 233 = .ok (.iastore, 1) := dk_79 (dk_at dksX2_doFor_10 0 rfl rfl)
theorem dX2_doFor_234 : decode cX2_doFor 234 = .ok (.aload_n 0, 1) := dk_42 (dk_at dksX2_doFor_10 1 rfl rfl)
theorem dX2_doFor_235 : decode cX2_doFor 235 = .ok (.getfield 140, 3) := dk_180 0 140 (dk_at dksX2_doFor_10 2 rfl rfl)
theorem dX2_doFor_238 : decode cX2_doFor 238 = .ok (.aload_n 0, 1) := dk_42 (dk_at dksX2_doFor_10 5 rfl rfl)
theorem dX2_doFor_239 : decode cX2_doFor 239 = .ok (.getfield 82, 3) := dk_180 0 82 (dk_at dksX2_doFor_10 6 rfl rfl)
theorem dX2_doFor_242 : decode cX2_doFor 242 = .ok (.iload_n 1, 1) := dk_27 (dk_at dksX2_doFor_10 9 rfl rfl)
theorem dX2_doFor_243 : decode cX2_doFor 243 = .ok (.iastore, 1) := dk_79 (dk_at dksX2_doFor_10 10 rfl rfl)
theorem dX2_doFor_244 : decode cX2_doFor 244 = .ok (.aload_n 0, 1) := dk_42 (dk_at dksX2_doFor_10 11 rfl rfl)
theorem dX2_doFor_245 : decode cX2_doFor 245 = .ok (.getfield 110, 3) := dk_180 0 110 (dk_at dksX2_doFor_10 12 rfl rfl)
theorem dX2_doFor_248 : decode cX2_doFor 248 = .ok (.aload_n 0, 1) := dk_42 (dk_at dksX2_doFor_10 15 rfl rfl)
theorem dX2_doFor_249 : decode cX2_doFor 249 = .ok (.getfield 82, 3) := dk_180 0 82 (dk_at dksX2_doFor_10 16 rfl rfl)
theorem dX2_doFor_252 : decode cX2_doFor 252 = .ok (.dload 6, 2) := dk_24 6 (dk_at dksX2_doFor_10 19 rfl rfl)
theorem dX2_doFor_254 : decode cX2_doFor 254 = .ok (.dastore, 1) := dk_82 (dk_at dksX2_doFor_10 21 rfl rfl)
theorem dX2_doFor_255 : decode cX2_doFor 255 = .ok (.aload_n 0, 1) := dk_42 (dk_at dksX2_doFor_10 22 rfl rfl)
theorem dX2_doFor_256 : decode cX2_doFor 256 = .ok (.getfield 113, 3) := dk_180 0 113 (dk_at dksX2_doFor_11 0 rfl rfl)
theorem dX2_doFor_259 : decode cX2_doFor 259 = .ok (.aload_n 0, 1) := dk_42 (dk_at dksX2_doFor_11 3 rfl rfl)
theorem dX2_doFor_260 : decode cX2_doFor 260 = .ok (.getfield 82, 3) := dk_180 0 82 (dk_at dksX2_doFor_11 4 rfl rfl)
theorem dX2_doFor_263 : decode cX2_doFor 263 = .ok (.dload 8, 2) := dk_24 8 (dk_at dksX2_doFor_11 7 rfl rfl)
theorem dX2_doFor_265 : decode cX2_doFor 265 = .ok (.dastore, 1) := dk_82 (dk_at dksX2_doFor_11 9 rfl rfl)
theorem dX2_doFor_266 : decode cX2_doFor 266 = .ok (.aload_n 0, 1) := dk_42 (dk_at dksX2_doFor_11 10 rfl rfl)
theorem dX2_doFor_267 : decode cX2_doFor 267 = .ok (.dup, 1) := dk_89 (dk_at dksX2_doFor_11 11 rfl rfl)
theorem dX2_doFor_268 : decode cX2_doFor 268 = .ok (.getfield 82, 3) := dk_180 0 82 (dk_at dksX2_doFor_11 12 rfl rfl)
theorem dX2_doFor_271 : decode cX2_doFor 271 = .ok (.iconst 1, 1) := dk_4 (dk_at dksX2_doFor_11 15 rfl rfl)
theorem dX2_doFor_272 : decode cX2_doFor 272 = .ok (.iadd, 1) := dk_96 (dk_at dksX2_doFor_11 16 rfl rfl)
theorem dX2_doFor_273 : decode cX2_doFor 273 = .ok (.putfield 82, 3) := dk_181 0 82 (dk_at dksX2_doFor_11 17 rfl rfl)
theorem dX2_doFor_276 : decode cX2_doFor 276 = .ok (.iload_n 2, 1) := dk_28 (dk_at dksX2_doFor_11 20 rfl rfl)
theorem dX2_doFor_277 : decode cX2_doFor 277 = .ok (.ireturn, 1) := dk_172 (dk_at dksX2_doFor_11 21 rfl rfl)
abbrev cX2_loopFor : ByteArray := prog_32_method_65_code
def yX2_loopFor : MethodName := ⟨RX2, "loopFor", "(I)I"⟩
def dkwX2_loopFor_1 : List UInt8 := [132, 2, 1, 167, 255, 233, 2, 172]
abbrev dktX2_loopFor_1 : List UInt8 := dkwX2_loopFor_1 ++ []
def dkwX2_loopFor_0 : List UInt8 := [3, 61, 28, 42, 180, 0, 82, 162, 0, 21, 42, 180, 0, 137, 28, 46, 27, 160, 0, 5, 28, 172]
abbrev dktX2_loopFor_0 : List UInt8 := dkwX2_loopFor_0 ++ dktX2_loopFor_1
theorem dksX2_loopFor_0 : cX2_loopFor.data.toList.drop 0 = dktX2_loopFor_0 := by decide +kernel
theorem dksX2_loopFor_1 : cX2_loopFor.data.toList.drop 22 = dktX2_loopFor_1 := dk_seg dksX2_loopFor_0 22 rfl rfl
theorem dX2_loopFor_0 : decode cX2_loopFor 0 = .ok (.iconst 0, 1) := dk_3 (dk_at dksX2_loopFor_0 0 rfl rfl)
theorem dX2_loopFor_1 : decode cX2_loopFor 1 = .ok (.istore_n 2, 1) := dk_61 (dk_at dksX2_loopFor_0 1 rfl rfl)
theorem dX2_loopFor_2 : decode cX2_loopFor 2 = .ok (.iload_n 2, 1) := dk_28 (dk_at dksX2_loopFor_0 2 rfl rfl)
theorem dX2_loopFor_3 : decode cX2_loopFor 3 = .ok (.aload_n 0, 1) := dk_42 (dk_at dksX2_loopFor_0 3 rfl rfl)
theorem dX2_loopFor_4 : decode cX2_loopFor 4 = .ok (.getfield 82, 3) := dk_180 0 82 (dk_at dksX2_loopFor_0 4 rfl rfl)
theorem dX2_loopFor_7 : decode cX2_loopFor 7 = .ok (.if_icmp .ge 21, 3) := dk_162 0 21 (dk_at dksX2_loopFor_0 7 rfl rfl)
theorem dX2_loopFor_10 : decode cX2_loopFor 10 = .ok (.aload_n 0, 1) := dk_42 (dk_at dksX2_loopFor_0 10 rfl rfl)
theorem dX2_loopFor_11 : decode cX2_loopFor 11 = .ok (.getfield 137, 3) := dk_180 0 137 (dk_at dksX2_loopFor_0 11 rfl rfl)
theorem dX2_loopFor_14 : decode cX2_loopFor 14 = .ok (.iload_n 2, 1) := dk_28 (dk_at dksX2_loopFor_0 14 rfl rfl)
theorem dX2_loopFor_15 : decode cX2_loopFor 15 = .ok (.iaload, 1) := dk_46 (dk_at dksX2_loopFor_0 15 rfl rfl)
theorem dX2_loopFor_16 : decode cX2_loopFor 16 = .ok (.iload_n 1, 1) := dk_27 (dk_at dksX2_loopFor_0 16 rfl rfl)
theorem dX2_loopFor_17 : decode cX2_loopFor 17 = .ok (.if_icmp .ne 5, 3) := dk_160 0 5 (dk_at dksX2_loopFor_0 17 rfl rfl)
theorem dX2_loopFor_20 : decode cX2_loopFor 20 = .ok (.iload_n 2, 1) := dk_28 (dk_at dksX2_loopFor_0 20 rfl rfl)
theorem dX2_loopFor_21 : decode cX2_loopFor 21 = .ok (.ireturn, 1) := dk_172 (dk_at dksX2_loopFor_0 21 rfl rfl)
theorem dX2_loopFor_22 : decode cX2_loopFor 22 = .ok (.iinc 2 1, 3) := dk_132 2 1 (dk_at dksX2_loopFor_1 0 rfl rfl)
theorem dX2_loopFor_25 : decode cX2_loopFor 25 = .ok (.goto (-23), 3) := dk_167 255 233 (dk_at dksX2_loopFor_1 3 rfl rfl)
theorem dX2_loopFor_28 : decode cX2_loopFor 28 = .ok (.iconst (-1), 1) := dk_2 (dk_at dksX2_loopFor_1 6 rfl rfl)
theorem dX2_loopFor_29 : decode cX2_loopFor 29 = .ok (.ireturn, 1) := dk_172 (dk_at dksX2_loopFor_1 7 rfl rfl)
abbrev cX2_over : ByteArray := prog_32_method_64_code
def yX2_over : MethodName := ⟨RX2, "over", "(DDD)Z"⟩
def dkwX2_over_1 : List UInt8 := [158, 0, 7, 4, 167, 0, 4, 3, 172]
abbrev dktX2_over_1 : List UInt8 := dkwX2_over_1 ++ []
def dkwX2_over_0 : List UInt8 := [24, 5, 14, 152, 156, 0, 17, 39, 41, 152, 156, 0, 7, 4, 167, 0, 18, 3, 167, 0, 14, 39, 41, 151]
abbrev dktX2_over_0 : List UInt8 := dkwX2_over_0 ++ dktX2_over_1
theorem dksX2_over_0 : cX2_over.data.toList.drop 0 = dktX2_over_0 := by decide +kernel
theorem dksX2_over_1 : cX2_over.data.toList.drop 24 = dktX2_over_1 := dk_seg dksX2_over_0 24 rfl rfl
theorem dX2_over_0 : decode cX2_over 0 = .ok (.dload 5, 2) := dk_24 5 (dk_at dksX2_over_0 0 rfl rfl)
theorem dX2_over_2 : decode cX2_over 2 = .ok (.dconst 0, 1) := dk_14 (dk_at dksX2_over_0 2 rfl rfl)
theorem dX2_over_3 : decode cX2_over 3 = .ok (.dcmp .g, 1) := dk_152 (dk_at dksX2_over_0 3 rfl rfl)
theorem dX2_over_4 : decode cX2_over 4 = .ok (.ifCond .ge 17, 3) := dk_156 0 17 (dk_at dksX2_over_0 4 rfl rfl)
theorem dX2_over_7 : decode cX2_over 7 = .ok (.dload_n 1, 1) := dk_39 (dk_at dksX2_over_0 7 rfl rfl)
theorem dX2_over_8 : decode cX2_over 8 = .ok (.dload_n 3, 1) := dk_41 (dk_at dksX2_over_0 8 rfl rfl)
theorem dX2_over_9 : decode cX2_over 9 = .ok (.dcmp .g, 1) := dk_152 (dk_at dksX2_over_0 9 rfl rfl)
theorem dX2_over_10 : decode cX2_over 10 = .ok (.ifCond .ge 7, 3) := dk_156 0 7 (dk_at dksX2_over_0 10 rfl rfl)
theorem dX2_over_13 : decode cX2_over 13 = .ok (.iconst 1, 1) := dk_4 (dk_at dksX2_over_0 13 rfl rfl)
theorem dX2_over_14 : decode cX2_over 14 = .ok (.goto 18, 3) := dk_167 0 18 (dk_at dksX2_over_0 14 rfl rfl)
theorem dX2_over_17 : decode cX2_over 17 = .ok (.iconst 0, 1) := dk_3 (dk_at dksX2_over_0 17 rfl rfl)
theorem dX2_over_18 : decode cX2_over 18 = .ok (.goto 14, 3) := dk_167 0 14 (dk_at dksX2_over_0 18 rfl rfl)
theorem dX2_over_21 : decode cX2_over 21 = .ok (.dload_n 1, 1) := dk_39 (dk_at dksX2_over_0 21 rfl rfl)
theorem dX2_over_22 : decode cX2_over 22 = .ok (.dload_n 3, 1) := dk_41 (dk_at dksX2_over_0 22 rfl rfl)
theorem dX2_over_23 : decode cX2_over 23 = .ok (.dcmp .l, 1) := dk_151 (dk_at dksX2_over_0 23 rfl rfl)
theorem dX2_over_24 : decode cX2_over 24 = .ok (.ifCond .le 7, 3) := dk_158 0 7 (dk_at dksX2_over_1 0 rfl rfl)
theorem dX2_over_27 : decode cX2_over 27 = .ok (.iconst 1, 1) := dk_4 (dk_at dksX2_over_1 3 rfl rfl)
theorem dX2_over_28 : decode cX2_over 28 = .ok (.goto 4, 3) := dk_167 0 4 (dk_at dksX2_over_1 4 rfl rfl)
theorem dX2_over_31 : decode cX2_over 31 = .ok (.iconst 0, 1) := dk_3 (dk_at dksX2_over_1 7 rfl rfl)
theorem dX2_over_32 : decode cX2_over 32 = .ok (.ireturn, 1) := dk_172 (dk_at dksX2_over_1 8 rfl rfl)
abbrev cX2_doNext : ByteArray := prog_32_method_67_code
def yX2_doNext : MethodName := ⟨RX2, "doNext", "(II)I"⟩
def dkwX2_doNext_5 : List UInt8 := [181, 0, 82, 28, 172]
abbrev dktX2_doNext_5 : List UInt8 := dkwX2_doNext_5 ++ []
def dkwX2_doNext_4 : List UInt8 := [154, 0, 20, 42, 42, 180, 0, 42, 42, 180, 0, 140, 21, 4, 46, 46, 182, 1, 133, 172, 42, 21, 4]
abbrev dktX2_doNext_4 : List UInt8 := dkwX2_doNext_4 ++ dktX2_doNext_5
def dkwX2_doNext_3 : List UInt8 := [24, 5, 82, 42, 24, 5, 42, 180, 0, 110, 21, 4, 49, 42, 180, 0, 113, 21, 4, 49, 182, 1, 142]
abbrev dktX2_doNext_3 : List UInt8 := dkwX2_doNext_3 ++ dktX2_doNext_4
def dkwX2_doNext_2 : List UInt8 := [21, 4, 49, 99, 182, 1, 86, 57, 5, 42, 180, 0, 94, 153, 0, 5, 28, 172, 42, 180, 0, 101, 29]
abbrev dktX2_doNext_2 : List UInt8 := dkwX2_doNext_2 ++ dktX2_doNext_3
def dkwX2_doNext_1 : List UInt8 := [181, 0, 94, 28, 172, 42, 21, 4, 4, 96, 181, 0, 82, 42, 42, 180, 0, 101, 29, 49, 42, 180, 0, 113]
abbrev dktX2_doNext_1 : List UInt8 := dkwX2_doNext_1 ++ dktX2_doNext_2
def dkwX2_doNext_0 : List UInt8 := [42, 180, 0, 49, 27, 16, 8, 104, 46, 62, 42, 29, 182, 1, 139, 54, 4, 21, 4, 156, 0, 10, 42, 5]
abbrev dktX2_doNext_0 : List UInt8 := dkwX2_doNext_0 ++ dktX2_doNext_1
theorem dksX2_doNext_0 : cX2_doNext.data.toList.drop 0 = dktX2_doNext_0 := by decide +kernel
theorem dksX2_doNext_1 : cX2_doNext.data.toList.drop 24 = dktX2_doNext_1 := dk_seg dksX2_doNext_0 24 rfl rfl
theorem dksX2_doNext_2 : cX2_doNext.data.toList.drop 48 = dktX2_doNext_2 := dk_seg dksX2_doNext_1 24 rfl rfl
theorem dksX2_doNext_3 : cX2_doNext.data.toList.drop 71 = dktX2_doNext_3 := dk_seg dksX2_doNext_2 23 rfl rfl
theorem dksX2_doNext_4 : cX2_doNext.data.toList.drop 94 = dktX2_doNext_4 := dk_seg dksX2_doNext_3 23 rfl rfl
theorem dksX2_doNext_5 : cX2_doNext.data.toList.drop 117 = dktX2_doNext_5 := dk_seg dksX2_doNext_4 23 rfl rfl
theorem dX2_doNext_0 : decode cX2_doNext 0 = .ok (.aload_n 0, 1) := dk_42 (dk_at dksX2_doNext_0 0 rfl rfl)
theorem dX2_doNext_1 : decode cX2_doNext 1 = .ok (.getfield 49, 3) := dk_180 0 49 (dk_at dksX2_doNext_0 1 rfl rfl)
theorem dX2_doNext_4 : decode cX2_doNext 4 = .ok (.iload_n 1, 1) := dk_27 (dk_at dksX2_doNext_0 4 rfl rfl)
theorem dX2_doNext_5 : decode cX2_doNext 5 = .ok (.bipush 8, 2) := dk_16 8 (dk_at dksX2_doNext_0 5 rfl rfl)
theorem dX2_doNext_7 : decode cX2_doNext 7 = .ok (.imul, 1) := dk_104 (dk_at dksX2_doNext_0 7 rfl rfl)
theorem dX2_doNext_8 : decode cX2_doNext 8 = .ok (.iaload, 1) := dk_46 (dk_at dksX2_doNext_0 8 rfl rfl)
theorem dX2_doNext_9 : decode cX2_doNext 9 = .ok (.istore_n 3, 1) := dk_62 (dk_at dksX2_doNext_0 9 rfl rfl)
theorem dX2_doNext_10 : decode cX2_doNext 10 = .ok (.aload_n 0, 1) := dk_42 (dk_at dksX2_doNext_0 10 rfl rfl)
theorem dX2_doNext_11 : decode cX2_doNext 11 = .ok (.iload_n 3, 1) := dk_29 (dk_at dksX2_doNext_0 11 rfl rfl)
theorem dX2_doNext_12 : decode cX2_doNext 12 = .ok (.invokevirtual 395, 3) := dk_182 1 139 (dk_at dksX2_doNext_0 12 rfl rfl)
theorem dX2_doNext_15 : decode cX2_doNext 15 = .ok (.istore 4, 2) := dk_54 4 (dk_at dksX2_doNext_0 15 rfl rfl)
theorem dX2_doNext_17 : decode cX2_doNext 17 = .ok (.iload 4, 2) := dk_21 4 (dk_at dksX2_doNext_0 17 rfl rfl)
theorem dX2_doNext_19 : decode cX2_doNext 19 = .ok (.ifCond .ge 10, 3) := dk_156 0 10 (dk_at dksX2_doNext_0 19 rfl rfl)
theorem dX2_doNext_22 : decode cX2_doNext 22 = .ok (.aload_n 0, 1) := dk_42 (dk_at dksX2_doNext_0 22 rfl rfl)
theorem dX2_doNext_23 : decode cX2_doNext 23 = .ok (.iconst 2, 1) := dk_5 (dk_at dksX2_doNext_0 23 rfl rfl)
theorem dX2_doNext_24 : decode cX2_doNext 24 = .ok (.putfield 94, 3) := dk_181 0 94 (dk_at dksX2_doNext_1 0 rfl rfl)
theorem dX2_doNext_27 : decode cX2_doNext 27 = .ok (.iload_n 2, 1) := dk_28 (dk_at dksX2_doNext_1 3 rfl rfl)
theorem dX2_doNext_28 : decode cX2_doNext 28 = .ok (.ireturn, 1) := dk_172 (dk_at dksX2_doNext_1 4 rfl rfl)
theorem dX2_doNext_29 : decode cX2_doNext 29 = .ok (.aload_n 0, 1) := dk_42 (dk_at dksX2_doNext_1 5 rfl rfl)
theorem dX2_doNext_30 : decode cX2_doNext 30 = .ok (.iload 4, 2) := dk_21 4 (dk_at dksX2_doNext_1 6 rfl rfl)
theorem dX2_doNext_32 : decode cX2_doNext 32 = .ok (.iconst 1, 1) := dk_4 (dk_at dksX2_doNext_1 8 rfl rfl)
theorem dX2_doNext_33 : decode cX2_doNext 33 = .ok (.iadd, 1) := dk_96 (dk_at dksX2_doNext_1 9 rfl rfl)
theorem dX2_doNext_34 : decode cX2_doNext 34 = .ok (.putfield 82, 3) := dk_181 0 82 (dk_at dksX2_doNext_1 10 rfl rfl)
theorem dX2_doNext_37 : decode cX2_doNext 37 = .ok (.aload_n 0, 1) := dk_42 (dk_at dksX2_doNext_1 13 rfl rfl)
theorem dX2_doNext_38 : decode cX2_doNext 38 = .ok (.aload_n 0, 1) := dk_42 (dk_at dksX2_doNext_1 14 rfl rfl)
theorem dX2_doNext_39 : decode cX2_doNext 39 = .ok (.getfield 101, 3) := dk_180 0 101 (dk_at dksX2_doNext_1 15 rfl rfl)
theorem dX2_doNext_42 : decode cX2_doNext 42 = .ok (.iload_n 3, 1) := dk_29 (dk_at dksX2_doNext_1 18 rfl rfl)
theorem dX2_doNext_43 : decode cX2_doNext 43 = .ok (.daload, 1) := dk_49 (dk_at dksX2_doNext_1 19 rfl rfl)
theorem dX2_doNext_44 : decode cX2_doNext 44 = .ok (.aload_n 0, 1) := dk_42 (dk_at dksX2_doNext_1 20 rfl rfl)
theorem dX2_doNext_45 : decode cX2_doNext 45 = .ok (.getfield 113, 3) := dk_180 0 113 (dk_at dksX2_doNext_1 21 rfl rfl)
theorem dX2_doNext_48 : decode cX2_doNext 48 = .ok (.iload 4, 2) := dk_21 4 (dk_at dksX2_doNext_2 0 rfl rfl)
theorem dX2_doNext_50 : decode cX2_doNext 50 = .ok (.daload, 1) := dk_49 (dk_at dksX2_doNext_2 2 rfl rfl)
theorem dX2_doNext_51 : decode cX2_doNext 51 = .ok (.dadd, 1) := dk_99 (dk_at dksX2_doNext_2 3 rfl rfl)
theorem dX2_doNext_52 : decode cX2_doNext 52 = .ok (.invokevirtual 342, 3) := dk_182 1 86 (dk_at dksX2_doNext_2 4 rfl rfl)
theorem dX2_doNext_55 : decode cX2_doNext 55 = .ok (.dstore 5, 2) := dk_57 5 (dk_at dksX2_doNext_2 7 rfl rfl)
theorem dX2_doNext_57 : decode cX2_doNext 57 = .ok (.aload_n 0, 1) := dk_42 (dk_at dksX2_doNext_2 9 rfl rfl)
theorem dX2_doNext_58 : decode cX2_doNext 58 = .ok (.getfield 94, 3) := dk_180 0 94 (dk_at dksX2_doNext_2 10 rfl rfl)
theorem dX2_doNext_61 : decode cX2_doNext 61 = .ok (.ifCond .eq 5, 3) := dk_153 0 5 (dk_at dksX2_doNext_2 13 rfl rfl)
theorem dX2_doNext_64 : decode cX2_doNext 64 = .ok (.iload_n 2, 1) := dk_28 (dk_at dksX2_doNext_2 16 rfl rfl)
theorem dX2_doNext_65 : decode cX2_doNext 65 = .ok (.ireturn, 1) := dk_172 (dk_at dksX2_doNext_2 17 rfl rfl)
theorem dX2_doNext_66 : decode cX2_doNext 66 = .ok (.aload_n 0, 1) := dk_42 (dk_at dksX2_doNext_2 18 rfl rfl)
theorem dX2_doNext_67 : decode cX2_doNext 67 = .ok (.getfield 101, 3) := dk_180 0 101 (dk_at dksX2_doNext_2 19 rfl rfl)
theorem dX2_doNext_70 : decode cX2_doNext 70 = .ok (.iload_n 3, 1) := dk_29 (dk_at dksX2_doNext_2 22 rfl rfl)
theorem dX2_doNext_71 : decode cX2_doNext 71 = .ok (.dload 5, 2) := dk_24 5 (dk_at dksX2_doNext_3 0 rfl rfl)
theorem dX2_doNext_73 : decode cX2_doNext 73 = .ok (.dastore, 1) := dk_82 (dk_at dksX2_doNext_3 2 rfl rfl)
theorem dX2_doNext_74 : decode cX2_doNext 74 = .ok (.aload_n 0, 1) := dk_42 (dk_at dksX2_doNext_3 3 rfl rfl)
theorem dX2_doNext_75 : decode cX2_doNext 75 = .ok (.dload 5, 2) := dk_24 5 (dk_at dksX2_doNext_3 4 rfl rfl)
theorem dX2_doNext_77 : decode cX2_doNext 77 = .ok (.aload_n 0, 1) := dk_42 (dk_at dksX2_doNext_3 6 rfl rfl)
theorem dX2_doNext_78 : decode cX2_doNext 78 = .ok (.getfield 110, 3) := dk_180 0 110 (dk_at dksX2_doNext_3 7 rfl rfl)
theorem dX2_doNext_81 : decode cX2_doNext 81 = .ok (.iload 4, 2) := dk_21 4 (dk_at dksX2_doNext_3 10 rfl rfl)
theorem dX2_doNext_83 : decode cX2_doNext 83 = .ok (.daload, 1) := dk_49 (dk_at dksX2_doNext_3 12 rfl rfl)
theorem dX2_doNext_84 : decode cX2_doNext 84 = .ok (.aload_n 0, 1) := dk_42 (dk_at dksX2_doNext_3 13 rfl rfl)
theorem dX2_doNext_85 : decode cX2_doNext 85 = .ok (.getfield 113, 3) := dk_180 0 113 (dk_at dksX2_doNext_3 14 rfl rfl)
theorem dX2_doNext_88 : decode cX2_doNext 88 = .ok (.iload 4, 2) := dk_21 4 (dk_at dksX2_doNext_3 17 rfl rfl)
theorem dX2_doNext_90 : decode cX2_doNext 90 = .ok (.daload, 1) := dk_49 (dk_at dksX2_doNext_3 19 rfl rfl)
theorem dX2_doNext_91 : decode cX2_doNext 91 = .ok (.invokevirtual 398, 3) := dk_182 1 142 (dk_at dksX2_doNext_3 20 rfl rfl)
theorem dX2_doNext_94 : decode cX2_doNext 94 = .ok (.ifCond .ne 20, 3) := dk_154 0 20 (dk_at dksX2_doNext_4 0 rfl rfl)
theorem dX2_doNext_97 : decode cX2_doNext 97 = .ok (.aload_n 0, 1) := dk_42 (dk_at dksX2_doNext_4 3 rfl rfl)
theorem dX2_doNext_98 : decode cX2_doNext 98 = .ok (.aload_n 0, 1) := dk_42 (dk_at dksX2_doNext_4 4 rfl rfl)
theorem dX2_doNext_99 : decode cX2_doNext 99 = .ok (.getfield 42, 3) := dk_180 0 42 (dk_at dksX2_doNext_4 5 rfl rfl)
theorem dX2_doNext_102 : decode cX2_doNext 102 = .ok (.aload_n 0, 1) := dk_42 (dk_at dksX2_doNext_4 8 rfl rfl)
theorem dX2_doNext_103 : decode cX2_doNext 103 = .ok (.getfield 140, 3) := dk_180 0 140 (dk_at dksX2_doNext_4 9 rfl rfl)
theorem dX2_doNext_106 : decode cX2_doNext 106 = .ok (.iload 4, 2) := dk_21 4 (dk_at dksX2_doNext_4 12 rfl rfl)
theorem dX2_doNext_108 : decode cX2_doNext 108 = .ok (.iaload, 1) := dk_46 (dk_at dksX2_doNext_4 14 rfl rfl)
theorem dX2_doNext_109 : decode cX2_doNext 109 = .ok (.iaload, 1) := dk_46 (dk_at dksX2_doNext_4 15 rfl rfl)
theorem dX2_doNext_110 : decode cX2_doNext 110 = .ok (.invokevirtual 389, 3) := dk_182 1 133 (dk_at dksX2_doNext_4 16 rfl rfl)
theorem dX2_doNext_113 : decode cX2_doNext 113 = .ok (.ireturn, 1) := dk_172 (dk_at dksX2_doNext_4 19 rfl rfl)
theorem dX2_doNext_114 : decode cX2_doNext 114 = .ok (.aload_n 0, 1) := dk_42 (dk_at dksX2_doNext_4 20 rfl rfl)
theorem dX2_doNext_115 : decode cX2_doNext 115 = .ok (.iload 4, 2) := dk_21 4 (dk_at dksX2_doNext_4 21 rfl rfl)
theorem dX2_doNext_117 : decode cX2_doNext 117 = .ok (.putfield 82, 3) := dk_181 0 82 (dk_at dksX2_doNext_5 0 rfl rfl)
theorem dX2_doNext_120 : decode cX2_doNext 120 = .ok (.iload_n 2, 1) := dk_28 (dk_at dksX2_doNext_5 3 rfl rfl)
theorem dX2_doNext_121 : decode cX2_doNext 121 = .ok (.ireturn, 1) := dk_172 (dk_at dksX2_doNext_5 4 rfl rfl)
abbrev cX2_doMat : ByteArray := prog_32_method_72_code
def yX2_doMat : MethodName := ⟨RX2, "doMat", "(I)V"⟩
def dkwX2_doMat_12 : List UInt8 := [132, 10, 1, 167, 255, 227, 177]
abbrev dktX2_doMat_12 : List UInt8 := dkwX2_doMat_12 ++ []
def dkwX2_doMat_11 : List UInt8 := [162, 0, 28, 42, 180, 0, 119, 28, 16, 36, 104, 21, 10, 96, 42, 180, 0, 122, 21, 10, 49, 82]
abbrev dktX2_doMat_11 : List UInt8 := dkwX2_doMat_11 ++ dktX2_doMat_12
def dkwX2_doMat_10 : List UInt8 := [42, 180, 0, 128, 28, 21, 8, 79, 42, 180, 0, 131, 28, 21, 9, 79, 3, 54, 10, 21, 10, 16, 36]
abbrev dktX2_doMat_10 : List UInt8 := dkwX2_doMat_10 ++ dktX2_doMat_11
def dkwX2_doMat_9 : List UInt8 := [182, 1, 153, 82, 132, 11, 1, 167, 255, 211, 132, 10, 1, 167, 255, 195, 42, 180, 0, 94, 153, 0, 4, 177]
abbrev dktX2_doMat_9 : List UInt8 := dkwX2_doMat_9 ++ dktX2_doMat_10
def dkwX2_doMat_8 : List UInt8 := [180, 0, 122, 21, 10, 16, 6, 104, 21, 11, 96, 42, 29, 21, 4, 21, 5, 21, 10, 21, 11, 24, 6]
abbrev dktX2_doMat_8 : List UInt8 := dkwX2_doMat_8 ++ dktX2_doMat_9
def dkwX2_doMat_7 : List UInt8 := [21, 8, 162, 0, 60, 3, 54, 11, 21, 11, 21, 9, 162, 0, 44, 42, 180, 0, 94, 154, 0, 37, 42]
abbrev dktX2_doMat_7 : List UInt8 := dkwX2_doMat_7 ++ dktX2_doMat_8
def dkwX2_doMat_6 : List UInt8 := [180, 0, 128, 21, 4, 46, 167, 0, 10, 42, 180, 0, 131, 21, 5, 46, 54, 9, 3, 54, 10, 21, 10]
abbrev dktX2_doMat_6 : List UInt8 := dkwX2_doMat_6 ++ dktX2_doMat_7
def dkwX2_doMat_5 : List UInt8 := [180, 0, 131, 21, 4, 46, 167, 0, 10, 42, 180, 0, 128, 21, 4, 46, 54, 8, 29, 6, 160, 0, 13, 42]
abbrev dktX2_doMat_5 : List UInt8 := dkwX2_doMat_5 ++ dktX2_doMat_6
def dkwX2_doMat_4 : List UInt8 := [180, 0, 52, 27, 7, 104, 46, 182, 1, 136, 167, 0, 4, 15, 57, 6, 29, 6, 160, 0, 13, 42]
abbrev dktX2_doMat_4 : List UInt8 := dkwX2_doMat_4 ++ dktX2_doMat_5
def dkwX2_doMat_3 : List UInt8 := [21, 4, 21, 5, 182, 1, 149, 154, 0, 10, 42, 16, 6, 181, 0, 94, 177, 29, 7, 160, 0, 18, 42, 42]
abbrev dktX2_doMat_3 : List UInt8 := dkwX2_doMat_3 ++ dktX2_doMat_4
def dkwX2_doMat_2 : List UInt8 := [164, 0, 17, 42, 180, 0, 49, 27, 16, 8, 104, 6, 96, 46, 167, 0, 5, 21, 4, 54, 5, 42, 29, 28]
abbrev dktX2_doMat_2 : List UInt8 := dkwX2_doMat_2 ++ dktX2_doMat_3
def dkwX2_doMat_1 : List UInt8 := [162, 0, 7, 28, 167, 0, 14, 42, 180, 0, 49, 27, 16, 8, 104, 5, 96, 46, 54, 4, 29, 8]
abbrev dktX2_doMat_1 : List UInt8 := dkwX2_doMat_1 ++ dktX2_doMat_2
def dkwX2_doMat_0 : List UInt8 := [42, 180, 0, 49, 27, 16, 8, 104, 46, 61, 42, 180, 0, 49, 27, 16, 8, 104, 4, 96, 46, 62, 29, 6]
abbrev dktX2_doMat_0 : List UInt8 := dkwX2_doMat_0 ++ dktX2_doMat_1
theorem dksX2_doMat_0 : cX2_doMat.data.toList.drop 0 = dktX2_doMat_0 := by decide +kernel
theorem dksX2_doMat_1 : cX2_doMat.data.toList.drop 24 = dktX2_doMat_1 := dk_seg dksX2_doMat_0 24 rfl rfl
theorem dksX2_doMat_2 : cX2_doMat.data.toList.drop 46 = dktX2_doMat_2 := dk_seg dksX2_doMat_1 22 rfl rfl
theorem dksX2_doMat_3 : cX2_doMat.data.toList.drop 70 = dktX2_doMat_3 := dk_seg dksX2_doMat_2 24 rfl rfl
theorem dksX2_doMat_4 : cX2_doMat.data.toList.drop 94 = dktX2_doMat_4 := dk_seg dksX2_doMat_3 24 rfl rfl
theorem dksX2_doMat_5 : cX2_doMat.data.toList.drop 116 = dktX2_doMat_5 := dk_seg dksX2_doMat_4 22 rfl rfl
theorem dksX2_doMat_6 : cX2_doMat.data.toList.drop 140 = dktX2_doMat_6 := dk_seg dksX2_doMat_5 24 rfl rfl
theorem dksX2_doMat_7 : cX2_doMat.data.toList.drop 163 = dktX2_doMat_7 := dk_seg dksX2_doMat_6 23 rfl rfl
theorem dksX2_doMat_8 : cX2_doMat.data.toList.drop 186 = dktX2_doMat_8 := dk_seg dksX2_doMat_7 23 rfl rfl
theorem dksX2_doMat_9 : cX2_doMat.data.toList.drop 209 = dktX2_doMat_9 := dk_seg dksX2_doMat_8 23 rfl rfl
theorem dksX2_doMat_10 : cX2_doMat.data.toList.drop 233 = dktX2_doMat_10 := dk_seg dksX2_doMat_9 24 rfl rfl
theorem dksX2_doMat_11 : cX2_doMat.data.toList.drop 256 = dktX2_doMat_11 := dk_seg dksX2_doMat_10 23 rfl rfl
theorem dksX2_doMat_12 : cX2_doMat.data.toList.drop 278 = dktX2_doMat_12 := dk_seg dksX2_doMat_11 22 rfl rfl
theorem dX2_doMat_0 : decode cX2_doMat 0 = .ok (.aload_n 0, 1) := dk_42 (dk_at dksX2_doMat_0 0 rfl rfl)
theorem dX2_doMat_1 : decode cX2_doMat 1 = .ok (.getfield 49, 3) := dk_180 0 49 (dk_at dksX2_doMat_0 1 rfl rfl)
theorem dX2_doMat_4 : decode cX2_doMat 4 = .ok (.iload_n 1, 1) := dk_27 (dk_at dksX2_doMat_0 4 rfl rfl)
theorem dX2_doMat_5 : decode cX2_doMat 5 = .ok (.bipush 8, 2) := dk_16 8 (dk_at dksX2_doMat_0 5 rfl rfl)
theorem dX2_doMat_7 : decode cX2_doMat 7 = .ok (.imul, 1) := dk_104 (dk_at dksX2_doMat_0 7 rfl rfl)
theorem dX2_doMat_8 : decode cX2_doMat 8 = .ok (.iaload, 1) := dk_46 (dk_at dksX2_doMat_0 8 rfl rfl)
theorem dX2_doMat_9 : decode cX2_doMat 9 = .ok (.istore_n 2, 1) := dk_61 (dk_at dksX2_doMat_0 9 rfl rfl)
theorem dX2_doMat_10 : decode cX2_doMat 10 = .ok (.aload_n 0, 1) := dk_42 (dk_at dksX2_doMat_0 10 rfl rfl)
theorem dX2_doMat_11 : decode cX2_doMat 11 = .ok (.getfield 49, 3) := dk_180 0 49 (dk_at dksX2_doMat_0 11 rfl rfl)
theorem dX2_doMat_14 : decode cX2_doMat 14 = .ok (.iload_n 1, 1) := dk_27 (dk_at dksX2_doMat_0 14 rfl rfl)
theorem dX2_doMat_15 : decode cX2_doMat 15 = .ok (.bipush 8, 2) := dk_16 8 (dk_at dksX2_doMat_0 15 rfl rfl)
theorem dX2_doMat_17 : decode cX2_doMat 17 = .ok (.imul, 1) := dk_104 (dk_at dksX2_doMat_0 17 rfl rfl)
theorem dX2_doMat_18 : decode cX2_doMat 18 = .ok (.iconst 1, 1) := dk_4 (dk_at dksX2_doMat_0 18 rfl rfl)
theorem dX2_doMat_19 : decode cX2_doMat 19 = .ok (.iadd, 1) := dk_96 (dk_at dksX2_doMat_0 19 rfl rfl)
theorem dX2_doMat_20 : decode cX2_doMat 20 = .ok (.iaload, 1) := dk_46 (dk_at dksX2_doMat_0 20 rfl rfl)
theorem dX2_doMat_21 : decode cX2_doMat 21 = .ok (.istore_n 3, 1) := dk_62 (dk_at dksX2_doMat_0 21 rfl rfl)
theorem dX2_doMat_22 : decode cX2_doMat 22 = .ok (.iload_n 3, 1) := dk_29 (dk_at dksX2_doMat_0 22 rfl rfl)
theorem dX2_doMat_23 : decode cX2_doMat 23 = .ok (.iconst 3, 1) := dk_6 (dk_at dksX2_doMat_0 23 rfl rfl)
theorem dX2_doMat_24 : decode cX2_doMat 24 = .ok (.if_icmp .ge 7, 3) := dk_162 0 7 (dk_at dksX2_doMat_1 0 rfl rfl)
theorem dX2_doMat_27 : decode cX2_doMat 27 = .ok (.iload_n 2, 1) := dk_28 (dk_at dksX2_doMat_1 3 rfl rfl)
theorem dX2_doMat_28 : decode cX2_doMat 28 = .ok (.goto 14, 3) := dk_167 0 14 (dk_at dksX2_doMat_1 4 rfl rfl)
theorem dX2_doMat_31 : decode cX2_doMat 31 = .ok (.aload_n 0, 1) := dk_42 (dk_at dksX2_doMat_1 7 rfl rfl)
theorem dX2_doMat_32 : decode cX2_doMat 32 = .ok (.getfield 49, 3) := dk_180 0 49 (dk_at dksX2_doMat_1 8 rfl rfl)
theorem dX2_doMat_35 : decode cX2_doMat 35 = .ok (.iload_n 1, 1) := dk_27 (dk_at dksX2_doMat_1 11 rfl rfl)
theorem dX2_doMat_36 : decode cX2_doMat 36 = .ok (.bipush 8, 2) := dk_16 8 (dk_at dksX2_doMat_1 12 rfl rfl)
theorem dX2_doMat_38 : decode cX2_doMat 38 = .ok (.imul, 1) := dk_104 (dk_at dksX2_doMat_1 14 rfl rfl)
theorem dX2_doMat_39 : decode cX2_doMat 39 = .ok (.iconst 2, 1) := dk_5 (dk_at dksX2_doMat_1 15 rfl rfl)
theorem dX2_doMat_40 : decode cX2_doMat 40 = .ok (.iadd, 1) := dk_96 (dk_at dksX2_doMat_1 16 rfl rfl)
theorem dX2_doMat_41 : decode cX2_doMat 41 = .ok (.iaload, 1) := dk_46 (dk_at dksX2_doMat_1 17 rfl rfl)
theorem dX2_doMat_42 : decode cX2_doMat 42 = .ok (.istore 4, 2) := dk_54 4 (dk_at dksX2_doMat_1 18 rfl rfl)
theorem dX2_doMat_44 : decode cX2_doMat 44 = .ok (.iload_n 3, 1) := dk_29 (dk_at dksX2_doMat_1 20 rfl rfl)
theorem dX2_doMat_45 : decode cX2_doMat 45 = .ok (.iconst 5, 1) := dk_8 (dk_at dksX2_doMat_1 21 rfl rfl)
theorem dX2_doMat_46 : decode cX2_doMat 46 = .ok (.if_icmp .le 17, 3) := dk_164 0 17 (dk_at dksX2_doMat_2 0 rfl rfl)
theorem dX2_doMat_49 : decode cX2_doMat 49 = .ok (.aload_n 0, 1) := dk_42 (dk_at dksX2_doMat_2 3 rfl rfl)
theorem dX2_doMat_50 : decode cX2_doMat 50 = .ok (.getfield 49, 3) := dk_180 0 49 (dk_at dksX2_doMat_2 4 rfl rfl)
theorem dX2_doMat_53 : decode cX2_doMat 53 = .ok (.iload_n 1, 1) := dk_27 (dk_at dksX2_doMat_2 7 rfl rfl)
theorem dX2_doMat_54 : decode cX2_doMat 54 = .ok (.bipush 8, 2) := dk_16 8 (dk_at dksX2_doMat_2 8 rfl rfl)
theorem dX2_doMat_56 : decode cX2_doMat 56 = .ok (.imul, 1) := dk_104 (dk_at dksX2_doMat_2 10 rfl rfl)
theorem dX2_doMat_57 : decode cX2_doMat 57 = .ok (.iconst 3, 1) := dk_6 (dk_at dksX2_doMat_2 11 rfl rfl)
theorem dX2_doMat_58 : decode cX2_doMat 58 = .ok (.iadd, 1) := dk_96 (dk_at dksX2_doMat_2 12 rfl rfl)
theorem dX2_doMat_59 : decode cX2_doMat 59 = .ok (.iaload, 1) := dk_46 (dk_at dksX2_doMat_2 13 rfl rfl)
theorem dX2_doMat_60 : decode cX2_doMat 60 = .ok (.goto 5, 3) := dk_167 0 5 (dk_at dksX2_doMat_2 14 rfl rfl)
theorem dX2_doMat_63 : decode cX2_doMat 63 = .ok (.iload 4, 2) := dk_21 4 (dk_at dksX2_doMat_2 17 rfl rfl)
theorem dX2_doMat_65 : decode cX2_doMat 65 = .ok (.istore 5, 2) := dk_54 5 (dk_at dksX2_doMat_2 19 rfl rfl)
theorem dX2_doMat_67 : decode cX2_doMat 67 = .ok (.aload_n 0, 1) := dk_42 (dk_at dksX2_doMat_2 21 rfl rfl)
theorem dX2_doMat_68 : decode cX2_doMat 68 = .ok (.iload_n 3, 1) := dk_29 (dk_at dksX2_doMat_2 22 rfl rfl)
theorem dX2_doMat_69 : decode cX2_doMat 69 = .ok (.iload_n 2, 1) := dk_28 (dk_at dksX2_doMat_2 23 rfl rfl)
theorem dX2_doMat_70 : decode cX2_doMat 70 = .ok (.iload 4, 2) := dk_21 4 (dk_at dksX2_doMat_3 0 rfl rfl)
theorem dX2_doMat_72 : decode cX2_doMat 72 = .ok (.iload 5, 2) := dk_21 5 (dk_at dksX2_doMat_3 2 rfl rfl)
theorem dX2_doMat_74 : decode cX2_doMat 74 = .ok (.invokevirtual 405, 3) := dk_182 1 149 (dk_at dksX2_doMat_3 4 rfl rfl)
theorem dX2_doMat_77 : decode cX2_doMat 77 = .ok (.ifCond .ne 10, 3) := dk_154 0 10 (dk_at dksX2_doMat_3 7 rfl rfl)
theorem dX2_doMat_80 : decode cX2_doMat 80 = .ok (.aload_n 0, 1) := dk_42 (dk_at dksX2_doMat_3 10 rfl rfl)
theorem dX2_doMat_81 : decode cX2_doMat 81 = .ok (.bipush 6, 2) := dk_16 6 (dk_at dksX2_doMat_3 11 rfl rfl)
theorem dX2_doMat_83 : decode cX2_doMat 83 = .ok (.putfield 94, 3) := dk_181 0 94 (dk_at dksX2_doMat_3 13 rfl rfl)
theorem dX2_doMat_86 : decode cX2_doMat 86 = .ok (.return_, 1) := dk_177 (dk_at dksX2_doMat_3 16 rfl rfl)
theorem dX2_doMat_87 : decode cX2_doMat 87 = .ok (.iload_n 3, 1) := dk_29 (dk_at dksX2_doMat_3 17 rfl rfl)
theorem dX2_doMat_88 : decode cX2_doMat 88 = .ok (.iconst 4, 1) := dk_7 (dk_at dksX2_doMat_3 18 rfl rfl)
theorem dX2_doMat_89 : decode cX2_doMat 89 = .ok (.if_icmp .ne 18, 3) := dk_160 0 18 (dk_at dksX2_doMat_3 19 rfl rfl)
theorem dX2_doMat_92 : decode cX2_doMat 92 = .ok (.aload_n 0, 1) := dk_42 (dk_at dksX2_doMat_3 22 rfl rfl)
theorem dX2_doMat_93 : decode cX2_doMat 93 = .ok (.aload_n 0, 1) := dk_42 (dk_at dksX2_doMat_3 23 rfl rfl)
theorem dX2_doMat_94 : decode cX2_doMat 94 = .ok (.getfield 52, 3) := dk_180 0 52 (dk_at dksX2_doMat_4 0 rfl rfl)
theorem dX2_doMat_97 : decode cX2_doMat 97 = .ok (.iload_n 1, 1) := dk_27 (dk_at dksX2_doMat_4 3 rfl rfl)
theorem dX2_doMat_98 : decode cX2_doMat 98 = .ok (.iconst 4, 1) := dk_7 (dk_at dksX2_doMat_4 4 rfl rfl)
theorem dX2_doMat_99 : decode cX2_doMat 99 = .ok (.imul, 1) := dk_104 (dk_at dksX2_doMat_4 5 rfl rfl)
theorem dX2_doMat_100 : decode cX2_doMat 100 = .ok (.iaload, 1) := dk_46 (dk_at dksX2_doMat_4 6 rfl rfl)
theorem dX2_doMat_101 : decode cX2_doMat 101 = .ok (.invokevirtual 392, 3) := dk_182 1 136 (dk_at dksX2_doMat_4 7 rfl rfl)
theorem dX2_doMat_104 : decode cX2_doMat 104 = .ok (.goto 4, 3) := dk_167 0 4 (dk_at dksX2_doMat_4 10 rfl rfl)
theorem dX2_doMat_107 : decode cX2_doMat 107 = .ok (.dconst 1, 1) := dk_15 (dk_at dksX2_doMat_4 13 rfl rfl)
theorem dX2_doMat_108 : decode cX2_doMat 108 = .ok (.dstore 6, 2) := dk_57 6 (dk_at dksX2_doMat_4 14 rfl rfl)
theorem dX2_doMat_110 : decode cX2_doMat 110 = .ok (.iload_n 3, 1) := dk_29 (dk_at dksX2_doMat_4 16 rfl rfl)
theorem dX2_doMat_111 : decode cX2_doMat 111 = .ok (.iconst 3, 1) := dk_6 (dk_at dksX2_doMat_4 17 rfl rfl)
theorem dX2_doMat_112 : decode cX2_doMat 112 = .ok (.if_icmp .ne 13, 3) := dk_160 0 13 (dk_at dksX2_doMat_4 18 rfl rfl)
theorem dX2_doMat_115 : decode cX2_doMat 115 = .ok (.aload_n 0, 1) := dk_42 (dk_at dksX2_doMat_4 21 rfl rfl)
theorem dX2_doMat_116 : decode cX2_doMat 116 = .ok (.getfield 131, 3) := dk_180 0 131 (dk_at dksX2_doMat_5 0 rfl rfl)
theorem dX2_doMat_119 : decode cX2_doMat 119 = .ok (.iload 4, 2) := dk_21 4 (dk_at dksX2_doMat_5 3 rfl rfl)
theorem dX2_doMat_121 : decode cX2_doMat 121 = .ok (.iaload, 1) := dk_46 (dk_at dksX2_doMat_5 5 rfl rfl)
theorem dX2_doMat_122 : decode cX2_doMat 122 = .ok (.goto 10, 3) := dk_167 0 10 (dk_at dksX2_doMat_5 6 rfl rfl)
theorem dX2_doMat_125 : decode cX2_doMat 125 = .ok (.aload_n 0, 1) := dk_42 (dk_at dksX2_doMat_5 9 rfl rfl)
theorem dX2_doMat_126 : decode cX2_doMat 126 = .ok (.getfield 128, 3) := dk_180 0 128 (dk_at dksX2_doMat_5 10 rfl rfl)
theorem dX2_doMat_129 : decode cX2_doMat 129 = .ok (.iload 4, 2) := dk_21 4 (dk_at dksX2_doMat_5 13 rfl rfl)
theorem dX2_doMat_131 : decode cX2_doMat 131 = .ok (.iaload, 1) := dk_46 (dk_at dksX2_doMat_5 15 rfl rfl)
theorem dX2_doMat_132 : decode cX2_doMat 132 = .ok (.istore 8, 2) := dk_54 8 (dk_at dksX2_doMat_5 16 rfl rfl)
theorem dX2_doMat_134 : decode cX2_doMat 134 = .ok (.iload_n 3, 1) := dk_29 (dk_at dksX2_doMat_5 18 rfl rfl)
theorem dX2_doMat_135 : decode cX2_doMat 135 = .ok (.iconst 3, 1) := dk_6 (dk_at dksX2_doMat_5 19 rfl rfl)
theorem dX2_doMat_136 : decode cX2_doMat 136 = .ok (.if_icmp .ne 13, 3) := dk_160 0 13 (dk_at dksX2_doMat_5 20 rfl rfl)
theorem dX2_doMat_139 : decode cX2_doMat 139 = .ok (.aload_n 0, 1) := dk_42 (dk_at dksX2_doMat_5 23 rfl rfl)
theorem dX2_doMat_140 : decode cX2_doMat 140 = .ok (.getfield 128, 3) := dk_180 0 128 (dk_at dksX2_doMat_6 0 rfl rfl)
theorem dX2_doMat_143 : decode cX2_doMat 143 = .ok (.iload 4, 2) := dk_21 4 (dk_at dksX2_doMat_6 3 rfl rfl)
theorem dX2_doMat_145 : decode cX2_doMat 145 = .ok (.iaload, 1) := dk_46 (dk_at dksX2_doMat_6 5 rfl rfl)
theorem dX2_doMat_146 : decode cX2_doMat 146 = .ok (.goto 10, 3) := dk_167 0 10 (dk_at dksX2_doMat_6 6 rfl rfl)
theorem dX2_doMat_149 : decode cX2_doMat 149 = .ok (.aload_n 0, 1) := dk_42 (dk_at dksX2_doMat_6 9 rfl rfl)
theorem dX2_doMat_150 : decode cX2_doMat 150 = .ok (.getfield 131, 3) := dk_180 0 131 (dk_at dksX2_doMat_6 10 rfl rfl)
theorem dX2_doMat_153 : decode cX2_doMat 153 = .ok (.iload 5, 2) := dk_21 5 (dk_at dksX2_doMat_6 13 rfl rfl)
theorem dX2_doMat_155 : decode cX2_doMat 155 = .ok (.iaload, 1) := dk_46 (dk_at dksX2_doMat_6 15 rfl rfl)
theorem dX2_doMat_156 : decode cX2_doMat 156 = .ok (.istore 9, 2) := dk_54 9 (dk_at dksX2_doMat_6 16 rfl rfl)
theorem dX2_doMat_158 : decode cX2_doMat 158 = .ok (.iconst 0, 1) := dk_3 (dk_at dksX2_doMat_6 18 rfl rfl)
theorem dX2_doMat_159 : decode cX2_doMat 159 = .ok (.istore 10, 2) := dk_54 10 (dk_at dksX2_doMat_6 19 rfl rfl)
theorem dX2_doMat_161 : decode cX2_doMat 161 = .ok (.iload 10, 2) := dk_21 10 (dk_at dksX2_doMat_6 21 rfl rfl)
theorem dX2_doMat_163 : decode cX2_doMat 163 = .ok (.iload 8, 2) := dk_21 8 (dk_at dksX2_doMat_7 0 rfl rfl)
theorem dX2_doMat_165 : decode cX2_doMat 165 = .ok (.if_icmp .ge 60, 3) := dk_162 0 60 (dk_at dksX2_doMat_7 2 rfl rfl)
theorem dX2_doMat_168 : decode cX2_doMat 168 = .ok (.iconst 0, 1) := dk_3 (dk_at dksX2_doMat_7 5 rfl rfl)
theorem dX2_doMat_169 : decode cX2_doMat 169 = .ok (.istore 11, 2) := dk_54 11 (dk_at dksX2_doMat_7 6 rfl rfl)
theorem dX2_doMat_171 : decode cX2_doMat 171 = .ok (.iload 11, 2) := dk_21 11 (dk_at dksX2_doMat_7 8 rfl rfl)
theorem dX2_doMat_173 : decode cX2_doMat 173 = .ok (.iload 9, 2) := dk_21 9 (dk_at dksX2_doMat_7 10 rfl rfl)
theorem dX2_doMat_175 : decode cX2_doMat 175 = .ok (.if_icmp .ge 44, 3) := dk_162 0 44 (dk_at dksX2_doMat_7 12 rfl rfl)
theorem dX2_doMat_178 : decode cX2_doMat 178 = .ok (.aload_n 0, 1) := dk_42 (dk_at dksX2_doMat_7 15 rfl rfl)
theorem dX2_doMat_179 : decode cX2_doMat 179 = .ok (.getfield 94, 3) := dk_180 0 94 (dk_at dksX2_doMat_7 16 rfl rfl)
theorem dX2_doMat_182 : decode cX2_doMat 182 = .ok (.ifCond .ne 37, 3) := dk_154 0 37 (dk_at dksX2_doMat_7 19 rfl rfl)
theorem dX2_doMat_185 : decode cX2_doMat 185 = .ok (.aload_n 0, 1) := dk_42 (dk_at dksX2_doMat_7 22 rfl rfl)
theorem dX2_doMat_186 : decode cX2_doMat 186 = .ok (.getfield 122, 3) := dk_180 0 122 (dk_at dksX2_doMat_8 0 rfl rfl)
theorem dX2_doMat_189 : decode cX2_doMat 189 = .ok (.iload 10, 2) := dk_21 10 (dk_at dksX2_doMat_8 3 rfl rfl)
theorem dX2_doMat_191 : decode cX2_doMat 191 = .ok (.bipush 6, 2) := dk_16 6 (dk_at dksX2_doMat_8 5 rfl rfl)
theorem dX2_doMat_193 : decode cX2_doMat 193 = .ok (.imul, 1) := dk_104 (dk_at dksX2_doMat_8 7 rfl rfl)
theorem dX2_doMat_194 : decode cX2_doMat 194 = .ok (.iload 11, 2) := dk_21 11 (dk_at dksX2_doMat_8 8 rfl rfl)
theorem dX2_doMat_196 : decode cX2_doMat 196 = .ok (.iadd, 1) := dk_96 (dk_at dksX2_doMat_8 10 rfl rfl)
theorem dX2_doMat_197 : decode cX2_doMat 197 = .ok (.aload_n 0, 1) := dk_42 (dk_at dksX2_doMat_8 11 rfl rfl)
theorem dX2_doMat_198 : decode cX2_doMat 198 = .ok (.iload_n 3, 1) := dk_29 (dk_at dksX2_doMat_8 12 rfl rfl)
theorem dX2_doMat_199 : decode cX2_doMat 199 = .ok (.iload 4, 2) := dk_21 4 (dk_at dksX2_doMat_8 13 rfl rfl)
theorem dX2_doMat_201 : decode cX2_doMat 201 = .ok (.iload 5, 2) := dk_21 5 (dk_at dksX2_doMat_8 15 rfl rfl)
theorem dX2_doMat_203 : decode cX2_doMat 203 = .ok (.iload 10, 2) := dk_21 10 (dk_at dksX2_doMat_8 17 rfl rfl)
theorem dX2_doMat_205 : decode cX2_doMat 205 = .ok (.iload 11, 2) := dk_21 11 (dk_at dksX2_doMat_8 19 rfl rfl)
theorem dX2_doMat_207 : decode cX2_doMat 207 = .ok (.dload 6, 2) := dk_24 6 (dk_at dksX2_doMat_8 21 rfl rfl)
theorem dX2_doMat_209 : decode cX2_doMat 209 = .ok (.invokevirtual 409, 3) := dk_182 1 153 (dk_at dksX2_doMat_9 0 rfl rfl)
theorem dX2_doMat_212 : decode cX2_doMat 212 = .ok (.dastore, 1) := dk_82 (dk_at dksX2_doMat_9 3 rfl rfl)
theorem dX2_doMat_213 : decode cX2_doMat 213 = .ok (.iinc 11 1, 3) := dk_132 11 1 (dk_at dksX2_doMat_9 4 rfl rfl)
theorem dX2_doMat_216 : decode cX2_doMat 216 = .ok (.goto (-45), 3) := dk_167 255 211 (dk_at dksX2_doMat_9 7 rfl rfl)
theorem dX2_doMat_219 : decode cX2_doMat 219 = .ok (.iinc 10 1, 3) := dk_132 10 1 (dk_at dksX2_doMat_9 10 rfl rfl)
theorem dX2_doMat_222 : decode cX2_doMat 222 = .ok (.goto (-61), 3) := dk_167 255 195 (dk_at dksX2_doMat_9 13 rfl rfl)
theorem dX2_doMat_225 : decode cX2_doMat 225 = .ok (.aload_n 0, 1) := dk_42 (dk_at dksX2_doMat_9 16 rfl rfl)
theorem dX2_doMat_226 : decode cX2_doMat 226 = .ok (.getfield 94, 3) := dk_180 0 94 (dk_at dksX2_doMat_9 17 rfl rfl)
theorem dX2_doMat_229 : decode cX2_doMat 229 = .ok (.ifCond .eq 4, 3) := dk_153 0 4 (dk_at dksX2_doMat_9 20 rfl rfl)
theorem dX2_doMat_232 : decode cX2_doMat 232 = .ok (.return_, 1) := dk_177 (dk_at dksX2_doMat_9 23 rfl rfl)
theorem dX2_doMat_233 : decode cX2_doMat 233 = .ok (.aload_n 0, 1) := dk_42 (dk_at dksX2_doMat_10 0 rfl rfl)
theorem dX2_doMat_234 : decode cX2_doMat 234 = .ok (.getfield 128, 3) := dk_180 0 128 (dk_at dksX2_doMat_10 1 rfl rfl)
theorem dX2_doMat_237 : decode cX2_doMat 237 = .ok (.iload_n 2, 1) := dk_28 (dk_at dksX2_doMat_10 4 rfl rfl)
theorem dX2_doMat_238 : decode cX2_doMat 238 = .ok (.iload 8, 2) := dk_21 8 (dk_at dksX2_doMat_10 5 rfl rfl)
theorem dX2_doMat_240 : decode cX2_doMat 240 = .ok (.iastore, 1) := dk_79 (dk_at dksX2_doMat_10 7 rfl rfl)
theorem dX2_doMat_241 : decode cX2_doMat 241 = .ok (.aload_n 0, 1) := dk_42 (dk_at dksX2_doMat_10 8 rfl rfl)
theorem dX2_doMat_242 : decode cX2_doMat 242 = .ok (.getfield 131, 3) := dk_180 0 131 (dk_at dksX2_doMat_10 9 rfl rfl)
theorem dX2_doMat_245 : decode cX2_doMat 245 = .ok (.iload_n 2, 1) := dk_28 (dk_at dksX2_doMat_10 12 rfl rfl)
theorem dX2_doMat_246 : decode cX2_doMat 246 = .ok (.iload 9, 2) := dk_21 9 (dk_at dksX2_doMat_10 13 rfl rfl)
theorem dX2_doMat_248 : decode cX2_doMat 248 = .ok (.iastore, 1) := dk_79 (dk_at dksX2_doMat_10 15 rfl rfl)
theorem dX2_doMat_249 : decode cX2_doMat 249 = .ok (.iconst 0, 1) := dk_3 (dk_at dksX2_doMat_10 16 rfl rfl)
theorem dX2_doMat_250 : decode cX2_doMat 250 = .ok (.istore 10, 2) := dk_54 10 (dk_at dksX2_doMat_10 17 rfl rfl)
theorem dX2_doMat_252 : decode cX2_doMat 252 = .ok (.iload 10, 2) := dk_21 10 (dk_at dksX2_doMat_10 19 rfl rfl)
theorem dX2_doMat_254 : decode cX2_doMat 254 = .ok (.bipush 36, 2) := dk_16 36 (dk_at dksX2_doMat_10 21 rfl rfl)
theorem dX2_doMat_256 : decode cX2_doMat 256 = .ok (.if_icmp .ge 28, 3) := dk_162 0 28 (dk_at dksX2_doMat_11 0 rfl rfl)
theorem dX2_doMat_259 : decode cX2_doMat 259 = .ok (.aload_n 0, 1) := dk_42 (dk_at dksX2_doMat_11 3 rfl rfl)
theorem dX2_doMat_260 : decode cX2_doMat 260 = .ok (.getfield 119, 3) := dk_180 0 119 (dk_at dksX2_doMat_11 4 rfl rfl)
theorem dX2_doMat_263 : decode cX2_doMat 263 = .ok (.iload_n 2, 1) := dk_28 (dk_at dksX2_doMat_11 7 rfl rfl)
theorem dX2_doMat_264 : decode cX2_doMat 264 = .ok (.bipush 36, 2) := dk_16 36 (dk_at dksX2_doMat_11 8 rfl rfl)
theorem dX2_doMat_266 : decode cX2_doMat 266 = .ok (.imul, 1) := dk_104 (dk_at dksX2_doMat_11 10 rfl rfl)
theorem dX2_doMat_267 : decode cX2_doMat 267 = .ok (.iload 10, 2) := dk_21 10 (dk_at dksX2_doMat_11 11 rfl rfl)
theorem dX2_doMat_269 : decode cX2_doMat 269 = .ok (.iadd, 1) := dk_96 (dk_at dksX2_doMat_11 13 rfl rfl)
theorem dX2_doMat_270 : decode cX2_doMat 270 = .ok (.aload_n 0, 1) := dk_42 (dk_at dksX2_doMat_11 14 rfl rfl)
theorem dX2_doMat_271 : decode cX2_doMat 271 = .ok (.getfield 122, 3) := dk_180 0 122 (dk_at dksX2_doMat_11 15 rfl rfl)
theorem dX2_doMat_274 : decode cX2_doMat 274 = .ok (.iload 10, 2) := dk_21 10 (dk_at dksX2_doMat_11 18 rfl rfl)
theorem dX2_doMat_276 : decode cX2_doMat 276 = .ok (.daload, 1) := dk_49 (dk_at dksX2_doMat_11 20 rfl rfl)
theorem dX2_doMat_277 : decode cX2_doMat 277 = .ok (.dastore, 1) := dk_82 (dk_at dksX2_doMat_11 21 rfl rfl)
theorem dX2_doMat_278 : decode cX2_doMat 278 = .ok (.iinc 10 1, 3) := dk_132 10 1 (dk_at dksX2_doMat_12 0 rfl rfl)
theorem dX2_doMat_281 : decode cX2_doMat 281 = .ok (.goto (-29), 3) := dk_167 255 227 (dk_at dksX2_doMat_12 3 rfl rfl)
theorem dX2_doMat_284 : decode cX2_doMat 284 = .ok (.return_, 1) := dk_177 (dk_at dksX2_doMat_12 6 rfl rfl)
abbrev cX2_matFits : ByteArray := prog_32_method_71_code
def yX2_matFits : MethodName := ⟨RX2, "matFits", "(IIII)Z"⟩
def dkwX2_matFits_5 : List UInt8 := [180, 0, 131, 29, 46, 42, 180, 0, 131, 21, 4, 46, 160, 0, 7, 4, 167, 0, 4, 3, 172]
abbrev dktX2_matFits_5 : List UInt8 := dkwX2_matFits_5 ++ []
def dkwX2_matFits_4 : List UInt8 := [167, 0, 44, 3, 167, 0, 40, 42, 180, 0, 128, 29, 46, 42, 180, 0, 128, 21, 4, 46, 160, 0, 23, 42]
abbrev dktX2_matFits_4 : List UInt8 := dkwX2_matFits_4 ++ dktX2_matFits_5
def dkwX2_matFits_3 : List UInt8 := [172, 27, 16, 8, 160, 0, 27, 42, 180, 0, 131, 29, 46, 42, 180, 0, 128, 21, 4, 46, 160, 0, 7, 4]
abbrev dktX2_matFits_3 : List UInt8 := dkwX2_matFits_3 ++ dktX2_matFits_4
def dkwX2_matFits_2 : List UInt8 := [154, 0, 5, 3, 172, 27, 16, 6, 162, 0, 5, 4, 172, 42, 180, 0, 128, 21, 4, 46, 154, 0, 5, 3]
abbrev dktX2_matFits_2 : List UInt8 := dkwX2_matFits_2 ++ dktX2_matFits_3
def dkwX2_matFits_1 : List UInt8 := [46, 42, 180, 0, 131, 28, 46, 160, 0, 7, 4, 167, 0, 4, 3, 172, 42, 180, 0, 128, 29, 46]
abbrev dktX2_matFits_1 : List UInt8 := dkwX2_matFits_1 ++ dktX2_matFits_2
def dkwX2_matFits_0 : List UInt8 := [27, 6, 162, 0, 38, 42, 180, 0, 128, 28, 46, 158, 0, 27, 27, 5, 161, 0, 18, 42, 180, 0, 128, 28]
abbrev dktX2_matFits_0 : List UInt8 := dkwX2_matFits_0 ++ dktX2_matFits_1
theorem dksX2_matFits_0 : cX2_matFits.data.toList.drop 0 = dktX2_matFits_0 := by decide +kernel
theorem dksX2_matFits_1 : cX2_matFits.data.toList.drop 24 = dktX2_matFits_1 := dk_seg dksX2_matFits_0 24 rfl rfl
theorem dksX2_matFits_2 : cX2_matFits.data.toList.drop 46 = dktX2_matFits_2 := dk_seg dksX2_matFits_1 22 rfl rfl
theorem dksX2_matFits_3 : cX2_matFits.data.toList.drop 70 = dktX2_matFits_3 := dk_seg dksX2_matFits_2 24 rfl rfl
theorem dksX2_matFits_4 : cX2_matFits.data.toList.drop 94 = dktX2_matFits_4 := dk_seg dksX2_matFits_3 24 rfl rfl
theorem dksX2_matFits_5 : cX2_matFits.data.toList.drop 118 = dktX2_matFits_5 := dk_seg dksX2_matFits_4 24 rfl rfl
theorem dX2_matFits_0 : decode cX2_matFits 0 = .ok (.iload_n 1, 1) := dk_27 (dk_at dksX2_matFits_0 0 rfl rfl)
theorem dX2_matFits_1 : decode cX2_matFits 1 = .ok (.iconst 3, 1) := dk_6 (dk_at dksX2_matFits_0 1 rfl rfl)
theorem dX2_matFits_2 : decode cX2_matFits 2 = .ok (.if_icmp .ge 38, 3) := dk_162 0 38 (dk_at dksX2_matFits_0 2 rfl rfl)
theorem dX2_matFits_5 : decode cX2_matFits 5 = .ok (.aload_n 0, 1) := dk_42 (dk_at dksX2_matFits_0 5 rfl rfl)
theorem dX2_matFits_6 : decode cX2_matFits 6 = .ok (.getfield 128, 3) := dk_180 0 128 (dk_at dksX2_matFits_0 6 rfl rfl)
theorem dX2_matFits_9 : decode cX2_matFits 9 = .ok (.iload_n 2, 1) := dk_28 (dk_at dksX2_matFits_0 9 rfl rfl)
theorem dX2_matFits_10 : decode cX2_matFits 10 = .ok (.iaload, 1) := dk_46 (dk_at dksX2_matFits_0 10 rfl rfl)
theorem dX2_matFits_11 : decode cX2_matFits 11 = .ok (.ifCond .le 27, 3) := dk_158 0 27 (dk_at dksX2_matFits_0 11 rfl rfl)
theorem dX2_matFits_14 : decode cX2_matFits 14 = .ok (.iload_n 1, 1) := dk_27 (dk_at dksX2_matFits_0 14 rfl rfl)
theorem dX2_matFits_15 : decode cX2_matFits 15 = .ok (.iconst 2, 1) := dk_5 (dk_at dksX2_matFits_0 15 rfl rfl)
theorem dX2_matFits_16 : decode cX2_matFits 16 = .ok (.if_icmp .lt 18, 3) := dk_161 0 18 (dk_at dksX2_matFits_0 16 rfl rfl)
theorem dX2_matFits_19 : decode cX2_matFits 19 = .ok (.aload_n 0, 1) := dk_42 (dk_at dksX2_matFits_0 19 rfl rfl)
theorem dX2_matFits_20 : decode cX2_matFits 20 = .ok (.getfield 128, 3) := dk_180 0 128 (dk_at dksX2_matFits_0 20 rfl rfl)
theorem dX2_matFits_23 : decode cX2_matFits 23 = .ok (.iload_n 2, 1) := dk_28 (dk_at dksX2_matFits_0 23 rfl rfl)
theorem dX2_matFits_24 : decode cX2_matFits 24 = .ok (.iaload, 1) := dk_46 (dk_at dksX2_matFits_1 0 rfl rfl)
theorem dX2_matFits_25 : decode cX2_matFits 25 = .ok (.aload_n 0, 1) := dk_42 (dk_at dksX2_matFits_1 1 rfl rfl)
theorem dX2_matFits_26 : decode cX2_matFits 26 = .ok (.getfield 131, 3) := dk_180 0 131 (dk_at dksX2_matFits_1 2 rfl rfl)
theorem dX2_matFits_29 : decode cX2_matFits 29 = .ok (.iload_n 2, 1) := dk_28 (dk_at dksX2_matFits_1 5 rfl rfl)
theorem dX2_matFits_30 : decode cX2_matFits 30 = .ok (.iaload, 1) := dk_46 (dk_at dksX2_matFits_1 6 rfl rfl)
theorem dX2_matFits_31 : decode cX2_matFits 31 = .ok (.if_icmp .ne 7, 3) := dk_160 0 7 (dk_at dksX2_matFits_1 7 rfl rfl)
theorem dX2_matFits_34 : decode cX2_matFits 34 = .ok (.iconst 1, 1) := dk_4 (dk_at dksX2_matFits_1 10 rfl rfl)
theorem dX2_matFits_35 : decode cX2_matFits 35 = .ok (.goto 4, 3) := dk_167 0 4 (dk_at dksX2_matFits_1 11 rfl rfl)
theorem dX2_matFits_38 : decode cX2_matFits 38 = .ok (.iconst 0, 1) := dk_3 (dk_at dksX2_matFits_1 14 rfl rfl)
theorem dX2_matFits_39 : decode cX2_matFits 39 = .ok (.ireturn, 1) := dk_172 (dk_at dksX2_matFits_1 15 rfl rfl)
theorem dX2_matFits_40 : decode cX2_matFits 40 = .ok (.aload_n 0, 1) := dk_42 (dk_at dksX2_matFits_1 16 rfl rfl)
theorem dX2_matFits_41 : decode cX2_matFits 41 = .ok (.getfield 128, 3) := dk_180 0 128 (dk_at dksX2_matFits_1 17 rfl rfl)
theorem dX2_matFits_44 : decode cX2_matFits 44 = .ok (.iload_n 3, 1) := dk_29 (dk_at dksX2_matFits_1 20 rfl rfl)
theorem dX2_matFits_45 : decode cX2_matFits 45 = .ok (.iaload, 1) := dk_46 (dk_at dksX2_matFits_1 21 rfl rfl)
theorem dX2_matFits_46 : decode cX2_matFits 46 = .ok (.ifCond .ne 5, 3) := dk_154 0 5 (dk_at dksX2_matFits_2 0 rfl rfl)
theorem dX2_matFits_49 : decode cX2_matFits 49 = .ok (.iconst 0, 1) := dk_3 (dk_at dksX2_matFits_2 3 rfl rfl)
theorem dX2_matFits_50 : decode cX2_matFits 50 = .ok (.ireturn, 1) := dk_172 (dk_at dksX2_matFits_2 4 rfl rfl)
theorem dX2_matFits_51 : decode cX2_matFits 51 = .ok (.iload_n 1, 1) := dk_27 (dk_at dksX2_matFits_2 5 rfl rfl)
theorem dX2_matFits_52 : decode cX2_matFits 52 = .ok (.bipush 6, 2) := dk_16 6 (dk_at dksX2_matFits_2 6 rfl rfl)
theorem dX2_matFits_54 : decode cX2_matFits 54 = .ok (.if_icmp .ge 5, 3) := dk_162 0 5 (dk_at dksX2_matFits_2 8 rfl rfl)
theorem dX2_matFits_57 : decode cX2_matFits 57 = .ok (.iconst 1, 1) := dk_4 (dk_at dksX2_matFits_2 11 rfl rfl)
theorem dX2_matFits_58 : decode cX2_matFits 58 = .ok (.ireturn, 1) := dk_172 (dk_at dksX2_matFits_2 12 rfl rfl)
theorem dX2_matFits_59 : decode cX2_matFits 59 = .ok (.aload_n 0, 1) := dk_42 (dk_at dksX2_matFits_2 13 rfl rfl)
theorem dX2_matFits_60 : decode cX2_matFits 60 = .ok (.getfield 128, 3) := dk_180 0 128 (dk_at dksX2_matFits_2 14 rfl rfl)
theorem dX2_matFits_63 : decode cX2_matFits 63 = .ok (.iload 4, 2) := dk_21 4 (dk_at dksX2_matFits_2 17 rfl rfl)
theorem dX2_matFits_65 : decode cX2_matFits 65 = .ok (.iaload, 1) := dk_46 (dk_at dksX2_matFits_2 19 rfl rfl)
theorem dX2_matFits_66 : decode cX2_matFits 66 = .ok (.ifCond .ne 5, 3) := dk_154 0 5 (dk_at dksX2_matFits_2 20 rfl rfl)
theorem dX2_matFits_69 : decode cX2_matFits 69 = .ok (.iconst 0, 1) := dk_3 (dk_at dksX2_matFits_2 23 rfl rfl)
theorem dX2_matFits_70 : decode cX2_matFits 70 = .ok (.ireturn, 1) := dk_172 (dk_at dksX2_matFits_3 0 rfl rfl)
theorem dX2_matFits_71 : decode cX2_matFits 71 = .ok (.iload_n 1, 1) := dk_27 (dk_at dksX2_matFits_3 1 rfl rfl)
theorem dX2_matFits_72 : decode cX2_matFits 72 = .ok (.bipush 8, 2) := dk_16 8 (dk_at dksX2_matFits_3 2 rfl rfl)
theorem dX2_matFits_74 : decode cX2_matFits 74 = .ok (.if_icmp .ne 27, 3) := dk_160 0 27 (dk_at dksX2_matFits_3 4 rfl rfl)
theorem dX2_matFits_77 : decode cX2_matFits 77 = .ok (.aload_n 0, 1) := dk_42 (dk_at dksX2_matFits_3 7 rfl rfl)
theorem dX2_matFits_78 : decode cX2_matFits 78 = .ok (.getfield 131, 3) := dk_180 0 131 (dk_at dksX2_matFits_3 8 rfl rfl)
theorem dX2_matFits_81 : decode cX2_matFits 81 = .ok (.iload_n 3, 1) := dk_29 (dk_at dksX2_matFits_3 11 rfl rfl)
theorem dX2_matFits_82 : decode cX2_matFits 82 = .ok (.iaload, 1) := dk_46 (dk_at dksX2_matFits_3 12 rfl rfl)
theorem dX2_matFits_83 : decode cX2_matFits 83 = .ok (.aload_n 0, 1) := dk_42 (dk_at dksX2_matFits_3 13 rfl rfl)
theorem dX2_matFits_84 : decode cX2_matFits 84 = .ok (.getfield 128, 3) := dk_180 0 128 (dk_at dksX2_matFits_3 14 rfl rfl)
theorem dX2_matFits_87 : decode cX2_matFits 87 = .ok (.iload 4, 2) := dk_21 4 (dk_at dksX2_matFits_3 17 rfl rfl)
theorem dX2_matFits_89 : decode cX2_matFits 89 = .ok (.iaload, 1) := dk_46 (dk_at dksX2_matFits_3 19 rfl rfl)
theorem dX2_matFits_90 : decode cX2_matFits 90 = .ok (.if_icmp .ne 7, 3) := dk_160 0 7 (dk_at dksX2_matFits_3 20 rfl rfl)
theorem dX2_matFits_93 : decode cX2_matFits 93 = .ok (.iconst 1, 1) := dk_4 (dk_at dksX2_matFits_3 23 rfl rfl)
theorem dX2_matFits_94 : decode cX2_matFits 94 = .ok (.goto 44, 3) := dk_167 0 44 (dk_at dksX2_matFits_4 0 rfl rfl)
theorem dX2_matFits_97 : decode cX2_matFits 97 = .ok (.iconst 0, 1) := dk_3 (dk_at dksX2_matFits_4 3 rfl rfl)
theorem dX2_matFits_98 : decode cX2_matFits 98 = .ok (.goto 40, 3) := dk_167 0 40 (dk_at dksX2_matFits_4 4 rfl rfl)
theorem dX2_matFits_101 : decode cX2_matFits 101 = .ok (.aload_n 0, 1) := dk_42 (dk_at dksX2_matFits_4 7 rfl rfl)
theorem dX2_matFits_102 : decode cX2_matFits 102 = .ok (.getfield 128, 3) := dk_180 0 128 (dk_at dksX2_matFits_4 8 rfl rfl)
theorem dX2_matFits_105 : decode cX2_matFits 105 = .ok (.iload_n 3, 1) := dk_29 (dk_at dksX2_matFits_4 11 rfl rfl)
theorem dX2_matFits_106 : decode cX2_matFits 106 = .ok (.iaload, 1) := dk_46 (dk_at dksX2_matFits_4 12 rfl rfl)
theorem dX2_matFits_107 : decode cX2_matFits 107 = .ok (.aload_n 0, 1) := dk_42 (dk_at dksX2_matFits_4 13 rfl rfl)
theorem dX2_matFits_108 : decode cX2_matFits 108 = .ok (.getfield 128, 3) := dk_180 0 128 (dk_at dksX2_matFits_4 14 rfl rfl)
theorem dX2_matFits_111 : decode cX2_matFits 111 = .ok (.iload 4, 2) := dk_21 4 (dk_at dksX2_matFits_4 17 rfl rfl)
theorem dX2_matFits_113 : decode cX2_matFits 113 = .ok (.iaload, 1) := dk_46 (dk_at dksX2_matFits_4 19 rfl rfl)
theorem dX2_matFits_114 : decode cX2_matFits 114 = .ok (.if_icmp .ne 23, 3) := dk_160 0 23 (dk_at dksX2_matFits_4 20 rfl rfl)
theorem dX2_matFits_117 : decode cX2_matFits 117 = .ok (.aload_n 0, 1) := dk_42 (dk_at dksX2_matFits_4 23 rfl rfl)
theorem dX2_matFits_118 : decode cX2_matFits 118 = .ok (.getfield 131, 3) := dk_180 0 131 (dk_at dksX2_matFits_5 0 rfl rfl)
theorem dX2_matFits_121 : decode cX2_matFits 121 = .ok (.iload_n 3, 1) := dk_29 (dk_at dksX2_matFits_5 3 rfl rfl)
theorem dX2_matFits_122 : decode cX2_matFits 122 = .ok (.iaload, 1) := dk_46 (dk_at dksX2_matFits_5 4 rfl rfl)
theorem dX2_matFits_123 : decode cX2_matFits 123 = .ok (.aload_n 0, 1) := dk_42 (dk_at dksX2_matFits_5 5 rfl rfl)
theorem dX2_matFits_124 : decode cX2_matFits 124 = .ok (.getfield 131, 3) := dk_180 0 131 (dk_at dksX2_matFits_5 6 rfl rfl)
theorem dX2_matFits_127 : decode cX2_matFits 127 = .ok (.iload 4, 2) := dk_21 4 (dk_at dksX2_matFits_5 9 rfl rfl)
theorem dX2_matFits_129 : decode cX2_matFits 129 = .ok (.iaload, 1) := dk_46 (dk_at dksX2_matFits_5 11 rfl rfl)
theorem dX2_matFits_130 : decode cX2_matFits 130 = .ok (.if_icmp .ne 7, 3) := dk_160 0 7 (dk_at dksX2_matFits_5 12 rfl rfl)
theorem dX2_matFits_133 : decode cX2_matFits 133 = .ok (.iconst 1, 1) := dk_4 (dk_at dksX2_matFits_5 15 rfl rfl)
theorem dX2_matFits_134 : decode cX2_matFits 134 = .ok (.goto 4, 3) := dk_167 0 4 (dk_at dksX2_matFits_5 16 rfl rfl)
theorem dX2_matFits_137 : decode cX2_matFits 137 = .ok (.iconst 0, 1) := dk_3 (dk_at dksX2_matFits_5 19 rfl rfl)
theorem dX2_matFits_138 : decode cX2_matFits 138 = .ok (.ireturn, 1) := dk_172 (dk_at dksX2_matFits_5 20 rfl rfl)
abbrev cX2_matCell : ByteArray := prog_32_method_70_code
def yX2_matCell : MethodName := ⟨RX2, "matCell", "(IIIIID)D"⟩
def dkwX2_matCell_12 : List UInt8 := [42, 24, 9, 24, 12, 99, 182, 1, 86, 57, 9, 132, 11, 1, 167, 255, 174, 24, 9, 175]
abbrev dktX2_matCell_12 : List UInt8 := dkwX2_matCell_12 ++ []
def dkwX2_matCell_11 : List UInt8 := [104, 21, 11, 16, 6, 104, 96, 21, 5, 96, 49, 107, 182, 1, 86, 57, 12, 42, 180, 0, 94, 154, 0, 14]
abbrev dktX2_matCell_11 : List UInt8 := dkwX2_matCell_11 ++ dktX2_matCell_12
def dkwX2_matCell_10 : List UInt8 := [180, 0, 119, 28, 16, 36, 104, 21, 4, 16, 6, 104, 96, 21, 11, 96, 49, 42, 180, 0, 119, 29, 16, 36]
abbrev dktX2_matCell_10 : List UInt8 := dkwX2_matCell_10 ++ dktX2_matCell_11
def dkwX2_matCell_9 : List UInt8 := [54, 11, 21, 11, 42, 180, 0, 131, 28, 46, 162, 0, 77, 42, 180, 0, 94, 154, 0, 70, 42, 42]
abbrev dktX2_matCell_9 : List UInt8 := dkwX2_matCell_9 ++ dktX2_matCell_10
def dkwX2_matCell_8 : List UInt8 := [16, 6, 104, 96, 49, 42, 180, 0, 119, 29, 16, 36, 104, 21, 5, 96, 49, 107, 182, 1, 86, 57, 9, 4]
abbrev dktX2_matCell_8 : List UInt8 := dkwX2_matCell_8 ++ dktX2_matCell_9
def dkwX2_matCell_7 : List UInt8 := [16, 36, 104, 21, 8, 96, 49, 103, 182, 1, 86, 175, 42, 42, 180, 0, 119, 28, 16, 36, 104, 21, 4]
abbrev dktX2_matCell_7 : List UInt8 := dkwX2_matCell_7 ++ dktX2_matCell_8
def dkwX2_matCell_6 : List UInt8 := [27, 16, 7, 160, 0, 33, 42, 42, 180, 0, 119, 28, 16, 36, 104, 21, 8, 96, 49, 42, 180, 0, 119, 29]
abbrev dktX2_matCell_6 : List UInt8 := dkwX2_matCell_6 ++ dktX2_matCell_7
def dkwX2_matCell_5 : List UInt8 := [16, 36, 104, 21, 8, 96, 49, 42, 180, 0, 119, 29, 16, 36, 104, 21, 8, 96, 49, 99, 182, 1, 86, 175]
abbrev dktX2_matCell_5 : List UInt8 := dkwX2_matCell_5 ++ dktX2_matCell_6
def dkwX2_matCell_4 : List UInt8 := [180, 0, 119, 28, 16, 36, 104, 21, 8, 96, 49, 175, 27, 16, 6, 160, 0, 33, 42, 42, 180, 0, 119, 28]
abbrev dktX2_matCell_4 : List UInt8 := dkwX2_matCell_4 ++ dktX2_matCell_5
def dkwX2_matCell_3 : List UInt8 := [180, 0, 119, 28, 16, 36, 104, 21, 8, 96, 49, 107, 182, 1, 86, 175, 27, 8, 160, 0, 16, 42]
abbrev dktX2_matCell_3 : List UInt8 := dkwX2_matCell_3 ++ dktX2_matCell_4
def dkwX2_matCell_2 : List UInt8 := [16, 36, 104, 21, 5, 16, 6, 104, 96, 21, 4, 96, 49, 175, 27, 7, 160, 0, 23, 42, 24, 6, 42]
abbrev dktX2_matCell_2 : List UInt8 := dkwX2_matCell_2 ++ dktX2_matCell_3
def dkwX2_matCell_1 : List UInt8 := [21, 4, 21, 5, 160, 0, 7, 15, 167, 0, 4, 14, 175, 27, 6, 160, 0, 22, 42, 180, 0, 119, 28]
abbrev dktX2_matCell_1 : List UInt8 := dkwX2_matCell_1 ++ dktX2_matCell_2
def dkwX2_matCell_0 : List UInt8 := [21, 4, 16, 6, 104, 21, 5, 96, 54, 8, 27, 5, 162, 0, 6, 27, 135, 175, 27, 5, 160, 0, 16]
abbrev dktX2_matCell_0 : List UInt8 := dkwX2_matCell_0 ++ dktX2_matCell_1
theorem dksX2_matCell_0 : cX2_matCell.data.toList.drop 0 = dktX2_matCell_0 := by decide +kernel
theorem dksX2_matCell_1 : cX2_matCell.data.toList.drop 23 = dktX2_matCell_1 := dk_seg dksX2_matCell_0 23 rfl rfl
theorem dksX2_matCell_2 : cX2_matCell.data.toList.drop 46 = dktX2_matCell_2 := dk_seg dksX2_matCell_1 23 rfl rfl
theorem dksX2_matCell_3 : cX2_matCell.data.toList.drop 69 = dktX2_matCell_3 := dk_seg dksX2_matCell_2 23 rfl rfl
theorem dksX2_matCell_4 : cX2_matCell.data.toList.drop 91 = dktX2_matCell_4 := dk_seg dksX2_matCell_3 22 rfl rfl
theorem dksX2_matCell_5 : cX2_matCell.data.toList.drop 115 = dktX2_matCell_5 := dk_seg dksX2_matCell_4 24 rfl rfl
theorem dksX2_matCell_6 : cX2_matCell.data.toList.drop 139 = dktX2_matCell_6 := dk_seg dksX2_matCell_5 24 rfl rfl
theorem dksX2_matCell_7 : cX2_matCell.data.toList.drop 163 = dktX2_matCell_7 := dk_seg dksX2_matCell_6 24 rfl rfl
theorem dksX2_matCell_8 : cX2_matCell.data.toList.drop 186 = dktX2_matCell_8 := dk_seg dksX2_matCell_7 23 rfl rfl
theorem dksX2_matCell_9 : cX2_matCell.data.toList.drop 210 = dktX2_matCell_9 := dk_seg dksX2_matCell_8 24 rfl rfl
theorem dksX2_matCell_10 : cX2_matCell.data.toList.drop 232 = dktX2_matCell_10 := dk_seg dksX2_matCell_9 22 rfl rfl
theorem dksX2_matCell_11 : cX2_matCell.data.toList.drop 256 = dktX2_matCell_11 := dk_seg dksX2_matCell_10 24 rfl rfl
theorem dksX2_matCell_12 : cX2_matCell.data.toList.drop 280 = dktX2_matCell_12 := dk_seg dksX2_matCell_11 24 rfl rfl
theorem dX2_matCell_0 : decode cX2_matCell 0 = .ok (.iload 4, 2) := dk_21 4 (dk_at dksX2_matCell_0 0 rfl rfl)
theorem dX2_matCell_2 : decode cX2_matCell 2 = .ok (.bipush 6, 2) := dk_16 6 (dk_at dksX2_matCell_0 2 rfl rfl)
theorem dX2_matCell_4 : decode cX2_matCell 4 = .ok (.imul, 1) := dk_104 (dk_at dksX2_matCell_0 4 rfl rfl)
theorem dX2_matCell_5 : decode cX2_matCell 5 = .ok (.iload 5, 2) := dk_21 5 (dk_at dksX2_matCell_0 5 rfl rfl)
theorem dX2_matCell_7 : decode cX2_matCell 7 = .ok (.iadd, 1) := dk_96 (dk_at dksX2_matCell_0 7 rfl rfl)
theorem dX2_matCell_8 : decode cX2_matCell 8 = .ok (.istore 8, 2) := dk_54 8 (dk_at dksX2_matCell_0 8 rfl rfl)
theorem dX2_matCell_10 : decode cX2_matCell 10 = .ok (.iload_n 1, 1) := dk_27 (dk_at dksX2_matCell_0 10 rfl rfl)
theorem dX2_matCell_11 : decode cX2_matCell 11 = .ok (.iconst 2, 1) := dk_5 (dk_at dksX2_matCell_0 11 rfl rfl)
theorem dX2_matCell_12 : decode cX2_matCell 12 = .ok (.if_icmp .ge 6, 3) := dk_162 0 6 (dk_at dksX2_matCell_0 12 rfl rfl)
theorem dX2_matCell_15 : decode cX2_matCell 15 = .ok (.iload_n 1, 1) := dk_27 (dk_at dksX2_matCell_0 15 rfl rfl)
theorem dX2_matCell_16 : decode cX2_matCell 16 = .ok (.i2d, 1) := dk_135 (dk_at dksX2_matCell_0 16 rfl rfl)
theorem dX2_matCell_17 : decode cX2_matCell 17 = .ok (.dreturn, 1) := dk_175 (dk_at dksX2_matCell_0 17 rfl rfl)
theorem dX2_matCell_18 : decode cX2_matCell 18 = .ok (.iload_n 1, 1) := dk_27 (dk_at dksX2_matCell_0 18 rfl rfl)
theorem dX2_matCell_19 : decode cX2_matCell 19 = .ok (.iconst 2, 1) := dk_5 (dk_at dksX2_matCell_0 19 rfl rfl)
theorem dX2_matCell_20 : decode cX2_matCell 20 = .ok (.if_icmp .ne 16, 3) := dk_160 0 16 (dk_at dksX2_matCell_0 20 rfl rfl)
theorem dX2_matCell_23 : decode cX2_matCell 23 = .ok (.iload 4, 2) := dk_21 4 (dk_at dksX2_matCell_1 0 rfl rfl)
theorem dX2_matCell_25 : decode cX2_matCell 25 = .ok (.iload 5, 2) := dk_21 5 (dk_at dksX2_matCell_1 2 rfl rfl)
theorem dX2_matCell_27 : decode cX2_matCell 27 = .ok (.if_icmp .ne 7, 3) := dk_160 0 7 (dk_at dksX2_matCell_1 4 rfl rfl)
theorem dX2_matCell_30 : decode cX2_matCell 30 = .ok (.dconst 1, 1) := dk_15 (dk_at dksX2_matCell_1 7 rfl rfl)
theorem dX2_matCell_31 : decode cX2_matCell 31 = .ok (.goto 4, 3) := dk_167 0 4 (dk_at dksX2_matCell_1 8 rfl rfl)
theorem dX2_matCell_34 : decode cX2_matCell 34 = .ok (.dconst 0, 1) := dk_14 (dk_at dksX2_matCell_1 11 rfl rfl)
theorem dX2_matCell_35 : decode cX2_matCell 35 = .ok (.dreturn, 1) := dk_175 (dk_at dksX2_matCell_1 12 rfl rfl)
theorem dX2_matCell_36 : decode cX2_matCell 36 = .ok (.iload_n 1, 1) := dk_27 (dk_at dksX2_matCell_1 13 rfl rfl)
theorem dX2_matCell_37 : decode cX2_matCell 37 = .ok (.iconst 3, 1) := dk_6 (dk_at dksX2_matCell_1 14 rfl rfl)
theorem dX2_matCell_38 : decode cX2_matCell 38 = .ok (.if_icmp .ne 22, 3) := dk_160 0 22 (dk_at dksX2_matCell_1 15 rfl rfl)
theorem dX2_matCell_41 : decode cX2_matCell 41 = .ok (.aload_n 0, 1) := dk_42 (dk_at dksX2_matCell_1 18 rfl rfl)
theorem dX2_matCell_42 : decode cX2_matCell 42 = .ok (.getfield 119, 3) := dk_180 0 119 (dk_at dksX2_matCell_1 19 rfl rfl)
theorem dX2_matCell_45 : decode cX2_matCell 45 = .ok (.iload_n 2, 1) := dk_28 (dk_at dksX2_matCell_1 22 rfl rfl)
theorem dX2_matCell_46 : decode cX2_matCell 46 = .ok (.bipush 36, 2) := dk_16 36 (dk_at dksX2_matCell_2 0 rfl rfl)
theorem dX2_matCell_48 : decode cX2_matCell 48 = .ok (.imul, 1) := dk_104 (dk_at dksX2_matCell_2 2 rfl rfl)
theorem dX2_matCell_49 : decode cX2_matCell 49 = .ok (.iload 5, 2) := dk_21 5 (dk_at dksX2_matCell_2 3 rfl rfl)
theorem dX2_matCell_51 : decode cX2_matCell 51 = .ok (.bipush 6, 2) := dk_16 6 (dk_at dksX2_matCell_2 5 rfl rfl)
theorem dX2_matCell_53 : decode cX2_matCell 53 = .ok (.imul, 1) := dk_104 (dk_at dksX2_matCell_2 7 rfl rfl)
theorem dX2_matCell_54 : decode cX2_matCell 54 = .ok (.iadd, 1) := dk_96 (dk_at dksX2_matCell_2 8 rfl rfl)
theorem dX2_matCell_55 : decode cX2_matCell 55 = .ok (.iload 4, 2) := dk_21 4 (dk_at dksX2_matCell_2 9 rfl rfl)
theorem dX2_matCell_57 : decode cX2_matCell 57 = .ok (.iadd, 1) := dk_96 (dk_at dksX2_matCell_2 11 rfl rfl)
theorem dX2_matCell_58 : decode cX2_matCell 58 = .ok (.daload, 1) := dk_49 (dk_at dksX2_matCell_2 12 rfl rfl)
theorem dX2_matCell_59 : decode cX2_matCell 59 = .ok (.dreturn, 1) := dk_175 (dk_at dksX2_matCell_2 13 rfl rfl)
theorem dX2_matCell_60 : decode cX2_matCell 60 = .ok (.iload_n 1, 1) := dk_27 (dk_at dksX2_matCell_2 14 rfl rfl)
theorem dX2_matCell_61 : decode cX2_matCell 61 = .ok (.iconst 4, 1) := dk_7 (dk_at dksX2_matCell_2 15 rfl rfl)
theorem dX2_matCell_62 : decode cX2_matCell 62 = .ok (.if_icmp .ne 23, 3) := dk_160 0 23 (dk_at dksX2_matCell_2 16 rfl rfl)
theorem dX2_matCell_65 : decode cX2_matCell 65 = .ok (.aload_n 0, 1) := dk_42 (dk_at dksX2_matCell_2 19 rfl rfl)
theorem dX2_matCell_66 : decode cX2_matCell 66 = .ok (.dload 6, 2) := dk_24 6 (dk_at dksX2_matCell_2 20 rfl rfl)
theorem dX2_matCell_68 : decode cX2_matCell 68 = .ok (.aload_n 0, 1) := dk_42 (dk_at dksX2_matCell_2 22 rfl rfl)
theorem dX2_matCell_69 : decode cX2_matCell 69 = .ok (.getfield 119, 3) := dk_180 0 119 (dk_at dksX2_matCell_3 0 rfl rfl)
theorem dX2_matCell_72 : decode cX2_matCell 72 = .ok (.iload_n 2, 1) := dk_28 (dk_at dksX2_matCell_3 3 rfl rfl)
theorem dX2_matCell_73 : decode cX2_matCell 73 = .ok (.bipush 36, 2) := dk_16 36 (dk_at dksX2_matCell_3 4 rfl rfl)
theorem dX2_matCell_75 : decode cX2_matCell 75 = .ok (.imul, 1) := dk_104 (dk_at dksX2_matCell_3 6 rfl rfl)
theorem dX2_matCell_76 : decode cX2_matCell 76 = .ok (.iload 8, 2) := dk_21 8 (dk_at dksX2_matCell_3 7 rfl rfl)
theorem dX2_matCell_78 : decode cX2_matCell 78 = .ok (.iadd, 1) := dk_96 (dk_at dksX2_matCell_3 9 rfl rfl)
theorem dX2_matCell_79 : decode cX2_matCell 79 = .ok (.daload, 1) := dk_49 (dk_at dksX2_matCell_3 10 rfl rfl)
theorem dX2_matCell_80 : decode cX2_matCell 80 = .ok (.dmul, 1) := dk_107 (dk_at dksX2_matCell_3 11 rfl rfl)
theorem dX2_matCell_81 : decode cX2_matCell 81 = .ok (.invokevirtual 342, 3) := dk_182 1 86 (dk_at dksX2_matCell_3 12 rfl rfl)
theorem dX2_matCell_84 : decode cX2_matCell 84 = .ok (.dreturn, 1) := dk_175 (dk_at dksX2_matCell_3 15 rfl rfl)
theorem dX2_matCell_85 : decode cX2_matCell 85 = .ok (.iload_n 1, 1) := dk_27 (dk_at dksX2_matCell_3 16 rfl rfl)
theorem dX2_matCell_86 : decode cX2_matCell 86 = .ok (.iconst 5, 1) := dk_8 (dk_at dksX2_matCell_3 17 rfl rfl)
theorem dX2_matCell_87 : decode cX2_matCell 87 = .ok (.if_icmp .ne 16, 3) := dk_160 0 16 (dk_at dksX2_matCell_3 18 rfl rfl)
theorem dX2_matCell_90 : decode cX2_matCell 90 = .ok (.aload_n 0, 1) := dk_42 (dk_at dksX2_matCell_3 21 rfl rfl)
theorem dX2_matCell_91 : decode cX2_matCell 91 = .ok (.getfield 119, 3) := dk_180 0 119 (dk_at dksX2_matCell_4 0 rfl rfl)
theorem dX2_matCell_94 : decode cX2_matCell 94 = .ok (.iload_n 2, 1) := dk_28 (dk_at dksX2_matCell_4 3 rfl rfl)
theorem dX2_matCell_95 : decode cX2_matCell 95 = .ok (.bipush 36, 2) := dk_16 36 (dk_at dksX2_matCell_4 4 rfl rfl)
theorem dX2_matCell_97 : decode cX2_matCell 97 = .ok (.imul, 1) := dk_104 (dk_at dksX2_matCell_4 6 rfl rfl)
theorem dX2_matCell_98 : decode cX2_matCell 98 = .ok (.iload 8, 2) := dk_21 8 (dk_at dksX2_matCell_4 7 rfl rfl)
theorem dX2_matCell_100 : decode cX2_matCell 100 = .ok (.iadd, 1) := dk_96 (dk_at dksX2_matCell_4 9 rfl rfl)
theorem dX2_matCell_101 : decode cX2_matCell 101 = .ok (.daload, 1) := dk_49 (dk_at dksX2_matCell_4 10 rfl rfl)
theorem dX2_matCell_102 : decode cX2_matCell 102 = .ok (.dreturn, 1) := dk_175 (dk_at dksX2_matCell_4 11 rfl rfl)
theorem dX2_matCell_103 : decode cX2_matCell 103 = .ok (.iload_n 1, 1) := dk_27 (dk_at dksX2_matCell_4 12 rfl rfl)
theorem dX2_matCell_104 : decode cX2_matCell 104 = .ok (.bipush 6, 2) := dk_16 6 (dk_at dksX2_matCell_4 13 rfl rfl)
theorem dX2_matCell_106 : decode cX2_matCell 106 = .ok (.if_icmp .ne 33, 3) := dk_160 0 33 (dk_at dksX2_matCell_4 15 rfl rfl)
theorem dX2_matCell_109 : decode cX2_matCell 109 = .ok (.aload_n 0, 1) := dk_42 (dk_at dksX2_matCell_4 18 rfl rfl)
theorem dX2_matCell_110 : decode cX2_matCell 110 = .ok (.aload_n 0, 1) := dk_42 (dk_at dksX2_matCell_4 19 rfl rfl)
theorem dX2_matCell_111 : decode cX2_matCell 111 = .ok (.getfield 119, 3) := dk_180 0 119 (dk_at dksX2_matCell_4 20 rfl rfl)
theorem dX2_matCell_114 : decode cX2_matCell 114 = .ok (.iload_n 2, 1) := dk_28 (dk_at dksX2_matCell_4 23 rfl rfl)
theorem dX2_matCell_115 : decode cX2_matCell 115 = .ok (.bipush 36, 2) := dk_16 36 (dk_at dksX2_matCell_5 0 rfl rfl)
theorem dX2_matCell_117 : decode cX2_matCell 117 = .ok (.imul, 1) := dk_104 (dk_at dksX2_matCell_5 2 rfl rfl)
theorem dX2_matCell_118 : decode cX2_matCell 118 = .ok (.iload 8, 2) := dk_21 8 (dk_at dksX2_matCell_5 3 rfl rfl)
theorem dX2_matCell_120 : decode cX2_matCell 120 = .ok (.iadd, 1) := dk_96 (dk_at dksX2_matCell_5 5 rfl rfl)
theorem dX2_matCell_121 : decode cX2_matCell 121 = .ok (.daload, 1) := dk_49 (dk_at dksX2_matCell_5 6 rfl rfl)
theorem dX2_matCell_122 : decode cX2_matCell 122 = .ok (.aload_n 0, 1) := dk_42 (dk_at dksX2_matCell_5 7 rfl rfl)
theorem dX2_matCell_123 : decode cX2_matCell 123 = .ok (.getfield 119, 3) := dk_180 0 119 (dk_at dksX2_matCell_5 8 rfl rfl)
theorem dX2_matCell_126 : decode cX2_matCell 126 = .ok (.iload_n 3, 1) := dk_29 (dk_at dksX2_matCell_5 11 rfl rfl)
theorem dX2_matCell_127 : decode cX2_matCell 127 = .ok (.bipush 36, 2) := dk_16 36 (dk_at dksX2_matCell_5 12 rfl rfl)
theorem dX2_matCell_129 : decode cX2_matCell 129 = .ok (.imul, 1) := dk_104 (dk_at dksX2_matCell_5 14 rfl rfl)
theorem dX2_matCell_130 : decode cX2_matCell 130 = .ok (.iload 8, 2) := dk_21 8 (dk_at dksX2_matCell_5 15 rfl rfl)
theorem dX2_matCell_132 : decode cX2_matCell 132 = .ok (.iadd, 1) := dk_96 (dk_at dksX2_matCell_5 17 rfl rfl)
theorem dX2_matCell_133 : decode cX2_matCell 133 = .ok (.daload, 1) := dk_49 (dk_at dksX2_matCell_5 18 rfl rfl)
theorem dX2_matCell_134 : decode cX2_matCell 134 = .ok (.dadd, 1) := dk_99 (dk_at dksX2_matCell_5 19 rfl rfl)
theorem dX2_matCell_135 : decode cX2_matCell 135 = .ok (.invokevirtual 342, 3) := dk_182 1 86 (dk_at dksX2_matCell_5 20 rfl rfl)
theorem dX2_matCell_138 : decode cX2_matCell 138 = .ok (.dreturn, 1) := dk_175 (dk_at dksX2_matCell_5 23 rfl rfl)
theorem dX2_matCell_139 : decode cX2_matCell 139 = .ok (.iload_n 1, 1) := dk_27 (dk_at dksX2_matCell_6 0 rfl rfl)
theorem dX2_matCell_140 : decode cX2_matCell 140 = .ok (.bipush 7, 2) := dk_16 7 (dk_at dksX2_matCell_6 1 rfl rfl)
theorem dX2_matCell_142 : decode cX2_matCell 142 = .ok (.if_icmp .ne 33, 3) := dk_160 0 33 (dk_at dksX2_matCell_6 3 rfl rfl)
theorem dX2_matCell_145 : decode cX2_matCell 145 = .ok (.aload_n 0, 1) := dk_42 (dk_at dksX2_matCell_6 6 rfl rfl)
theorem dX2_matCell_146 : decode cX2_matCell 146 = .ok (.aload_n 0, 1) := dk_42 (dk_at dksX2_matCell_6 7 rfl rfl)
theorem dX2_matCell_147 : decode cX2_matCell 147 = .ok (.getfield 119, 3) := dk_180 0 119 (dk_at dksX2_matCell_6 8 rfl rfl)
theorem dX2_matCell_150 : decode cX2_matCell 150 = .ok (.iload_n 2, 1) := dk_28 (dk_at dksX2_matCell_6 11 rfl rfl)
theorem dX2_matCell_151 : decode cX2_matCell 151 = .ok (.bipush 36, 2) := dk_16 36 (dk_at dksX2_matCell_6 12 rfl rfl)
theorem dX2_matCell_153 : decode cX2_matCell 153 = .ok (.imul, 1) := dk_104 (dk_at dksX2_matCell_6 14 rfl rfl)
theorem dX2_matCell_154 : decode cX2_matCell 154 = .ok (.iload 8, 2) := dk_21 8 (dk_at dksX2_matCell_6 15 rfl rfl)
theorem dX2_matCell_156 : decode cX2_matCell 156 = .ok (.iadd, 1) := dk_96 (dk_at dksX2_matCell_6 17 rfl rfl)
theorem dX2_matCell_157 : decode cX2_matCell 157 = .ok (.daload, 1) := dk_49 (dk_at dksX2_matCell_6 18 rfl rfl)
theorem dX2_matCell_158 : decode cX2_matCell 158 = .ok (.aload_n 0, 1) := dk_42 (dk_at dksX2_matCell_6 19 rfl rfl)
theorem dX2_matCell_159 : decode cX2_matCell 159 = .ok (.getfield 119, 3) := dk_180 0 119 (dk_at dksX2_matCell_6 20 rfl rfl)
theorem dX2_matCell_162 : decode cX2_matCell 162 = .ok (.iload_n 3, 1) := dk_29 (dk_at dksX2_matCell_6 23 rfl rfl)
theorem dX2_matCell_163 : decode cX2_matCell 163 = .ok (.bipush 36, 2) := dk_16 36 (dk_at dksX2_matCell_7 0 rfl rfl)
theorem dX2_matCell_165 : decode cX2_matCell 165 = .ok (.imul, 1) := dk_104 (dk_at dksX2_matCell_7 2 rfl rfl)
theorem dX2_matCell_166 : decode cX2_matCell 166 = .ok (.iload 8, 2) := dk_21 8 (dk_at dksX2_matCell_7 3 rfl rfl)
theorem dX2_matCell_168 : decode cX2_matCell 168 = .ok (.iadd, 1) := dk_96 (dk_at dksX2_matCell_7 5 rfl rfl)
theorem dX2_matCell_169 : decode cX2_matCell 169 = .ok (.daload, 1) := dk_49 (dk_at dksX2_matCell_7 6 rfl rfl)
theorem dX2_matCell_170 : decode cX2_matCell 170 = .ok (.dsub, 1) := dk_103 (dk_at dksX2_matCell_7 7 rfl rfl)
theorem dX2_matCell_171 : decode cX2_matCell 171 = .ok (.invokevirtual 342, 3) := dk_182 1 86 (dk_at dksX2_matCell_7 8 rfl rfl)
theorem dX2_matCell_174 : decode cX2_matCell 174 = .ok (.dreturn, 1) := dk_175 (dk_at dksX2_matCell_7 11 rfl rfl)
theorem dX2_matCell_175 : decode cX2_matCell 175 = .ok (.aload_n 0, 1) := dk_42 (dk_at dksX2_matCell_7 12 rfl rfl)
theorem dX2_matCell_176 : decode cX2_matCell 176 = .ok (.aload_n 0, 1) := dk_42 (dk_at dksX2_matCell_7 13 rfl rfl)
theorem dX2_matCell_177 : decode cX2_matCell 177 = .ok (.getfield 119, 3) := dk_180 0 119 (dk_at dksX2_matCell_7 14 rfl rfl)
theorem dX2_matCell_180 : decode cX2_matCell 180 = .ok (.iload_n 2, 1) := dk_28 (dk_at dksX2_matCell_7 17 rfl rfl)
theorem dX2_matCell_181 : decode cX2_matCell 181 = .ok (.bipush 36, 2) := dk_16 36 (dk_at dksX2_matCell_7 18 rfl rfl)
theorem dX2_matCell_183 : decode cX2_matCell 183 = .ok (.imul, 1) := dk_104 (dk_at dksX2_matCell_7 20 rfl rfl)
theorem dX2_matCell_184 : decode cX2_matCell 184 = .ok (.iload 4, 2) := dk_21 4 (dk_at dksX2_matCell_7 21 rfl rfl)
theorem dX2_matCell_186 : decode cX2_matCell 186 = .ok (.bipush 6, 2) := dk_16 6 (dk_at dksX2_matCell_8 0 rfl rfl)
theorem dX2_matCell_188 : decode cX2_matCell 188 = .ok (.imul, 1) := dk_104 (dk_at dksX2_matCell_8 2 rfl rfl)
theorem dX2_matCell_189 : decode cX2_matCell 189 = .ok (.iadd, 1) := dk_96 (dk_at dksX2_matCell_8 3 rfl rfl)
theorem dX2_matCell_190 : decode cX2_matCell 190 = .ok (.daload, 1) := dk_49 (dk_at dksX2_matCell_8 4 rfl rfl)
theorem dX2_matCell_191 : decode cX2_matCell 191 = .ok (.aload_n 0, 1) := dk_42 (dk_at dksX2_matCell_8 5 rfl rfl)
theorem dX2_matCell_192 : decode cX2_matCell 192 = .ok (.getfield 119, 3) := dk_180 0 119 (dk_at dksX2_matCell_8 6 rfl rfl)
theorem dX2_matCell_195 : decode cX2_matCell 195 = .ok (.iload_n 3, 1) := dk_29 (dk_at dksX2_matCell_8 9 rfl rfl)
theorem dX2_matCell_196 : decode cX2_matCell 196 = .ok (.bipush 36, 2) := dk_16 36 (dk_at dksX2_matCell_8 10 rfl rfl)
theorem dX2_matCell_198 : decode cX2_matCell 198 = .ok (.imul, 1) := dk_104 (dk_at dksX2_matCell_8 12 rfl rfl)
theorem dX2_matCell_199 : decode cX2_matCell 199 = .ok (.iload 5, 2) := dk_21 5 (dk_at dksX2_matCell_8 13 rfl rfl)
theorem dX2_matCell_201 : decode cX2_matCell 201 = .ok (.iadd, 1) := dk_96 (dk_at dksX2_matCell_8 15 rfl rfl)
theorem dX2_matCell_202 : decode cX2_matCell 202 = .ok (.daload, 1) := dk_49 (dk_at dksX2_matCell_8 16 rfl rfl)
theorem dX2_matCell_203 : decode cX2_matCell 203 = .ok (.dmul, 1) := dk_107 (dk_at dksX2_matCell_8 17 rfl rfl)
theorem dX2_matCell_204 : decode cX2_matCell 204 = .ok (.invokevirtual 342, 3) := dk_182 1 86 (dk_at dksX2_matCell_8 18 rfl rfl)
theorem dX2_matCell_207 : decode cX2_matCell 207 = .ok (.dstore 9, 2) := dk_57 9 (dk_at dksX2_matCell_8 21 rfl rfl)
theorem dX2_matCell_209 : decode cX2_matCell 209 = .ok (.iconst 1, 1) := dk_4 (dk_at dksX2_matCell_8 23 rfl rfl)
theorem dX2_matCell_210 : decode cX2_matCell 210 = .ok (.istore 11, 2) := dk_54 11 (dk_at dksX2_matCell_9 0 rfl rfl)
theorem dX2_matCell_212 : decode cX2_matCell 212 = .ok (.iload 11, 2) := dk_21 11 (dk_at dksX2_matCell_9 2 rfl rfl)
theorem dX2_matCell_214 : decode cX2_matCell 214 = .ok (.aload_n 0, 1) := dk_42 (dk_at dksX2_matCell_9 4 rfl rfl)
theorem dX2_matCell_215 : decode cX2_matCell 215 = .ok (.getfield 131, 3) := dk_180 0 131 (dk_at dksX2_matCell_9 5 rfl rfl)
theorem dX2_matCell_218 : decode cX2_matCell 218 = .ok (.iload_n 2, 1) := dk_28 (dk_at dksX2_matCell_9 8 rfl rfl)
theorem dX2_matCell_219 : decode cX2_matCell 219 = .ok (.iaload, 1) := dk_46 (dk_at dksX2_matCell_9 9 rfl rfl)
theorem dX2_matCell_220 : decode cX2_matCell 220 = .ok (.if_icmp .ge 77, 3) := dk_162 0 77 (dk_at dksX2_matCell_9 10 rfl rfl)
theorem dX2_matCell_223 : decode cX2_matCell 223 = .ok (.aload_n 0, 1) := dk_42 (dk_at dksX2_matCell_9 13 rfl rfl)
theorem dX2_matCell_224 : decode cX2_matCell 224 = .ok (.getfield 94, 3) := dk_180 0 94 (dk_at dksX2_matCell_9 14 rfl rfl)
theorem dX2_matCell_227 : decode cX2_matCell 227 = .ok (.ifCond .ne 70, 3) := dk_154 0 70 (dk_at dksX2_matCell_9 17 rfl rfl)
theorem dX2_matCell_230 : decode cX2_matCell 230 = .ok (.aload_n 0, 1) := dk_42 (dk_at dksX2_matCell_9 20 rfl rfl)
theorem dX2_matCell_231 : decode cX2_matCell 231 = .ok (.aload_n 0, 1) := dk_42 (dk_at dksX2_matCell_9 21 rfl rfl)
theorem dX2_matCell_232 : decode cX2_matCell 232 = .ok (.getfield 119, 3) := dk_180 0 119 (dk_at dksX2_matCell_10 0 rfl rfl)
theorem dX2_matCell_235 : decode cX2_matCell 235 = .ok (.iload_n 2, 1) := dk_28 (dk_at dksX2_matCell_10 3 rfl rfl)
theorem dX2_matCell_236 : decode cX2_matCell 236 = .ok (.bipush 36, 2) := dk_16 36 (dk_at dksX2_matCell_10 4 rfl rfl)
theorem dX2_matCell_238 : decode cX2_matCell 238 = .ok (.imul, 1) := dk_104 (dk_at dksX2_matCell_10 6 rfl rfl)
theorem dX2_matCell_239 : decode cX2_matCell 239 = .ok (.iload 4, 2) := dk_21 4 (dk_at dksX2_matCell_10 7 rfl rfl)
theorem dX2_matCell_241 : decode cX2_matCell 241 = .ok (.bipush 6, 2) := dk_16 6 (dk_at dksX2_matCell_10 9 rfl rfl)
theorem dX2_matCell_243 : decode cX2_matCell 243 = .ok (.imul, 1) := dk_104 (dk_at dksX2_matCell_10 11 rfl rfl)
theorem dX2_matCell_244 : decode cX2_matCell 244 = .ok (.iadd, 1) := dk_96 (dk_at dksX2_matCell_10 12 rfl rfl)
theorem dX2_matCell_245 : decode cX2_matCell 245 = .ok (.iload 11, 2) := dk_21 11 (dk_at dksX2_matCell_10 13 rfl rfl)
theorem dX2_matCell_247 : decode cX2_matCell 247 = .ok (.iadd, 1) := dk_96 (dk_at dksX2_matCell_10 15 rfl rfl)
theorem dX2_matCell_248 : decode cX2_matCell 248 = .ok (.daload, 1) := dk_49 (dk_at dksX2_matCell_10 16 rfl rfl)
theorem dX2_matCell_249 : decode cX2_matCell 249 = .ok (.aload_n 0, 1) := dk_42 (dk_at dksX2_matCell_10 17 rfl rfl)
theorem dX2_matCell_250 : decode cX2_matCell 250 = .ok (.getfield 119, 3) := dk_180 0 119 (dk_at dksX2_matCell_10 18 rfl rfl)
theorem dX2_matCell_253 : decode cX2_matCell 253 = .ok (.iload_n 3, 1) := dk_29 (dk_at dksX2_matCell_10 21 rfl rfl)
theorem dX2_matCell_254 : decode cX2_matCell 254 = .ok (.bipush 36, 2) := dk_16 36 (dk_at dksX2_matCell_10 22 rfl rfl)
theorem dX2_matCell_256 : decode cX2_matCell 256 = .ok (.imul, 1) := dk_104 (dk_at dksX2_matCell_11 0 rfl rfl)
theorem dX2_matCell_257 : decode cX2_matCell 257 = .ok (.iload 11, 2) := dk_21 11 (dk_at dksX2_matCell_11 1 rfl rfl)
theorem dX2_matCell_259 : decode cX2_matCell 259 = .ok (.bipush 6, 2) := dk_16 6 (dk_at dksX2_matCell_11 3 rfl rfl)
theorem dX2_matCell_261 : decode cX2_matCell 261 = .ok (.imul, 1) := dk_104 (dk_at dksX2_matCell_11 5 rfl rfl)
theorem dX2_matCell_262 : decode cX2_matCell 262 = .ok (.iadd, 1) := dk_96 (dk_at dksX2_matCell_11 6 rfl rfl)
theorem dX2_matCell_263 : decode cX2_matCell 263 = .ok (.iload 5, 2) := dk_21 5 (dk_at dksX2_matCell_11 7 rfl rfl)
theorem dX2_matCell_265 : decode cX2_matCell 265 = .ok (.iadd, 1) := dk_96 (dk_at dksX2_matCell_11 9 rfl rfl)
theorem dX2_matCell_266 : decode cX2_matCell 266 = .ok (.daload, 1) := dk_49 (dk_at dksX2_matCell_11 10 rfl rfl)
theorem dX2_matCell_267 : decode cX2_matCell 267 = .ok (.dmul, 1) := dk_107 (dk_at dksX2_matCell_11 11 rfl rfl)
theorem dX2_matCell_268 : decode cX2_matCell 268 = .ok (.invokevirtual 342, 3) := dk_182 1 86 (dk_at dksX2_matCell_11 12 rfl rfl)
theorem dX2_matCell_271 : decode cX2_matCell 271 = .ok (.dstore 12, 2) := dk_57 12 (dk_at dksX2_matCell_11 15 rfl rfl)
theorem dX2_matCell_273 : decode cX2_matCell 273 = .ok (.aload_n 0, 1) := dk_42 (dk_at dksX2_matCell_11 17 rfl rfl)
theorem dX2_matCell_274 : decode cX2_matCell 274 = .ok (.getfield 94, 3) := dk_180 0 94 (dk_at dksX2_matCell_11 18 rfl rfl)
theorem dX2_matCell_277 : decode cX2_matCell 277 = .ok (.ifCond .ne 14, 3) := dk_154 0 14 (dk_at dksX2_matCell_11 21 rfl rfl)
theorem dX2_matCell_280 : decode cX2_matCell 280 = .ok (.aload_n 0, 1) := dk_42 (dk_at dksX2_matCell_12 0 rfl rfl)
theorem dX2_matCell_281 : decode cX2_matCell 281 = .ok (.dload 9, 2) := dk_24 9 (dk_at dksX2_matCell_12 1 rfl rfl)
theorem dX2_matCell_283 : decode cX2_matCell 283 = .ok (.dload 12, 2) := dk_24 12 (dk_at dksX2_matCell_12 3 rfl rfl)
theorem dX2_matCell_285 : decode cX2_matCell 285 = .ok (.dadd, 1) := dk_99 (dk_at dksX2_matCell_12 5 rfl rfl)
theorem dX2_matCell_286 : decode cX2_matCell 286 = .ok (.invokevirtual 342, 3) := dk_182 1 86 (dk_at dksX2_matCell_12 6 rfl rfl)
theorem dX2_matCell_289 : decode cX2_matCell 289 = .ok (.dstore 9, 2) := dk_57 9 (dk_at dksX2_matCell_12 9 rfl rfl)
theorem dX2_matCell_291 : decode cX2_matCell 291 = .ok (.iinc 11 1, 3) := dk_132 11 1 (dk_at dksX2_matCell_12 11 rfl rfl)
theorem dX2_matCell_294 : decode cX2_matCell 294 = .ok (.goto (-82), 3) := dk_167 255 174 (dk_at dksX2_matCell_12 14 rfl rfl)
theorem dX2_matCell_297 : decode cX2_matCell 297 = .ok (.dload 9, 2) := dk_24 9 (dk_at dksX2_matCell_12 17 rfl rfl)
theorem dX2_matCell_299 : decode cX2_matCell 299 = .ok (.dreturn, 1) := dk_175 (dk_at dksX2_matCell_12 19 rfl rfl)
abbrev cX2_printed : ByteArray := prog_32_method_76_code
def yX2_printed : MethodName := ⟨RX2, "printed", "(I)D"⟩
def dkwX2_printed_1 : List UInt8 := [175, 42, 3, 181, 0, 7, 42, 180, 0, 97, 27, 49, 175]
abbrev dktX2_printed_1 : List UInt8 := dkwX2_printed_1 ++ []
def dkwX2_printed_0 : List UInt8 := [27, 155, 0, 17, 27, 42, 180, 0, 67, 162, 0, 9, 27, 16, 39, 164, 0, 10, 42, 4, 181, 0, 7, 14]
abbrev dktX2_printed_0 : List UInt8 := dkwX2_printed_0 ++ dktX2_printed_1
theorem dksX2_printed_0 : cX2_printed.data.toList.drop 0 = dktX2_printed_0 := by decide +kernel
theorem dksX2_printed_1 : cX2_printed.data.toList.drop 24 = dktX2_printed_1 := dk_seg dksX2_printed_0 24 rfl rfl
theorem dX2_printed_0 : decode cX2_printed 0 = .ok (.iload_n 1, 1) := dk_27 (dk_at dksX2_printed_0 0 rfl rfl)
theorem dX2_printed_1 : decode cX2_printed 1 = .ok (.ifCond .lt 17, 3) := dk_155 0 17 (dk_at dksX2_printed_0 1 rfl rfl)
theorem dX2_printed_4 : decode cX2_printed 4 = .ok (.iload_n 1, 1) := dk_27 (dk_at dksX2_printed_0 4 rfl rfl)
theorem dX2_printed_5 : decode cX2_printed 5 = .ok (.aload_n 0, 1) := dk_42 (dk_at dksX2_printed_0 5 rfl rfl)
theorem dX2_printed_6 : decode cX2_printed 6 = .ok (.getfield 67, 3) := dk_180 0 67 (dk_at dksX2_printed_0 6 rfl rfl)
theorem dX2_printed_9 : decode cX2_printed 9 = .ok (.if_icmp .ge 9, 3) := dk_162 0 9 (dk_at dksX2_printed_0 9 rfl rfl)
theorem dX2_printed_12 : decode cX2_printed 12 = .ok (.iload_n 1, 1) := dk_27 (dk_at dksX2_printed_0 12 rfl rfl)
theorem dX2_printed_13 : decode cX2_printed 13 = .ok (.bipush 39, 2) := dk_16 39 (dk_at dksX2_printed_0 13 rfl rfl)
theorem dX2_printed_15 : decode cX2_printed 15 = .ok (.if_icmp .le 10, 3) := dk_164 0 10 (dk_at dksX2_printed_0 15 rfl rfl)
theorem dX2_printed_18 : decode cX2_printed 18 = .ok (.aload_n 0, 1) := dk_42 (dk_at dksX2_printed_0 18 rfl rfl)
theorem dX2_printed_19 : decode cX2_printed 19 = .ok (.iconst 1, 1) := dk_4 (dk_at dksX2_printed_0 19 rfl rfl)
theorem dX2_printed_20 : decode cX2_printed 20 = .ok (.putfield 7, 3) := dk_181 0 7 (dk_at dksX2_printed_0 20 rfl rfl)
theorem dX2_printed_23 : decode cX2_printed 23 = .ok (.dconst 0, 1) := dk_14 (dk_at dksX2_printed_0 23 rfl rfl)
theorem dX2_printed_24 : decode cX2_printed 24 = .ok (.dreturn, 1) := dk_175 (dk_at dksX2_printed_1 0 rfl rfl)
theorem dX2_printed_25 : decode cX2_printed 25 = .ok (.aload_n 0, 1) := dk_42 (dk_at dksX2_printed_1 1 rfl rfl)
theorem dX2_printed_26 : decode cX2_printed 26 = .ok (.iconst 0, 1) := dk_3 (dk_at dksX2_printed_1 2 rfl rfl)
theorem dX2_printed_27 : decode cX2_printed 27 = .ok (.putfield 7, 3) := dk_181 0 7 (dk_at dksX2_printed_1 3 rfl rfl)
theorem dX2_printed_30 : decode cX2_printed 30 = .ok (.aload_n 0, 1) := dk_42 (dk_at dksX2_printed_1 6 rfl rfl)
theorem dX2_printed_31 : decode cX2_printed 31 = .ok (.getfield 97, 3) := dk_180 0 97 (dk_at dksX2_printed_1 7 rfl rfl)
theorem dX2_printed_34 : decode cX2_printed 34 = .ok (.iload_n 1, 1) := dk_27 (dk_at dksX2_printed_1 10 rfl rfl)
theorem dX2_printed_35 : decode cX2_printed 35 = .ok (.daload, 1) := dk_49 (dk_at dksX2_printed_1 11 rfl rfl)
theorem dX2_printed_36 : decode cX2_printed 36 = .ok (.dreturn, 1) := dk_175 (dk_at dksX2_printed_1 12 rfl rfl)
abbrev cX2_variable_2 : ByteArray := prog_32_method_77_code
def yX2_variable_2 : MethodName := ⟨RX2, "variable", "(I)D"⟩
def dkwX2_variable_2_1 : List UInt8 := [181, 0, 7, 14, 175, 42, 3, 181, 0, 7, 42, 180, 0, 101, 27, 49, 175]
abbrev dktX2_variable_2_1 : List UInt8 := dkwX2_variable_2_1 ++ []
def dkwX2_variable_2_0 : List UInt8 := [27, 155, 0, 20, 27, 16, 25, 163, 0, 14, 42, 16, 65, 27, 96, 182, 0, 241, 153, 0, 10, 42, 4]
abbrev dktX2_variable_2_0 : List UInt8 := dkwX2_variable_2_0 ++ dktX2_variable_2_1
theorem dksX2_variable_2_0 : cX2_variable_2.data.toList.drop 0 = dktX2_variable_2_0 := by decide +kernel
theorem dksX2_variable_2_1 : cX2_variable_2.data.toList.drop 23 = dktX2_variable_2_1 := dk_seg dksX2_variable_2_0 23 rfl rfl
theorem dX2_variable_2_0 : decode cX2_variable_2 0 = .ok (.iload_n 1, 1) := dk_27 (dk_at dksX2_variable_2_0 0 rfl rfl)
theorem dX2_variable_2_1 : decode cX2_variable_2 1 = .ok (.ifCond .lt 20, 3) := dk_155 0 20 (dk_at dksX2_variable_2_0 1 rfl rfl)
theorem dX2_variable_2_4 : decode cX2_variable_2 4 = .ok (.iload_n 1, 1) := dk_27 (dk_at dksX2_variable_2_0 4 rfl rfl)
theorem dX2_variable_2_5 : decode cX2_variable_2 5 = .ok (.bipush 25, 2) := dk_16 25 (dk_at dksX2_variable_2_0 5 rfl rfl)
theorem dX2_variable_2_7 : decode cX2_variable_2 7 = .ok (.if_icmp .gt 14, 3) := dk_163 0 14 (dk_at dksX2_variable_2_0 7 rfl rfl)
theorem dX2_variable_2_10 : decode cX2_variable_2 10 = .ok (.aload_n 0, 1) := dk_42 (dk_at dksX2_variable_2_0 10 rfl rfl)
theorem dX2_variable_2_11 : decode cX2_variable_2 11 = .ok (.bipush 65, 2) := dk_16 65 (dk_at dksX2_variable_2_0 11 rfl rfl)
theorem dX2_variable_2_13 : decode cX2_variable_2 13 = .ok (.iload_n 1, 1) := dk_27 (dk_at dksX2_variable_2_0 13 rfl rfl)
theorem dX2_variable_2_14 : decode cX2_variable_2 14 = .ok (.iadd, 1) := dk_96 (dk_at dksX2_variable_2_0 14 rfl rfl)
theorem dX2_variable_2_15 : decode cX2_variable_2 15 = .ok (.invokevirtual 241, 3) := dk_182 0 241 (dk_at dksX2_variable_2_0 15 rfl rfl)
theorem dX2_variable_2_18 : decode cX2_variable_2 18 = .ok (.ifCond .eq 10, 3) := dk_153 0 10 (dk_at dksX2_variable_2_0 18 rfl rfl)
theorem dX2_variable_2_21 : decode cX2_variable_2 21 = .ok (.aload_n 0, 1) := dk_42 (dk_at dksX2_variable_2_0 21 rfl rfl)
theorem dX2_variable_2_22 : decode cX2_variable_2 22 = .ok (.iconst 1, 1) := dk_4 (dk_at dksX2_variable_2_0 22 rfl rfl)
theorem dX2_variable_2_23 : decode cX2_variable_2 23 = .ok (.putfield 7, 3) := dk_181 0 7 (dk_at dksX2_variable_2_1 0 rfl rfl)
theorem dX2_variable_2_26 : decode cX2_variable_2 26 = .ok (.dconst 0, 1) := dk_14 (dk_at dksX2_variable_2_1 3 rfl rfl)
theorem dX2_variable_2_27 : decode cX2_variable_2 27 = .ok (.dreturn, 1) := dk_175 (dk_at dksX2_variable_2_1 4 rfl rfl)
theorem dX2_variable_2_28 : decode cX2_variable_2 28 = .ok (.aload_n 0, 1) := dk_42 (dk_at dksX2_variable_2_1 5 rfl rfl)
theorem dX2_variable_2_29 : decode cX2_variable_2 29 = .ok (.iconst 0, 1) := dk_3 (dk_at dksX2_variable_2_1 6 rfl rfl)
theorem dX2_variable_2_30 : decode cX2_variable_2 30 = .ok (.putfield 7, 3) := dk_181 0 7 (dk_at dksX2_variable_2_1 7 rfl rfl)
theorem dX2_variable_2_33 : decode cX2_variable_2 33 = .ok (.aload_n 0, 1) := dk_42 (dk_at dksX2_variable_2_1 10 rfl rfl)
theorem dX2_variable_2_34 : decode cX2_variable_2 34 = .ok (.getfield 101, 3) := dk_180 0 101 (dk_at dksX2_variable_2_1 11 rfl rfl)
theorem dX2_variable_2_37 : decode cX2_variable_2 37 = .ok (.iload_n 1, 1) := dk_27 (dk_at dksX2_variable_2_1 14 rfl rfl)
theorem dX2_variable_2_38 : decode cX2_variable_2 38 = .ok (.daload, 1) := dk_49 (dk_at dksX2_variable_2_1 15 rfl rfl)
theorem dX2_variable_2_39 : decode cX2_variable_2 39 = .ok (.dreturn, 1) := dk_175 (dk_at dksX2_variable_2_1 16 rfl rfl)
abbrev cX2_element : ByteArray := prog_32_method_78_code
def yX2_element : MethodName := ⟨RX2, "element", "(III)D"⟩
def dkwX2_element_3 : List UInt8 := [104, 96, 29, 96, 4, 100, 49, 167, 0, 4, 14, 175]
abbrev dktX2_element_3 : List UInt8 := dkwX2_element_3 ++ []
def dkwX2_element_2 : List UInt8 := [3, 181, 0, 7, 42, 180, 0, 7, 154, 0, 26, 42, 180, 0, 119, 27, 16, 36, 104, 28, 4, 100, 16, 6]
abbrev dktX2_element_2 : List UInt8 := dkwX2_element_2 ++ dktX2_element_3
def dkwX2_element_1 : List UInt8 := [27, 46, 163, 0, 18, 29, 4, 161, 0, 13, 29, 42, 180, 0, 131, 27, 46, 164, 0, 7, 5, 167, 0, 4]
abbrev dktX2_element_1 : List UInt8 := dkwX2_element_1 ++ dktX2_element_2
def dkwX2_element_0 : List UInt8 := [42, 27, 155, 0, 8, 27, 5, 164, 0, 7, 4, 167, 0, 38, 28, 4, 161, 0, 28, 28, 42, 180, 0, 128]
abbrev dktX2_element_0 : List UInt8 := dkwX2_element_0 ++ dktX2_element_1
theorem dksX2_element_0 : cX2_element.data.toList.drop 0 = dktX2_element_0 := by decide +kernel
theorem dksX2_element_1 : cX2_element.data.toList.drop 24 = dktX2_element_1 := dk_seg dksX2_element_0 24 rfl rfl
theorem dksX2_element_2 : cX2_element.data.toList.drop 48 = dktX2_element_2 := dk_seg dksX2_element_1 24 rfl rfl
theorem dksX2_element_3 : cX2_element.data.toList.drop 72 = dktX2_element_3 := dk_seg dksX2_element_2 24 rfl rfl
theorem dX2_element_0 : decode cX2_element 0 = .ok (.aload_n 0, 1) := dk_42 (dk_at dksX2_element_0 0 rfl rfl)
theorem dX2_element_1 : decode cX2_element 1 = .ok (.iload_n 1, 1) := dk_27 (dk_at dksX2_element_0 1 rfl rfl)
theorem dX2_element_2 : decode cX2_element 2 = .ok (.ifCond .lt 8, 3) := dk_155 0 8 (dk_at dksX2_element_0 2 rfl rfl)
theorem dX2_element_5 : decode cX2_element 5 = .ok (.iload_n 1, 1) := dk_27 (dk_at dksX2_element_0 5 rfl rfl)
theorem dX2_element_6 : decode cX2_element 6 = .ok (.iconst 2, 1) := dk_5 (dk_at dksX2_element_0 6 rfl rfl)
theorem dX2_element_7 : decode cX2_element 7 = .ok (.if_icmp .le 7, 3) := dk_164 0 7 (dk_at dksX2_element_0 7 rfl rfl)
theorem dX2_element_10 : decode cX2_element 10 = .ok (.iconst 1, 1) := dk_4 (dk_at dksX2_element_0 10 rfl rfl)
theorem dX2_element_11 : decode cX2_element 11 = .ok (.goto 38, 3) := dk_167 0 38 (dk_at dksX2_element_0 11 rfl rfl)
theorem dX2_element_14 : decode cX2_element 14 = .ok (.iload_n 2, 1) := dk_28 (dk_at dksX2_element_0 14 rfl rfl)
theorem dX2_element_15 : decode cX2_element 15 = .ok (.iconst 1, 1) := dk_4 (dk_at dksX2_element_0 15 rfl rfl)
theorem dX2_element_16 : decode cX2_element 16 = .ok (.if_icmp .lt 28, 3) := dk_161 0 28 (dk_at dksX2_element_0 16 rfl rfl)
theorem dX2_element_19 : decode cX2_element 19 = .ok (.iload_n 2, 1) := dk_28 (dk_at dksX2_element_0 19 rfl rfl)
theorem dX2_element_20 : decode cX2_element 20 = .ok (.aload_n 0, 1) := dk_42 (dk_at dksX2_element_0 20 rfl rfl)
theorem dX2_element_21 : decode cX2_element 21 = .ok (.getfield 128, 3) := dk_180 0 128 (dk_at dksX2_element_0 21 rfl rfl)
theorem dX2_element_24 : decode cX2_element 24 = .ok (.iload_n 1, 1) := dk_27 (dk_at dksX2_element_1 0 rfl rfl)
theorem dX2_element_25 : decode cX2_element 25 = .ok (.iaload, 1) := dk_46 (dk_at dksX2_element_1 1 rfl rfl)
theorem dX2_element_26 : decode cX2_element 26 = .ok (.if_icmp .gt 18, 3) := dk_163 0 18 (dk_at dksX2_element_1 2 rfl rfl)
theorem dX2_element_29 : decode cX2_element 29 = .ok (.iload_n 3, 1) := dk_29 (dk_at dksX2_element_1 5 rfl rfl)
theorem dX2_element_30 : decode cX2_element 30 = .ok (.iconst 1, 1) := dk_4 (dk_at dksX2_element_1 6 rfl rfl)
theorem dX2_element_31 : decode cX2_element 31 = .ok (.if_icmp .lt 13, 3) := dk_161 0 13 (dk_at dksX2_element_1 7 rfl rfl)
theorem dX2_element_34 : decode cX2_element 34 = .ok (.iload_n 3, 1) := dk_29 (dk_at dksX2_element_1 10 rfl rfl)
theorem dX2_element_35 : decode cX2_element 35 = .ok (.aload_n 0, 1) := dk_42 (dk_at dksX2_element_1 11 rfl rfl)
theorem dX2_element_36 : decode cX2_element 36 = .ok (.getfield 131, 3) := dk_180 0 131 (dk_at dksX2_element_1 12 rfl rfl)
theorem dX2_element_39 : decode cX2_element 39 = .ok (.iload_n 1, 1) := dk_27 (dk_at dksX2_element_1 15 rfl rfl)
theorem dX2_element_40 : decode cX2_element 40 = .ok (.iaload, 1) := dk_46 (dk_at dksX2_element_1 16 rfl rfl)
theorem dX2_element_41 : decode cX2_element 41 = .ok (.if_icmp .le 7, 3) := dk_164 0 7 (dk_at dksX2_element_1 17 rfl rfl)
theorem dX2_element_44 : decode cX2_element 44 = .ok (.iconst 2, 1) := dk_5 (dk_at dksX2_element_1 20 rfl rfl)
theorem dX2_element_45 : decode cX2_element 45 = .ok (.goto 4, 3) := dk_167 0 4 (dk_at dksX2_element_1 21 rfl rfl)
theorem dX2_element_48 : decode cX2_element 48 = .ok (.iconst 0, 1) := dk_3 (dk_at dksX2_element_2 0 rfl rfl)
theorem dX2_element_49 : decode cX2_element 49 = .ok (.putfield 7, 3) := dk_181 0 7 (dk_at dksX2_element_2 1 rfl rfl)
theorem dX2_element_52 : decode cX2_element 52 = .ok (.aload_n 0, 1) := dk_42 (dk_at dksX2_element_2 4 rfl rfl)
theorem dX2_element_53 : decode cX2_element 53 = .ok (.getfield 7, 3) := dk_180 0 7 (dk_at dksX2_element_2 5 rfl rfl)
theorem dX2_element_56 : decode cX2_element 56 = .ok (.ifCond .ne 26, 3) := dk_154 0 26 (dk_at dksX2_element_2 8 rfl rfl)
theorem dX2_element_59 : decode cX2_element 59 = .ok (.aload_n 0, 1) := dk_42 (dk_at dksX2_element_2 11 rfl rfl)
theorem dX2_element_60 : decode cX2_element 60 = .ok (.getfield 119, 3) := dk_180 0 119 (dk_at dksX2_element_2 12 rfl rfl)
theorem dX2_element_63 : decode cX2_element 63 = .ok (.iload_n 1, 1) := dk_27 (dk_at dksX2_element_2 15 rfl rfl)
theorem dX2_element_64 : decode cX2_element 64 = .ok (.bipush 36, 2) := dk_16 36 (dk_at dksX2_element_2 16 rfl rfl)
theorem dX2_element_66 : decode cX2_element 66 = .ok (.imul, 1) := dk_104 (dk_at dksX2_element_2 18 rfl rfl)
theorem dX2_element_67 : decode cX2_element 67 = .ok (.iload_n 2, 1) := dk_28 (dk_at dksX2_element_2 19 rfl rfl)
theorem dX2_element_68 : decode cX2_element 68 = .ok (.iconst 1, 1) := dk_4 (dk_at dksX2_element_2 20 rfl rfl)
theorem dX2_element_69 : decode cX2_element 69 = .ok (.isub, 1) := dk_100 (dk_at dksX2_element_2 21 rfl rfl)
theorem dX2_element_70 : decode cX2_element 70 = .ok (.bipush 6, 2) := dk_16 6 (dk_at dksX2_element_2 22 rfl rfl)
theorem dX2_element_72 : decode cX2_element 72 = .ok (.imul, 1) := dk_104 (dk_at dksX2_element_3 0 rfl rfl)
theorem dX2_element_73 : decode cX2_element 73 = .ok (.iadd, 1) := dk_96 (dk_at dksX2_element_3 1 rfl rfl)
theorem dX2_element_74 : decode cX2_element 74 = .ok (.iload_n 3, 1) := dk_29 (dk_at dksX2_element_3 2 rfl rfl)
theorem dX2_element_75 : decode cX2_element 75 = .ok (.iadd, 1) := dk_96 (dk_at dksX2_element_3 3 rfl rfl)
theorem dX2_element_76 : decode cX2_element 76 = .ok (.iconst 1, 1) := dk_4 (dk_at dksX2_element_3 4 rfl rfl)
theorem dX2_element_77 : decode cX2_element 77 = .ok (.isub, 1) := dk_100 (dk_at dksX2_element_3 5 rfl rfl)
theorem dX2_element_78 : decode cX2_element 78 = .ok (.daload, 1) := dk_49 (dk_at dksX2_element_3 6 rfl rfl)
theorem dX2_element_79 : decode cX2_element 79 = .ok (.goto 4, 3) := dk_167 0 4 (dk_at dksX2_element_3 7 rfl rfl)
theorem dX2_element_82 : decode cX2_element 82 = .ok (.dconst 0, 1) := dk_14 (dk_at dksX2_element_3 10 rfl rfl)
theorem dX2_element_83 : decode cX2_element 83 = .ok (.dreturn, 1) := dk_175 (dk_at dksX2_element_3 11 rfl rfl)
abbrev cX2_at : ByteArray := prog_32_method_79_code
def yX2_at : MethodName := ⟨RX2, "at", "()I"⟩
def dkwX2_at_0 : List UInt8 := [42, 42, 180, 0, 64, 182, 0, 153, 172]
abbrev dktX2_at_0 : List UInt8 := dkwX2_at_0 ++ []
theorem dksX2_at_0 : cX2_at.data.toList.drop 0 = dktX2_at_0 := by decide +kernel
theorem dX2_at_0 : decode cX2_at 0 = .ok (.aload_n 0, 1) := dk_42 (dk_at dksX2_at_0 0 rfl rfl)
theorem dX2_at_1 : decode cX2_at 1 = .ok (.aload_n 0, 1) := dk_42 (dk_at dksX2_at_0 1 rfl rfl)
theorem dX2_at_2 : decode cX2_at 2 = .ok (.getfield 64, 3) := dk_180 0 64 (dk_at dksX2_at_0 2 rfl rfl)
theorem dX2_at_5 : decode cX2_at 5 = .ok (.invokevirtual 153, 3) := dk_182 0 153 (dk_at dksX2_at_0 5 rfl rfl)
theorem dX2_at_8 : decode cX2_at 8 = .ok (.ireturn, 1) := dk_172 (dk_at dksX2_at_0 8 rfl rfl)
abbrev cX2_count : ByteArray := prog_32_method_81_code
def yX2_count : MethodName := ⟨RX2, "count", "(I)I"⟩
def dkwX2_count_4 : List UInt8 := [2, 167, 0, 13, 42, 180, 0, 42, 42, 3, 182, 1, 133, 46, 172, 42, 182, 1, 190, 172, 2, 172]
abbrev dktX2_count_4 : List UInt8 := dkwX2_count_4 ++ []
def dkwX2_count_3 : List UInt8 := [172, 42, 180, 0, 79, 172, 42, 180, 0, 76, 172, 42, 180, 0, 91, 172, 42, 3, 182, 1, 133, 156, 0, 7]
abbrev dktX2_count_3 : List UInt8 := dkwX2_count_3 ++ dktX2_count_4
def dkwX2_count_2 : List UInt8 := [42, 180, 0, 13, 172, 42, 182, 1, 76, 172, 42, 180, 0, 61, 172, 42, 180, 0, 67, 172, 42, 180, 0, 82]
abbrev dktX2_count_2 : List UInt8 := dkwX2_count_2 ++ dktX2_count_3
def dkwX2_count_1 : List UInt8 := [170, 0, 0, 0, 0, 122, 0, 0, 0, 0, 0, 0, 0, 9, 0, 0, 0, 54, 0, 0, 0, 59, 0, 0, 0, 64, 0, 0, 0, 69, 0, 0, 0, 74, 0, 0, 0, 79, 0, 0, 0, 84, 0, 0, 0, 89, 0, 0, 0, 94, 0, 0, 0, 117]
abbrev dktX2_count_1 : List UInt8 := dkwX2_count_1 ++ dktX2_count_2
def dkwX2_count_0 : List UInt8 := [42, 3, 181, 0, 7, 27]
abbrev dktX2_count_0 : List UInt8 := dkwX2_count_0 ++ dktX2_count_1
theorem dksX2_count_0 : cX2_count.data.toList.drop 0 = dktX2_count_0 := by decide +kernel
theorem dksX2_count_1 : cX2_count.data.toList.drop 6 = dktX2_count_1 := dk_seg dksX2_count_0 6 rfl rfl
theorem dksX2_count_2 : cX2_count.data.toList.drop 60 = dktX2_count_2 := dk_seg dksX2_count_1 54 rfl rfl
theorem dksX2_count_3 : cX2_count.data.toList.drop 84 = dktX2_count_3 := dk_seg dksX2_count_2 24 rfl rfl
theorem dksX2_count_4 : cX2_count.data.toList.drop 108 = dktX2_count_4 := dk_seg dksX2_count_3 24 rfl rfl
theorem dX2_count_0 : decode cX2_count 0 = .ok (.aload_n 0, 1) := dk_42 (dk_at dksX2_count_0 0 rfl rfl)
theorem dX2_count_1 : decode cX2_count 1 = .ok (.iconst 0, 1) := dk_3 (dk_at dksX2_count_0 1 rfl rfl)
theorem dX2_count_2 : decode cX2_count 2 = .ok (.putfield 7, 3) := dk_181 0 7 (dk_at dksX2_count_0 2 rfl rfl)
theorem dX2_count_5 : decode cX2_count 5 = .ok (.iload_n 1, 1) := dk_27 (dk_at dksX2_count_0 5 rfl rfl)
theorem dX2_count_6 : decode cX2_count 6 = .ok (.tableswitch 122 0 9 #[54, 59, 64, 69, 74, 79, 84, 89, 94, 117], 54) := by decide +kernel
theorem dX2_count_60 : decode cX2_count 60 = .ok (.aload_n 0, 1) := dk_42 (dk_at dksX2_count_2 0 rfl rfl)
theorem dX2_count_61 : decode cX2_count 61 = .ok (.getfield 13, 3) := dk_180 0 13 (dk_at dksX2_count_2 1 rfl rfl)
theorem dX2_count_64 : decode cX2_count 64 = .ok (.ireturn, 1) := dk_172 (dk_at dksX2_count_2 4 rfl rfl)
theorem dX2_count_65 : decode cX2_count 65 = .ok (.aload_n 0, 1) := dk_42 (dk_at dksX2_count_2 5 rfl rfl)
theorem dX2_count_66 : decode cX2_count 66 = .ok (.invokevirtual 332, 3) := dk_182 1 76 (dk_at dksX2_count_2 6 rfl rfl)
theorem dX2_count_69 : decode cX2_count 69 = .ok (.ireturn, 1) := dk_172 (dk_at dksX2_count_2 9 rfl rfl)
theorem dX2_count_70 : decode cX2_count 70 = .ok (.aload_n 0, 1) := dk_42 (dk_at dksX2_count_2 10 rfl rfl)
theorem dX2_count_71 : decode cX2_count 71 = .ok (.getfield 61, 3) := dk_180 0 61 (dk_at dksX2_count_2 11 rfl rfl)
theorem dX2_count_74 : decode cX2_count 74 = .ok (.ireturn, 1) := dk_172 (dk_at dksX2_count_2 14 rfl rfl)
theorem dX2_count_75 : decode cX2_count 75 = .ok (.aload_n 0, 1) := dk_42 (dk_at dksX2_count_2 15 rfl rfl)
theorem dX2_count_76 : decode cX2_count 76 = .ok (.getfield 67, 3) := dk_180 0 67 (dk_at dksX2_count_2 16 rfl rfl)
theorem dX2_count_79 : decode cX2_count 79 = .ok (.ireturn, 1) := dk_172 (dk_at dksX2_count_2 19 rfl rfl)
theorem dX2_count_80 : decode cX2_count 80 = .ok (.aload_n 0, 1) := dk_42 (dk_at dksX2_count_2 20 rfl rfl)
theorem dX2_count_81 : decode cX2_count 81 = .ok (.getfield 82, 3) := dk_180 0 82 (dk_at dksX2_count_2 21 rfl rfl)
theorem dX2_count_84 : decode cX2_count 84 = .ok (.ireturn, 1) := dk_172 (dk_at dksX2_count_3 0 rfl rfl)
theorem dX2_count_85 : decode cX2_count 85 = .ok (.aload_n 0, 1) := dk_42 (dk_at dksX2_count_3 1 rfl rfl)
theorem dX2_count_86 : decode cX2_count 86 = .ok (.getfield 79, 3) := dk_180 0 79 (dk_at dksX2_count_3 2 rfl rfl)
theorem dX2_count_89 : decode cX2_count 89 = .ok (.ireturn, 1) := dk_172 (dk_at dksX2_count_3 5 rfl rfl)
theorem dX2_count_90 : decode cX2_count 90 = .ok (.aload_n 0, 1) := dk_42 (dk_at dksX2_count_3 6 rfl rfl)
theorem dX2_count_91 : decode cX2_count 91 = .ok (.getfield 76, 3) := dk_180 0 76 (dk_at dksX2_count_3 7 rfl rfl)
theorem dX2_count_94 : decode cX2_count 94 = .ok (.ireturn, 1) := dk_172 (dk_at dksX2_count_3 10 rfl rfl)
theorem dX2_count_95 : decode cX2_count 95 = .ok (.aload_n 0, 1) := dk_42 (dk_at dksX2_count_3 11 rfl rfl)
theorem dX2_count_96 : decode cX2_count 96 = .ok (.getfield 91, 3) := dk_180 0 91 (dk_at dksX2_count_3 12 rfl rfl)
theorem dX2_count_99 : decode cX2_count 99 = .ok (.ireturn, 1) := dk_172 (dk_at dksX2_count_3 15 rfl rfl)
theorem dX2_count_100 : decode cX2_count 100 = .ok (.aload_n 0, 1) := dk_42 (dk_at dksX2_count_3 16 rfl rfl)
theorem dX2_count_101 : decode cX2_count 101 = .ok (.iconst 0, 1) := dk_3 (dk_at dksX2_count_3 17 rfl rfl)
theorem dX2_count_102 : decode cX2_count 102 = .ok (.invokevirtual 389, 3) := dk_182 1 133 (dk_at dksX2_count_3 18 rfl rfl)
theorem dX2_count_105 : decode cX2_count 105 = .ok (.ifCond .ge 7, 3) := dk_156 0 7 (dk_at dksX2_count_3 21 rfl rfl)
theorem dX2_count_108 : decode cX2_count 108 = .ok (.iconst (-1), 1) := dk_2 (dk_at dksX2_count_4 0 rfl rfl)
theorem dX2_count_109 : decode cX2_count 109 = .ok (.goto 13, 3) := dk_167 0 13 (dk_at dksX2_count_4 1 rfl rfl)
theorem dX2_count_112 : decode cX2_count 112 = .ok (.aload_n 0, 1) := dk_42 (dk_at dksX2_count_4 4 rfl rfl)
theorem dX2_count_113 : decode cX2_count 113 = .ok (.getfield 42, 3) := dk_180 0 42 (dk_at dksX2_count_4 5 rfl rfl)
theorem dX2_count_116 : decode cX2_count 116 = .ok (.aload_n 0, 1) := dk_42 (dk_at dksX2_count_4 8 rfl rfl)
theorem dX2_count_117 : decode cX2_count 117 = .ok (.iconst 0, 1) := dk_3 (dk_at dksX2_count_4 9 rfl rfl)
theorem dX2_count_118 : decode cX2_count 118 = .ok (.invokevirtual 389, 3) := dk_182 1 133 (dk_at dksX2_count_4 10 rfl rfl)
theorem dX2_count_121 : decode cX2_count 121 = .ok (.iaload, 1) := dk_46 (dk_at dksX2_count_4 13 rfl rfl)
theorem dX2_count_122 : decode cX2_count 122 = .ok (.ireturn, 1) := dk_172 (dk_at dksX2_count_4 14 rfl rfl)
theorem dX2_count_123 : decode cX2_count 123 = .ok (.aload_n 0, 1) := dk_42 (dk_at dksX2_count_4 15 rfl rfl)
theorem dX2_count_124 : decode cX2_count 124 = .ok (.invokevirtual 446, 3) := dk_182 1 190 (dk_at dksX2_count_4 16 rfl rfl)
theorem dX2_count_127 : decode cX2_count 127 = .ok (.ireturn, 1) := dk_172 (dk_at dksX2_count_4 19 rfl rfl)
theorem dX2_count_128 : decode cX2_count 128 = .ok (.iconst (-1), 1) := dk_2 (dk_at dksX2_count_4 20 rfl rfl)
theorem dX2_count_129 : decode cX2_count 129 = .ok (.ireturn, 1) := dk_172 (dk_at dksX2_count_4 21 rfl rfl)
abbrev cX2_most : ByteArray := prog_32_method_80_code
def yX2_most : MethodName := ⟨RX2, "most", "()I"⟩
def dkwX2_most_1 : List UInt8 := [46, 27, 164, 0, 10, 42, 180, 0, 42, 28, 46, 60, 132, 2, 1, 167, 255, 221, 27, 172]
abbrev dktX2_most_1 : List UInt8 := dkwX2_most_1 ++ []
def dkwX2_most_0 : List UInt8 := [2, 60, 3, 61, 28, 16, 24, 162, 0, 35, 42, 180, 0, 42, 28, 46, 158, 0, 20, 42, 180, 0, 42, 28]
abbrev dktX2_most_0 : List UInt8 := dkwX2_most_0 ++ dktX2_most_1
theorem dksX2_most_0 : cX2_most.data.toList.drop 0 = dktX2_most_0 := by decide +kernel
theorem dksX2_most_1 : cX2_most.data.toList.drop 24 = dktX2_most_1 := dk_seg dksX2_most_0 24 rfl rfl
theorem dX2_most_0 : decode cX2_most 0 = .ok (.iconst (-1), 1) := dk_2 (dk_at dksX2_most_0 0 rfl rfl)
theorem dX2_most_1 : decode cX2_most 1 = .ok (.istore_n 1, 1) := dk_60 (dk_at dksX2_most_0 1 rfl rfl)
theorem dX2_most_2 : decode cX2_most 2 = .ok (.iconst 0, 1) := dk_3 (dk_at dksX2_most_0 2 rfl rfl)
theorem dX2_most_3 : decode cX2_most 3 = .ok (.istore_n 2, 1) := dk_61 (dk_at dksX2_most_0 3 rfl rfl)
theorem dX2_most_4 : decode cX2_most 4 = .ok (.iload_n 2, 1) := dk_28 (dk_at dksX2_most_0 4 rfl rfl)
theorem dX2_most_5 : decode cX2_most 5 = .ok (.bipush 24, 2) := dk_16 24 (dk_at dksX2_most_0 5 rfl rfl)
theorem dX2_most_7 : decode cX2_most 7 = .ok (.if_icmp .ge 35, 3) := dk_162 0 35 (dk_at dksX2_most_0 7 rfl rfl)
theorem dX2_most_10 : decode cX2_most 10 = .ok (.aload_n 0, 1) := dk_42 (dk_at dksX2_most_0 10 rfl rfl)
theorem dX2_most_11 : decode cX2_most 11 = .ok (.getfield 42, 3) := dk_180 0 42 (dk_at dksX2_most_0 11 rfl rfl)
theorem dX2_most_14 : decode cX2_most 14 = .ok (.iload_n 2, 1) := dk_28 (dk_at dksX2_most_0 14 rfl rfl)
theorem dX2_most_15 : decode cX2_most 15 = .ok (.iaload, 1) := dk_46 (dk_at dksX2_most_0 15 rfl rfl)
theorem dX2_most_16 : decode cX2_most 16 = .ok (.ifCond .le 20, 3) := dk_158 0 20 (dk_at dksX2_most_0 16 rfl rfl)
theorem dX2_most_19 : decode cX2_most 19 = .ok (.aload_n 0, 1) := dk_42 (dk_at dksX2_most_0 19 rfl rfl)
theorem dX2_most_20 : decode cX2_most 20 = .ok (.getfield 42, 3) := dk_180 0 42 (dk_at dksX2_most_0 20 rfl rfl)
theorem dX2_most_23 : decode cX2_most 23 = .ok (.iload_n 2, 1) := dk_28 (dk_at dksX2_most_0 23 rfl rfl)
theorem dX2_most_24 : decode cX2_most 24 = .ok (.iaload, 1) := dk_46 (dk_at dksX2_most_1 0 rfl rfl)
theorem dX2_most_25 : decode cX2_most 25 = .ok (.iload_n 1, 1) := dk_27 (dk_at dksX2_most_1 1 rfl rfl)
theorem dX2_most_26 : decode cX2_most 26 = .ok (.if_icmp .le 10, 3) := dk_164 0 10 (dk_at dksX2_most_1 2 rfl rfl)
theorem dX2_most_29 : decode cX2_most 29 = .ok (.aload_n 0, 1) := dk_42 (dk_at dksX2_most_1 5 rfl rfl)
theorem dX2_most_30 : decode cX2_most 30 = .ok (.getfield 42, 3) := dk_180 0 42 (dk_at dksX2_most_1 6 rfl rfl)
theorem dX2_most_33 : decode cX2_most 33 = .ok (.iload_n 2, 1) := dk_28 (dk_at dksX2_most_1 9 rfl rfl)
theorem dX2_most_34 : decode cX2_most 34 = .ok (.iaload, 1) := dk_46 (dk_at dksX2_most_1 10 rfl rfl)
theorem dX2_most_35 : decode cX2_most 35 = .ok (.istore_n 1, 1) := dk_60 (dk_at dksX2_most_1 11 rfl rfl)
theorem dX2_most_36 : decode cX2_most 36 = .ok (.iinc 2 1, 3) := dk_132 2 1 (dk_at dksX2_most_1 12 rfl rfl)
theorem dX2_most_39 : decode cX2_most 39 = .ok (.goto (-35), 3) := dk_167 255 221 (dk_at dksX2_most_1 15 rfl rfl)
theorem dX2_most_42 : decode cX2_most 42 = .ok (.iload_n 1, 1) := dk_27 (dk_at dksX2_most_1 18 rfl rfl)
theorem dX2_most_43 : decode cX2_most 43 = .ok (.ireturn, 1) := dk_172 (dk_at dksX2_most_1 19 rfl rfl)
theorem q123 : (Jvm.Cond.initialized "BasicMachineModel") ∈ lw_all := lw_g (lw_at lw_m1 2 rfl) rfl
theorem q1798 : (Jvm.Cond.instantiable "BasicMachineModel" (45 : Nat)) ∈ lw_all := lw_g (lw_at lw_m7 237 rfl) rfl
theorem q1800 : (Jvm.Cond.instanceMethod ({ cls := "BasicMachineModel", name := "<init>", desc := "()V" } : Jvm.MethodName)) ∈ lw_all := lw_g (lw_at lw_m7 239 rfl) rfl
theorem q1801 : (Jvm.Cond.code ({ cls := "BasicMachineModel", name := "<init>", desc := "()V" } : Jvm.MethodName) prog_32_method_1_code (1 : Nat) (Option.none : Option Jvm.ClassFile.FieldType)) ∈ lw_all := lw_g (lw_at lw_m8 0 rfl) rfl
theorem q1802 : (Jvm.Cond.methodLink "BasicMachineModel" (1 : Nat) ({ cls := "java/lang/Object", name := "<init>", desc := "()V" } : Jvm.MethodName)) ∈ lw_all := lw_g (lw_at lw_m8 1 rfl) rfl
theorem q1803 : (Jvm.Cond.fieldLink "BasicMachineModel" (7 : Nat) "BasicMachineModel" "code" "I") ∈ lw_all := lw_g (lw_at lw_m8 2 rfl) rfl
theorem q1804 : (Jvm.Cond.fieldLink "BasicMachineModel" (13 : Nat) "BasicMachineModel" "typed" "I") ∈ lw_all := lw_g (lw_at lw_m8 3 rfl) rfl
theorem q1805 : (Jvm.Cond.fieldLink "BasicMachineModel" (16 : Nat) "BasicMachineModel" "size" "I") ∈ lw_all := lw_g (lw_at lw_m8 4 rfl) rfl
theorem q1806 : (Jvm.Cond.fieldLink "BasicMachineModel" (19 : Nat) "BasicMachineModel" "error" "I") ∈ lw_all := lw_g (lw_at lw_m8 5 rfl) rfl
theorem q1807 : (Jvm.Cond.fieldLink "BasicMachineModel" (22 : Nat) "BasicMachineModel" "p" "I") ∈ lw_all := lw_g (lw_at lw_m8 6 rfl) rfl
theorem q1808 : (Jvm.Cond.fieldLink "BasicMachineModel" (25 : Nat) "BasicMachineModel" "open" "I") ∈ lw_all := lw_g (lw_at lw_m8 7 rfl) rfl
theorem q1809 : (Jvm.Cond.fieldLink "BasicMachineModel" (28 : Nat) "BasicMachineModel" "codes" "I") ∈ lw_all := lw_g (lw_at lw_m8 8 rfl) rfl
theorem q1810 : (Jvm.Cond.fieldLink "BasicMachineModel" (31 : Nat) "BasicMachineModel" "bad" "Z") ∈ lw_all := lw_g (lw_at lw_m8 9 rfl) rfl
theorem q1811 : (Jvm.Cond.fieldLink "BasicMachineModel" (35 : Nat) "BasicMachineModel" "line" "[C") ∈ lw_all := lw_g (lw_at lw_m8 10 rfl) rfl
theorem q1812 : (Jvm.Cond.fieldLink "BasicMachineModel" (39 : Nat) "BasicMachineModel" "text" "[C") ∈ lw_all := lw_g (lw_at lw_m8 11 rfl) rfl
theorem q1813 : (Jvm.Cond.fieldLink "BasicMachineModel" (42 : Nat) "BasicMachineModel" "number" "[I") ∈ lw_all := lw_g (lw_at lw_m8 12 rfl) rfl
theorem q1814 : (Jvm.Cond.fieldLink "BasicMachineModel" (46 : Nat) "BasicMachineModel" "sort" "[I") ∈ lw_all := lw_g (lw_at lw_m8 13 rfl) rfl
theorem q1815 : (Jvm.Cond.fieldLink "BasicMachineModel" (49 : Nat) "BasicMachineModel" "arg" "[I") ∈ lw_all := lw_g (lw_at lw_m8 14 rfl) rfl
theorem q1816 : (Jvm.Cond.fieldLink "BasicMachineModel" (52 : Nat) "BasicMachineModel" "expr" "[I") ∈ lw_all := lw_g (lw_at lw_m8 15 rfl) rfl
theorem q1817 : (Jvm.Cond.fieldLink "BasicMachineModel" (55 : Nat) "BasicMachineModel" "made" "[I") ∈ lw_all := lw_g (lw_at lw_m8 16 rfl) rfl
theorem q1818 : (Jvm.Cond.fieldLink "BasicMachineModel" (58 : Nat) "BasicMachineModel" "wait" "[I") ∈ lw_all := lw_g (lw_at lw_m8 17 rfl) rfl
theorem q1819 : (Jvm.Cond.fieldLink "BasicMachineModel" (61 : Nat) "BasicMachineModel" "steps" "I") ∈ lw_all := lw_g (lw_at lw_m8 18 rfl) rfl
theorem q1820 : (Jvm.Cond.fieldLink "BasicMachineModel" (64 : Nat) "BasicMachineModel" "last" "I") ∈ lw_all := lw_g (lw_at lw_m8 19 rfl) rfl
theorem q1821 : (Jvm.Cond.fieldLink "BasicMachineModel" (67 : Nat) "BasicMachineModel" "prints" "I") ∈ lw_all := lw_g (lw_at lw_m8 20 rfl) rfl
theorem q1822 : (Jvm.Cond.fieldLink "BasicMachineModel" (70 : Nat) "BasicMachineModel" "reads" "I") ∈ lw_all := lw_g (lw_at lw_m8 21 rfl) rfl
theorem q1823 : (Jvm.Cond.fieldLink "BasicMachineModel" (73 : Nat) "BasicMachineModel" "data" "I") ∈ lw_all := lw_g (lw_at lw_m8 22 rfl) rfl
theorem q1824 : (Jvm.Cond.fieldLink "BasicMachineModel" (76 : Nat) "BasicMachineModel" "left" "I") ∈ lw_all := lw_g (lw_at lw_m8 23 rfl) rfl
theorem q1825 : (Jvm.Cond.fieldLink "BasicMachineModel" (79 : Nat) "BasicMachineModel" "subs" "I") ∈ lw_all := lw_g (lw_at lw_m8 24 rfl) rfl
theorem q1826 : (Jvm.Cond.fieldLink "BasicMachineModel" (82 : Nat) "BasicMachineModel" "loops" "I") ∈ lw_all := lw_g (lw_at lw_m8 25 rfl) rfl
theorem q1827 : (Jvm.Cond.fieldLink "BasicMachineModel" (85 : Nat) "BasicMachineModel" "calls" "I") ∈ lw_all := lw_g (lw_at lw_m8 26 rfl) rfl
theorem q1828 : (Jvm.Cond.fieldLink "BasicMachineModel" (88 : Nat) "BasicMachineModel" "top" "I") ∈ lw_all := lw_g (lw_at lw_m8 27 rfl) rfl
theorem q1829 : (Jvm.Cond.fieldLink "BasicMachineModel" (91 : Nat) "BasicMachineModel" "threw" "I") ∈ lw_all := lw_g (lw_at lw_m8 28 rfl) rfl
theorem q1830 : (Jvm.Cond.fieldLink "BasicMachineModel" (94 : Nat) "BasicMachineModel" "fail" "I") ∈ lw_all := lw_g (lw_at lw_m8 29 rfl) rfl
theorem q1831 : (Jvm.Cond.fieldLink "BasicMachineModel" (97 : Nat) "BasicMachineModel" "print" "[D") ∈ lw_all := lw_g (lw_at lw_m8 30 rfl) rfl
theorem q1832 : (Jvm.Cond.fieldLink "BasicMachineModel" (101 : Nat) "BasicMachineModel" "variable" "[D") ∈ lw_all := lw_g (lw_at lw_m8 31 rfl) rfl
theorem q1833 : (Jvm.Cond.fieldLink "BasicMachineModel" (104 : Nat) "BasicMachineModel" "value" "[D") ∈ lw_all := lw_g (lw_at lw_m8 32 rfl) rfl
theorem q1834 : (Jvm.Cond.fieldLink "BasicMachineModel" (107 : Nat) "BasicMachineModel" "read" "[D") ∈ lw_all := lw_g (lw_at lw_m8 33 rfl) rfl
theorem q1835 : (Jvm.Cond.fieldLink "BasicMachineModel" (110 : Nat) "BasicMachineModel" "limit" "[D") ∈ lw_all := lw_g (lw_at lw_m8 34 rfl) rfl
theorem q1836 : (Jvm.Cond.fieldLink "BasicMachineModel" (113 : Nat) "BasicMachineModel" "by" "[D") ∈ lw_all := lw_g (lw_at lw_m8 35 rfl) rfl
theorem q1837 : (Jvm.Cond.fieldLink "BasicMachineModel" (116 : Nat) "BasicMachineModel" "saved" "[D") ∈ lw_all := lw_g (lw_at lw_m8 36 rfl) rfl
theorem q1838 : (Jvm.Cond.fieldLink "BasicMachineModel" (119 : Nat) "BasicMachineModel" "cell" "[D") ∈ lw_all := lw_g (lw_at lw_m8 37 rfl) rfl
theorem q1839 : (Jvm.Cond.fieldLink "BasicMachineModel" (122 : Nat) "BasicMachineModel" "fresh" "[D") ∈ lw_all := lw_g (lw_at lw_m8 38 rfl) rfl
theorem q1840 : (Jvm.Cond.fieldLink "BasicMachineModel" (125 : Nat) "BasicMachineModel" "fn" "[I") ∈ lw_all := lw_g (lw_at lw_m8 39 rfl) rfl
theorem q1841 : (Jvm.Cond.fieldLink "BasicMachineModel" (128 : Nat) "BasicMachineModel" "rows" "[I") ∈ lw_all := lw_g (lw_at lw_m8 40 rfl) rfl
theorem q1842 : (Jvm.Cond.fieldLink "BasicMachineModel" (131 : Nat) "BasicMachineModel" "columns" "[I") ∈ lw_all := lw_g (lw_at lw_m8 41 rfl) rfl
theorem q1843 : (Jvm.Cond.fieldLink "BasicMachineModel" (134 : Nat) "BasicMachineModel" "back" "[I") ∈ lw_all := lw_g (lw_at lw_m8 42 rfl) rfl
theorem q1844 : (Jvm.Cond.fieldLink "BasicMachineModel" (137 : Nat) "BasicMachineModel" "loopOf" "[I") ∈ lw_all := lw_g (lw_at lw_m8 43 rfl) rfl
theorem q1845 : (Jvm.Cond.fieldLink "BasicMachineModel" (140 : Nat) "BasicMachineModel" "loopAt" "[I") ∈ lw_all := lw_g (lw_at lw_m8 44 rfl) rfl
theorem q1846 : (Jvm.Cond.fieldLink "BasicMachineModel" (143 : Nat) "BasicMachineModel" "callAt" "[I") ∈ lw_all := lw_g (lw_at lw_m8 45 rfl) rfl
theorem q1847 : (Jvm.Cond.fieldLink "BasicMachineModel" (146 : Nat) "BasicMachineModel" "callOf" "[I") ∈ lw_all := lw_g (lw_at lw_m8 46 rfl) rfl
theorem q1848 : (Jvm.Cond.lays "BasicMachineModel" "BasicMachineModel" "code" "I") ∈ lw_all := lw_g (lw_at lw_m8 47 rfl) rfl
theorem q1849 : (Jvm.Cond.soleField "BasicMachineModel" "code") ∈ lw_all := lw_g (lw_at lw_m8 48 rfl) rfl
theorem q1850 : (Jvm.Cond.lays "BasicMachineModel" "BasicMachineModel" "typed" "I") ∈ lw_all := lw_g (lw_at lw_m8 49 rfl) rfl
theorem q1851 : (Jvm.Cond.soleField "BasicMachineModel" "typed") ∈ lw_all := lw_g (lw_at lw_m8 50 rfl) rfl
theorem q1852 : (Jvm.Cond.lays "BasicMachineModel" "BasicMachineModel" "size" "I") ∈ lw_all := lw_g (lw_at lw_m8 51 rfl) rfl
theorem q1853 : (Jvm.Cond.soleField "BasicMachineModel" "size") ∈ lw_all := lw_g (lw_at lw_m8 52 rfl) rfl
theorem q1854 : (Jvm.Cond.lays "BasicMachineModel" "BasicMachineModel" "error" "I") ∈ lw_all := lw_g (lw_at lw_m8 53 rfl) rfl
theorem q1855 : (Jvm.Cond.soleField "BasicMachineModel" "error") ∈ lw_all := lw_g (lw_at lw_m8 54 rfl) rfl
theorem q1856 : (Jvm.Cond.lays "BasicMachineModel" "BasicMachineModel" "p" "I") ∈ lw_all := lw_g (lw_at lw_m8 55 rfl) rfl
theorem q1857 : (Jvm.Cond.soleField "BasicMachineModel" "p") ∈ lw_all := lw_g (lw_at lw_m8 56 rfl) rfl
theorem q1858 : (Jvm.Cond.lays "BasicMachineModel" "BasicMachineModel" "open" "I") ∈ lw_all := lw_g (lw_at lw_m8 57 rfl) rfl
theorem q1859 : (Jvm.Cond.soleField "BasicMachineModel" "open") ∈ lw_all := lw_g (lw_at lw_m8 58 rfl) rfl
theorem q1860 : (Jvm.Cond.lays "BasicMachineModel" "BasicMachineModel" "codes" "I") ∈ lw_all := lw_g (lw_at lw_m8 59 rfl) rfl
theorem q1861 : (Jvm.Cond.soleField "BasicMachineModel" "codes") ∈ lw_all := lw_g (lw_at lw_m8 60 rfl) rfl
theorem q1862 : (Jvm.Cond.lays "BasicMachineModel" "BasicMachineModel" "bad" "Z") ∈ lw_all := lw_g (lw_at lw_m8 61 rfl) rfl
theorem q1863 : (Jvm.Cond.soleField "BasicMachineModel" "bad") ∈ lw_all := lw_g (lw_at lw_m8 62 rfl) rfl
theorem q1864 : (Jvm.Cond.laysFinal "BasicMachineModel" "BasicMachineModel" "line" "[C") ∈ lw_all := lw_g (lw_at lw_m8 63 rfl) rfl
theorem q1865 : (Jvm.Cond.soleField "BasicMachineModel" "line") ∈ lw_all := lw_g (lw_at lw_m8 64 rfl) rfl
theorem q1866 : (Jvm.Cond.laysFinal "BasicMachineModel" "BasicMachineModel" "text" "[C") ∈ lw_all := lw_g (lw_at lw_m8 65 rfl) rfl
theorem q1867 : (Jvm.Cond.soleField "BasicMachineModel" "text") ∈ lw_all := lw_g (lw_at lw_m8 66 rfl) rfl
theorem q1868 : (Jvm.Cond.laysFinal "BasicMachineModel" "BasicMachineModel" "number" "[I") ∈ lw_all := lw_g (lw_at lw_m8 67 rfl) rfl
theorem q1869 : (Jvm.Cond.soleField "BasicMachineModel" "number") ∈ lw_all := lw_g (lw_at lw_m8 68 rfl) rfl
theorem q1870 : (Jvm.Cond.laysFinal "BasicMachineModel" "BasicMachineModel" "sort" "[I") ∈ lw_all := lw_g (lw_at lw_m8 69 rfl) rfl
theorem q1871 : (Jvm.Cond.soleField "BasicMachineModel" "sort") ∈ lw_all := lw_g (lw_at lw_m8 70 rfl) rfl
theorem q1872 : (Jvm.Cond.laysFinal "BasicMachineModel" "BasicMachineModel" "arg" "[I") ∈ lw_all := lw_g (lw_at lw_m8 71 rfl) rfl
theorem q1873 : (Jvm.Cond.soleField "BasicMachineModel" "arg") ∈ lw_all := lw_g (lw_at lw_m8 72 rfl) rfl
theorem q1874 : (Jvm.Cond.laysFinal "BasicMachineModel" "BasicMachineModel" "expr" "[I") ∈ lw_all := lw_g (lw_at lw_m8 73 rfl) rfl
theorem q1875 : (Jvm.Cond.soleField "BasicMachineModel" "expr") ∈ lw_all := lw_g (lw_at lw_m8 74 rfl) rfl
theorem q1876 : (Jvm.Cond.laysFinal "BasicMachineModel" "BasicMachineModel" "made" "[I") ∈ lw_all := lw_g (lw_at lw_m8 75 rfl) rfl
theorem q1877 : (Jvm.Cond.soleField "BasicMachineModel" "made") ∈ lw_all := lw_g (lw_at lw_m8 76 rfl) rfl
theorem q1878 : (Jvm.Cond.laysFinal "BasicMachineModel" "BasicMachineModel" "wait" "[I") ∈ lw_all := lw_g (lw_at lw_m8 77 rfl) rfl
theorem q1879 : (Jvm.Cond.soleField "BasicMachineModel" "wait") ∈ lw_all := lw_g (lw_at lw_m8 78 rfl) rfl
theorem q1880 : (Jvm.Cond.lays "BasicMachineModel" "BasicMachineModel" "steps" "I") ∈ lw_all := lw_g (lw_at lw_m8 79 rfl) rfl
theorem q1881 : (Jvm.Cond.soleField "BasicMachineModel" "steps") ∈ lw_all := lw_g (lw_at lw_m8 80 rfl) rfl
theorem q1882 : (Jvm.Cond.lays "BasicMachineModel" "BasicMachineModel" "last" "I") ∈ lw_all := lw_g (lw_at lw_m8 81 rfl) rfl
theorem q1883 : (Jvm.Cond.soleField "BasicMachineModel" "last") ∈ lw_all := lw_g (lw_at lw_m8 82 rfl) rfl
theorem q1884 : (Jvm.Cond.lays "BasicMachineModel" "BasicMachineModel" "prints" "I") ∈ lw_all := lw_g (lw_at lw_m8 83 rfl) rfl
theorem q1885 : (Jvm.Cond.soleField "BasicMachineModel" "prints") ∈ lw_all := lw_g (lw_at lw_m8 84 rfl) rfl
theorem q1886 : (Jvm.Cond.lays "BasicMachineModel" "BasicMachineModel" "reads" "I") ∈ lw_all := lw_g (lw_at lw_m8 85 rfl) rfl
theorem q1887 : (Jvm.Cond.soleField "BasicMachineModel" "reads") ∈ lw_all := lw_g (lw_at lw_m8 86 rfl) rfl
theorem q1888 : (Jvm.Cond.lays "BasicMachineModel" "BasicMachineModel" "data" "I") ∈ lw_all := lw_g (lw_at lw_m8 87 rfl) rfl
theorem q1889 : (Jvm.Cond.soleField "BasicMachineModel" "data") ∈ lw_all := lw_g (lw_at lw_m8 88 rfl) rfl
theorem q1890 : (Jvm.Cond.lays "BasicMachineModel" "BasicMachineModel" "left" "I") ∈ lw_all := lw_g (lw_at lw_m8 89 rfl) rfl
theorem q1891 : (Jvm.Cond.soleField "BasicMachineModel" "left") ∈ lw_all := lw_g (lw_at lw_m8 90 rfl) rfl
theorem q1892 : (Jvm.Cond.lays "BasicMachineModel" "BasicMachineModel" "subs" "I") ∈ lw_all := lw_g (lw_at lw_m8 91 rfl) rfl
theorem q1893 : (Jvm.Cond.soleField "BasicMachineModel" "subs") ∈ lw_all := lw_g (lw_at lw_m8 92 rfl) rfl
theorem q1894 : (Jvm.Cond.lays "BasicMachineModel" "BasicMachineModel" "loops" "I") ∈ lw_all := lw_g (lw_at lw_m8 93 rfl) rfl
theorem q1895 : (Jvm.Cond.soleField "BasicMachineModel" "loops") ∈ lw_all := lw_g (lw_at lw_m8 94 rfl) rfl
theorem q1896 : (Jvm.Cond.lays "BasicMachineModel" "BasicMachineModel" "calls" "I") ∈ lw_all := lw_g (lw_at lw_m8 95 rfl) rfl
theorem q1897 : (Jvm.Cond.soleField "BasicMachineModel" "calls") ∈ lw_all := lw_g (lw_at lw_m8 96 rfl) rfl
theorem q1898 : (Jvm.Cond.lays "BasicMachineModel" "BasicMachineModel" "top" "I") ∈ lw_all := lw_g (lw_at lw_m8 97 rfl) rfl
theorem q1899 : (Jvm.Cond.soleField "BasicMachineModel" "top") ∈ lw_all := lw_g (lw_at lw_m8 98 rfl) rfl
theorem q1900 : (Jvm.Cond.lays "BasicMachineModel" "BasicMachineModel" "threw" "I") ∈ lw_all := lw_g (lw_at lw_m8 99 rfl) rfl
theorem q1901 : (Jvm.Cond.soleField "BasicMachineModel" "threw") ∈ lw_all := lw_g (lw_at lw_m8 100 rfl) rfl
theorem q1902 : (Jvm.Cond.lays "BasicMachineModel" "BasicMachineModel" "fail" "I") ∈ lw_all := lw_g (lw_at lw_m8 101 rfl) rfl
theorem q1903 : (Jvm.Cond.soleField "BasicMachineModel" "fail") ∈ lw_all := lw_g (lw_at lw_m8 102 rfl) rfl
theorem q1904 : (Jvm.Cond.laysFinal "BasicMachineModel" "BasicMachineModel" "print" "[D") ∈ lw_all := lw_g (lw_at lw_m8 103 rfl) rfl
theorem q1905 : (Jvm.Cond.soleField "BasicMachineModel" "print") ∈ lw_all := lw_g (lw_at lw_m8 104 rfl) rfl
theorem q1906 : (Jvm.Cond.laysFinal "BasicMachineModel" "BasicMachineModel" "variable" "[D") ∈ lw_all := lw_g (lw_at lw_m8 105 rfl) rfl
theorem q1907 : (Jvm.Cond.soleField "BasicMachineModel" "variable") ∈ lw_all := lw_g (lw_at lw_m8 106 rfl) rfl
theorem q1908 : (Jvm.Cond.laysFinal "BasicMachineModel" "BasicMachineModel" "value" "[D") ∈ lw_all := lw_g (lw_at lw_m8 107 rfl) rfl
theorem q1909 : (Jvm.Cond.soleField "BasicMachineModel" "value") ∈ lw_all := lw_g (lw_at lw_m8 108 rfl) rfl
theorem q1910 : (Jvm.Cond.laysFinal "BasicMachineModel" "BasicMachineModel" "read" "[D") ∈ lw_all := lw_g (lw_at lw_m8 109 rfl) rfl
theorem q1911 : (Jvm.Cond.soleField "BasicMachineModel" "read") ∈ lw_all := lw_g (lw_at lw_m8 110 rfl) rfl
theorem q1912 : (Jvm.Cond.laysFinal "BasicMachineModel" "BasicMachineModel" "limit" "[D") ∈ lw_all := lw_g (lw_at lw_m8 111 rfl) rfl
theorem q1913 : (Jvm.Cond.soleField "BasicMachineModel" "limit") ∈ lw_all := lw_g (lw_at lw_m8 112 rfl) rfl
theorem q1914 : (Jvm.Cond.laysFinal "BasicMachineModel" "BasicMachineModel" "by" "[D") ∈ lw_all := lw_g (lw_at lw_m8 113 rfl) rfl
theorem q1915 : (Jvm.Cond.soleField "BasicMachineModel" "by") ∈ lw_all := lw_g (lw_at lw_m8 114 rfl) rfl
theorem q1916 : (Jvm.Cond.laysFinal "BasicMachineModel" "BasicMachineModel" "saved" "[D") ∈ lw_all := lw_g (lw_at lw_m8 115 rfl) rfl
theorem q1917 : (Jvm.Cond.soleField "BasicMachineModel" "saved") ∈ lw_all := lw_g (lw_at lw_m8 116 rfl) rfl
theorem q1918 : (Jvm.Cond.laysFinal "BasicMachineModel" "BasicMachineModel" "cell" "[D") ∈ lw_all := lw_g (lw_at lw_m8 117 rfl) rfl
theorem q1919 : (Jvm.Cond.soleField "BasicMachineModel" "cell") ∈ lw_all := lw_g (lw_at lw_m8 118 rfl) rfl
theorem q1920 : (Jvm.Cond.laysFinal "BasicMachineModel" "BasicMachineModel" "fresh" "[D") ∈ lw_all := lw_g (lw_at lw_m8 119 rfl) rfl
theorem q1921 : (Jvm.Cond.soleField "BasicMachineModel" "fresh") ∈ lw_all := lw_g (lw_at lw_m8 120 rfl) rfl
theorem q1922 : (Jvm.Cond.laysFinal "BasicMachineModel" "BasicMachineModel" "fn" "[I") ∈ lw_all := lw_g (lw_at lw_m8 121 rfl) rfl
theorem q1923 : (Jvm.Cond.soleField "BasicMachineModel" "fn") ∈ lw_all := lw_g (lw_at lw_m8 122 rfl) rfl
theorem q1924 : (Jvm.Cond.laysFinal "BasicMachineModel" "BasicMachineModel" "rows" "[I") ∈ lw_all := lw_g (lw_at lw_m8 123 rfl) rfl
theorem q1925 : (Jvm.Cond.soleField "BasicMachineModel" "rows") ∈ lw_all := lw_g (lw_at lw_m8 124 rfl) rfl
theorem q1926 : (Jvm.Cond.laysFinal "BasicMachineModel" "BasicMachineModel" "columns" "[I") ∈ lw_all := lw_g (lw_at lw_m8 125 rfl) rfl
theorem q1927 : (Jvm.Cond.soleField "BasicMachineModel" "columns") ∈ lw_all := lw_g (lw_at lw_m8 126 rfl) rfl
theorem q1928 : (Jvm.Cond.laysFinal "BasicMachineModel" "BasicMachineModel" "back" "[I") ∈ lw_all := lw_g (lw_at lw_m8 127 rfl) rfl
theorem q1929 : (Jvm.Cond.soleField "BasicMachineModel" "back") ∈ lw_all := lw_g (lw_at lw_m8 128 rfl) rfl
theorem q1930 : (Jvm.Cond.laysFinal "BasicMachineModel" "BasicMachineModel" "loopOf" "[I") ∈ lw_all := lw_g (lw_at lw_m8 129 rfl) rfl
theorem q1931 : (Jvm.Cond.soleField "BasicMachineModel" "loopOf") ∈ lw_all := lw_g (lw_at lw_m8 130 rfl) rfl
theorem q1932 : (Jvm.Cond.laysFinal "BasicMachineModel" "BasicMachineModel" "loopAt" "[I") ∈ lw_all := lw_g (lw_at lw_m8 131 rfl) rfl
theorem q1933 : (Jvm.Cond.soleField "BasicMachineModel" "loopAt") ∈ lw_all := lw_g (lw_at lw_m8 132 rfl) rfl
theorem q1934 : (Jvm.Cond.laysFinal "BasicMachineModel" "BasicMachineModel" "callAt" "[I") ∈ lw_all := lw_g (lw_at lw_m8 133 rfl) rfl
theorem q1935 : (Jvm.Cond.soleField "BasicMachineModel" "callAt") ∈ lw_all := lw_g (lw_at lw_m8 134 rfl) rfl
theorem q1936 : (Jvm.Cond.laysFinal "BasicMachineModel" "BasicMachineModel" "callOf" "[I") ∈ lw_all := lw_g (lw_at lw_m8 135 rfl) rfl
theorem q1937 : (Jvm.Cond.soleField "BasicMachineModel" "callOf") ∈ lw_all := lw_g (lw_at lw_m8 136 rfl) rfl
theorem q1938 : (Jvm.Cond.superclass "BasicMachineModel" "java/lang/Object") ∈ lw_all := lw_g (lw_at lw_m8 137 rfl) rfl
theorem q1940 : (Jvm.Cond.instanceMethod ({ cls := "BasicMachineModel", name := "thrown", desc := "()I" } : Jvm.MethodName)) ∈ lw_all := lw_g (lw_at lw_m8 139 rfl) rfl
theorem q1941 : (Jvm.Cond.selects "BasicMachineModel" ({ cls := "BasicMachineModel", name := "thrown", desc := "()I" } : Jvm.MethodName) ({ cls := "BasicMachineModel", name := "thrown", desc := "()I" } : Jvm.MethodName)) ∈ lw_all := lw_g (lw_at lw_m8 140 rfl) rfl
theorem q1942 : (Jvm.Cond.code ({ cls := "BasicMachineModel", name := "thrown", desc := "()I" } : Jvm.MethodName) prog_32_method_2_code (1 : Nat) (Option.some Jvm.ClassFile.FieldType.int)) ∈ lw_all := lw_g (lw_at lw_m8 141 rfl) rfl
theorem q1944 : (Jvm.Cond.instanceMethod ({ cls := "BasicMachineModel", name := "type", desc := "(I)I" } : Jvm.MethodName)) ∈ lw_all := lw_g (lw_at lw_m8 143 rfl) rfl
theorem q1945 : (Jvm.Cond.selects "BasicMachineModel" ({ cls := "BasicMachineModel", name := "type", desc := "(I)I" } : Jvm.MethodName) ({ cls := "BasicMachineModel", name := "type", desc := "(I)I" } : Jvm.MethodName)) ∈ lw_all := lw_g (lw_at lw_m8 144 rfl) rfl
theorem q1946 : (Jvm.Cond.code ({ cls := "BasicMachineModel", name := "type", desc := "(I)I" } : Jvm.MethodName) prog_32_method_5_code (2 : Nat) (Option.some Jvm.ClassFile.FieldType.int)) ∈ lw_all := lw_g (lw_at lw_m8 145 rfl) rfl
theorem q1947 : (Jvm.Cond.methodLink "BasicMachineModel" (149 : Nat) ({ cls := "BasicMachineModel", name := "refuse", desc := "(I)I" } : Jvm.MethodName)) ∈ lw_all := lw_g (lw_at lw_m8 146 rfl) rfl
theorem q1948 : (Jvm.Cond.privateMethod ({ cls := "BasicMachineModel", name := "refuse", desc := "(I)I" } : Jvm.MethodName)) ∈ lw_tbl := lw_at lw_m8 147 rfl
theorem q1949 : (Jvm.Cond.instanceMethod ({ cls := "BasicMachineModel", name := "refuse", desc := "(I)I" } : Jvm.MethodName)) ∈ lw_all := lw_g (lw_at lw_m8 148 rfl) rfl
theorem q1950 : (Jvm.Cond.code ({ cls := "BasicMachineModel", name := "refuse", desc := "(I)I" } : Jvm.MethodName) prog_32_method_3_code (2 : Nat) (Option.some Jvm.ClassFile.FieldType.int)) ∈ lw_all := lw_g (lw_at lw_m8 149 rfl) rfl
theorem q1951 : (Jvm.Cond.methodLink "BasicMachineModel" (153 : Nat) ({ cls := "BasicMachineModel", name := "fine", desc := "(I)I" } : Jvm.MethodName)) ∈ lw_all := lw_g (lw_at lw_m8 150 rfl) rfl
theorem q1952 : (Jvm.Cond.privateMethod ({ cls := "BasicMachineModel", name := "fine", desc := "(I)I" } : Jvm.MethodName)) ∈ lw_tbl := lw_at lw_m8 151 rfl
theorem q1953 : (Jvm.Cond.instanceMethod ({ cls := "BasicMachineModel", name := "fine", desc := "(I)I" } : Jvm.MethodName)) ∈ lw_all := lw_g (lw_at lw_m8 152 rfl) rfl
theorem q1954 : (Jvm.Cond.code ({ cls := "BasicMachineModel", name := "fine", desc := "(I)I" } : Jvm.MethodName) prog_32_method_4_code (2 : Nat) (Option.some Jvm.ClassFile.FieldType.int)) ∈ lw_all := lw_g (lw_at lw_m8 153 rfl) rfl
theorem q1956 : (Jvm.Cond.instanceMethod ({ cls := "BasicMachineModel", name := "enter", desc := "()I" } : Jvm.MethodName)) ∈ lw_all := lw_g (lw_at lw_m8 155 rfl) rfl
theorem q1957 : (Jvm.Cond.selects "BasicMachineModel" ({ cls := "BasicMachineModel", name := "enter", desc := "()I" } : Jvm.MethodName) ({ cls := "BasicMachineModel", name := "enter", desc := "()I" } : Jvm.MethodName)) ∈ lw_all := lw_g (lw_at lw_m8 156 rfl) rfl
theorem q1958 : (Jvm.Cond.code ({ cls := "BasicMachineModel", name := "enter", desc := "()I" } : Jvm.MethodName) prog_32_method_43_code (3 : Nat) (Option.some Jvm.ClassFile.FieldType.int)) ∈ lw_all := lw_g (lw_at lw_m8 157 rfl) rfl
theorem q1959 : (Jvm.Cond.methodLink "BasicMachineModel" (296 : Nat) ({ cls := "BasicMachineModel", name := "lineNumber", desc := "()I" } : Jvm.MethodName)) ∈ lw_all := lw_g (lw_at lw_m8 158 rfl) rfl
theorem q1960 : (Jvm.Cond.privateMethod ({ cls := "BasicMachineModel", name := "lineNumber", desc := "()I" } : Jvm.MethodName)) ∈ lw_tbl := lw_at lw_m8 159 rfl
theorem q1961 : (Jvm.Cond.instanceMethod ({ cls := "BasicMachineModel", name := "lineNumber", desc := "()I" } : Jvm.MethodName)) ∈ lw_all := lw_g (lw_at lw_m8 160 rfl) rfl
theorem q1962 : (Jvm.Cond.code ({ cls := "BasicMachineModel", name := "lineNumber", desc := "()I" } : Jvm.MethodName) prog_32_method_15_code (3 : Nat) (Option.some Jvm.ClassFile.FieldType.int)) ∈ lw_all := lw_g (lw_at lw_m8 161 rfl) rfl
theorem q1963 : (Jvm.Cond.methodLink "BasicMachineModel" (237 : Nat) ({ cls := "BasicMachineModel", name := "isDigit", desc := "()Z" } : Jvm.MethodName)) ∈ lw_all := lw_g (lw_at lw_m8 162 rfl) rfl
theorem q1964 : (Jvm.Cond.privateMethod ({ cls := "BasicMachineModel", name := "isDigit", desc := "()Z" } : Jvm.MethodName)) ∈ lw_tbl := lw_at lw_m8 163 rfl
theorem q1965 : (Jvm.Cond.instanceMethod ({ cls := "BasicMachineModel", name := "isDigit", desc := "()Z" } : Jvm.MethodName)) ∈ lw_all := lw_g (lw_at lw_m8 164 rfl) rfl
theorem q1966 : (Jvm.Cond.code ({ cls := "BasicMachineModel", name := "isDigit", desc := "()Z" } : Jvm.MethodName) prog_32_method_10_code (1 : Nat) (Option.some Jvm.ClassFile.FieldType.boolean)) ∈ lw_all := lw_g (lw_at lw_m8 165 rfl) rfl
theorem q1967 : (Jvm.Cond.methodLink "BasicMachineModel" (156 : Nat) ({ cls := "BasicMachineModel", name := "look", desc := "()I" } : Jvm.MethodName)) ∈ lw_all := lw_g (lw_at lw_m8 166 rfl) rfl
theorem q1968 : (Jvm.Cond.privateMethod ({ cls := "BasicMachineModel", name := "look", desc := "()I" } : Jvm.MethodName)) ∈ lw_tbl := lw_at lw_m8 167 rfl
theorem q1969 : (Jvm.Cond.instanceMethod ({ cls := "BasicMachineModel", name := "look", desc := "()I" } : Jvm.MethodName)) ∈ lw_all := lw_g (lw_at lw_m8 168 rfl) rfl
theorem q1970 : (Jvm.Cond.code ({ cls := "BasicMachineModel", name := "look", desc := "()I" } : Jvm.MethodName) prog_32_method_6_code (1 : Nat) (Option.some Jvm.ClassFile.FieldType.int)) ∈ lw_all := lw_g (lw_at lw_m8 169 rfl) rfl
theorem q1971 : (Jvm.Cond.methodLink "BasicMachineModel" (326 : Nat) ({ cls := "BasicMachineModel", name := "statement", desc := "()V" } : Jvm.MethodName)) ∈ lw_all := lw_g (lw_at lw_m8 170 rfl) rfl
theorem q1972 : (Jvm.Cond.privateMethod ({ cls := "BasicMachineModel", name := "statement", desc := "()V" } : Jvm.MethodName)) ∈ lw_tbl := lw_at lw_m8 171 rfl
theorem q1973 : (Jvm.Cond.instanceMethod ({ cls := "BasicMachineModel", name := "statement", desc := "()V" } : Jvm.MethodName)) ∈ lw_all := lw_g (lw_at lw_m8 172 rfl) rfl
theorem q1974 : (Jvm.Cond.code ({ cls := "BasicMachineModel", name := "statement", desc := "()V" } : Jvm.MethodName) prog_32_method_40_code (2 : Nat) (Option.none : Option Jvm.ClassFile.FieldType)) ∈ lw_all := lw_g (lw_at lw_m8 173 rfl) rfl
theorem q1975 : (Jvm.Cond.methodLink "BasicMachineModel" (257 : Nat) ({ cls := "BasicMachineModel", name := "takeWord", desc := "(II)I" } : Jvm.MethodName)) ∈ lw_all := lw_g (lw_at lw_m8 174 rfl) rfl
theorem q1976 : (Jvm.Cond.privateMethod ({ cls := "BasicMachineModel", name := "takeWord", desc := "(II)I" } : Jvm.MethodName)) ∈ lw_tbl := lw_at lw_m8 175 rfl
theorem q1977 : (Jvm.Cond.instanceMethod ({ cls := "BasicMachineModel", name := "takeWord", desc := "(II)I" } : Jvm.MethodName)) ∈ lw_all := lw_g (lw_at lw_m8 176 rfl) rfl
theorem q1978 : (Jvm.Cond.code ({ cls := "BasicMachineModel", name := "takeWord", desc := "(II)I" } : Jvm.MethodName) prog_32_method_14_code (6 : Nat) (Option.some Jvm.ClassFile.FieldType.int)) ∈ lw_all := lw_g (lw_at lw_m8 177 rfl) rfl
theorem q1979 : (Jvm.Cond.methodLink "BasicMachineModel" (233 : Nat) ({ cls := "BasicMachineModel", name := "begins", desc := "(II)Z" } : Jvm.MethodName)) ∈ lw_all := lw_g (lw_at lw_m8 178 rfl) rfl
theorem q1980 : (Jvm.Cond.privateMethod ({ cls := "BasicMachineModel", name := "begins", desc := "(II)Z" } : Jvm.MethodName)) ∈ lw_tbl := lw_at lw_m8 179 rfl
theorem q1981 : (Jvm.Cond.instanceMethod ({ cls := "BasicMachineModel", name := "begins", desc := "(II)Z" } : Jvm.MethodName)) ∈ lw_all := lw_g (lw_at lw_m8 180 rfl) rfl
theorem q1982 : (Jvm.Cond.code ({ cls := "BasicMachineModel", name := "begins", desc := "(II)Z" } : Jvm.MethodName) prog_32_method_13_code (7 : Nat) (Option.some Jvm.ClassFile.FieldType.boolean)) ∈ lw_all := lw_g (lw_at lw_m8 181 rfl) rfl
theorem q1983 : (Jvm.Cond.methodLink "BasicMachineModel" (220 : Nat) ({ cls := "BasicMachineModel", name := "word", desc := "(I)J" } : Jvm.MethodName)) ∈ lw_all := lw_g (lw_at lw_m8 182 rfl) rfl
theorem q1984 : (Jvm.Cond.privateMethod ({ cls := "BasicMachineModel", name := "word", desc := "(I)J" } : Jvm.MethodName)) ∈ lw_tbl := lw_at lw_m8 183 rfl
theorem q1985 : (Jvm.Cond.instanceMethod ({ cls := "BasicMachineModel", name := "word", desc := "(I)J" } : Jvm.MethodName)) ∈ lw_all := lw_g (lw_at lw_m8 184 rfl) rfl
theorem q1986 : (Jvm.Cond.code ({ cls := "BasicMachineModel", name := "word", desc := "(I)J" } : Jvm.MethodName) prog_32_method_11_code (2 : Nat) (Option.some Jvm.ClassFile.FieldType.long)) ∈ lw_all := lw_g (lw_at lw_m8 185 rfl) rfl
theorem q1987 : (Jvm.Cond.constantLong "BasicMachineModel" (164 : Nat) (4998484 : Int64)) ∈ lw_all := lw_g (lw_at lw_m8 186 rfl) rfl
theorem q1988 : (Jvm.Cond.constantLong "BasicMachineModel" (166 : Nat) (344977919572 : Int64)) ∈ lw_all := lw_g (lw_at lw_m8 187 rfl) rfl
theorem q1989 : (Jvm.Cond.constantLong "BasicMachineModel" (168 : Nat) (18758 : Int64)) ∈ lw_all := lw_g (lw_at lw_m8 188 rfl) rfl
theorem q1990 : (Jvm.Cond.constantLong "BasicMachineModel" (170 : Nat) (1196381263 : Int64)) ∈ lw_all := lw_g (lw_at lw_m8 189 rfl) rfl
theorem q1991 : (Jvm.Cond.constantLong "BasicMachineModel" (172 : Nat) (20302 : Int64)) ∈ lw_all := lw_g (lw_at lw_m8 190 rfl) rfl
theorem q1992 : (Jvm.Cond.constantLong "BasicMachineModel" (174 : Nat) (306273539394 : Int64)) ∈ lw_all := lw_g (lw_at lw_m8 191 rfl) rfl
theorem q1993 : (Jvm.Cond.constantLong "BasicMachineModel" (176 : Nat) (90457721098830 : Int64)) ∈ lw_all := lw_g (lw_at lw_m8 192 rfl) rfl
theorem q1994 : (Jvm.Cond.constantLong "BasicMachineModel" (178 : Nat) (4607826 : Int64)) ∈ lw_all := lw_g (lw_at lw_m8 193 rfl) rfl
theorem q1995 : (Jvm.Cond.constantLong "BasicMachineModel" (180 : Nat) (1313167444 : Int64)) ∈ lw_all := lw_g (lw_at lw_m8 194 rfl) rfl
theorem q1996 : (Jvm.Cond.constantLong "BasicMachineModel" (182 : Nat) (1380270404 : Int64)) ∈ lw_all := lw_g (lw_at lw_m8 195 rfl) rfl
theorem q1997 : (Jvm.Cond.constantLong "BasicMachineModel" (184 : Nat) (1145132097 : Int64)) ∈ lw_all := lw_g (lw_at lw_m8 196 rfl) rfl
theorem q1998 : (Jvm.Cond.constantLong "BasicMachineModel" (186 : Nat) (23157172289360453 : Int64)) ∈ lw_all := lw_g (lw_at lw_m8 197 rfl) rfl
theorem q1999 : (Jvm.Cond.constantLong "BasicMachineModel" (188 : Nat) (4475213 : Int64)) ∈ lw_all := lw_g (lw_at lw_m8 198 rfl) rfl
theorem q2000 : (Jvm.Cond.constantLong "BasicMachineModel" (190 : Nat) (4474182 : Int64)) ∈ lw_all := lw_g (lw_at lw_m8 199 rfl) rfl
theorem q2001 : (Jvm.Cond.constantLong "BasicMachineModel" (192 : Nat) (5062996 : Int64)) ∈ lw_all := lw_g (lw_at lw_m8 200 rfl) rfl
theorem q2002 : (Jvm.Cond.constantLong "BasicMachineModel" (194 : Nat) (5391693 : Int64)) ∈ lw_all := lw_g (lw_at lw_m8 201 rfl) rfl
theorem q2003 : (Jvm.Cond.constantLong "BasicMachineModel" (196 : Nat) (4542020 : Int64)) ∈ lw_all := lw_g (lw_at lw_m8 202 rfl) rfl
theorem q2004 : (Jvm.Cond.constantLong "BasicMachineModel" (198 : Nat) (1414022478 : Int64)) ∈ lw_all := lw_g (lw_at lw_m8 203 rfl) rfl
theorem q2005 : (Jvm.Cond.constantLong "BasicMachineModel" (200 : Nat) (21583 : Int64)) ∈ lw_all := lw_g (lw_at lw_m8 204 rfl) rfl
theorem q2006 : (Jvm.Cond.constantLong "BasicMachineModel" (202 : Nat) (1398031696 : Int64)) ∈ lw_all := lw_g (lw_at lw_m8 205 rfl) rfl
theorem q2007 : (Jvm.Cond.constantLong "BasicMachineModel" (204 : Nat) (5915986 : Int64)) ∈ lw_all := lw_g (lw_at lw_m8 206 rfl) rfl
theorem q2008 : (Jvm.Cond.constantLong "BasicMachineModel" (206 : Nat) (4411214 : Int64)) ∈ lw_all := lw_g (lw_at lw_m8 207 rfl) rfl
theorem q2009 : (Jvm.Cond.constantLong "BasicMachineModel" (208 : Nat) (4801614 : Int64)) ∈ lw_all := lw_g (lw_at lw_m8 208 rfl) rfl
theorem q2010 : (Jvm.Cond.constantLong "BasicMachineModel" (210 : Nat) (5526094 : Int64)) ∈ lw_all := lw_g (lw_at lw_m8 209 rfl) rfl
theorem q2011 : (Jvm.Cond.constantLong "BasicMachineModel" (212 : Nat) (4276819 : Int64)) ∈ lw_all := lw_g (lw_at lw_m8 210 rfl) rfl
theorem q2012 : (Jvm.Cond.constantLong "BasicMachineModel" (214 : Nat) (4804180 : Int64)) ∈ lw_all := lw_g (lw_at lw_m8 211 rfl) rfl
theorem q2013 : (Jvm.Cond.constantLong "BasicMachineModel" (216 : Nat) (5457742 : Int64)) ∈ lw_all := lw_g (lw_at lw_m8 212 rfl) rfl
theorem q2014 : (Jvm.Cond.constantLong "BasicMachineModel" (218 : Nat) (17998 : Int64)) ∈ lw_all := lw_g (lw_at lw_m8 213 rfl) rfl
theorem q2015 : (Jvm.Cond.methodLink "BasicMachineModel" (224 : Nat) ({ cls := "BasicMachineModel", name := "letters", desc := "(J)I" } : Jvm.MethodName)) ∈ lw_all := lw_g (lw_at lw_m8 214 rfl) rfl
theorem q2016 : (Jvm.Cond.privateMethod ({ cls := "BasicMachineModel", name := "letters", desc := "(J)I" } : Jvm.MethodName)) ∈ lw_tbl := lw_at lw_m8 215 rfl
theorem q2017 : (Jvm.Cond.instanceMethod ({ cls := "BasicMachineModel", name := "letters", desc := "(J)I" } : Jvm.MethodName)) ∈ lw_all := lw_g (lw_at lw_m8 216 rfl) rfl
theorem q2018 : (Jvm.Cond.code ({ cls := "BasicMachineModel", name := "letters", desc := "(J)I" } : Jvm.MethodName) prog_32_method_12_code (6 : Nat) (Option.some Jvm.ClassFile.FieldType.int)) ∈ lw_all := lw_g (lw_at lw_m8 217 rfl) rfl
theorem q2019 : (Jvm.Cond.constantLong "BasicMachineModel" (228 : Nat) (255 : Int64)) ∈ lw_all := lw_g (lw_at lw_m8 218 rfl) rfl
theorem q2020 : (Jvm.Cond.methodLink "BasicMachineModel" (230 : Nat) ({ cls := "BasicMachineModel", name := "lookAt", desc := "(I)I" } : Jvm.MethodName)) ∈ lw_all := lw_g (lw_at lw_m8 219 rfl) rfl
theorem q2021 : (Jvm.Cond.privateMethod ({ cls := "BasicMachineModel", name := "lookAt", desc := "(I)I" } : Jvm.MethodName)) ∈ lw_tbl := lw_at lw_m8 220 rfl
theorem q2022 : (Jvm.Cond.instanceMethod ({ cls := "BasicMachineModel", name := "lookAt", desc := "(I)I" } : Jvm.MethodName)) ∈ lw_all := lw_g (lw_at lw_m8 221 rfl) rfl
theorem q2023 : (Jvm.Cond.code ({ cls := "BasicMachineModel", name := "lookAt", desc := "(I)I" } : Jvm.MethodName) prog_32_method_7_code (2 : Nat) (Option.some Jvm.ClassFile.FieldType.int)) ∈ lw_all := lw_g (lw_at lw_m8 222 rfl) rfl
theorem q2024 : (Jvm.Cond.methodLink "BasicMachineModel" (302 : Nat) ({ cls := "BasicMachineModel", name := "target", desc := "()V" } : Jvm.MethodName)) ∈ lw_all := lw_g (lw_at lw_m8 223 rfl) rfl
theorem q2025 : (Jvm.Cond.privateMethod ({ cls := "BasicMachineModel", name := "target", desc := "()V" } : Jvm.MethodName)) ∈ lw_tbl := lw_at lw_m8 224 rfl
theorem q2026 : (Jvm.Cond.instanceMethod ({ cls := "BasicMachineModel", name := "target", desc := "()V" } : Jvm.MethodName)) ∈ lw_all := lw_g (lw_at lw_m8 225 rfl) rfl
theorem q2027 : (Jvm.Cond.code ({ cls := "BasicMachineModel", name := "target", desc := "()V" } : Jvm.MethodName) prog_32_method_31_code (1 : Nat) (Option.none : Option Jvm.ClassFile.FieldType)) ∈ lw_all := lw_g (lw_at lw_m8 226 rfl) rfl
theorem q2028 : (Jvm.Cond.methodLink "BasicMachineModel" (241 : Nat) ({ cls := "BasicMachineModel", name := "isMatrix", desc := "(I)Z" } : Jvm.MethodName)) ∈ lw_all := lw_g (lw_at lw_m8 227 rfl) rfl
theorem q2029 : (Jvm.Cond.privateMethod ({ cls := "BasicMachineModel", name := "isMatrix", desc := "(I)Z" } : Jvm.MethodName)) ∈ lw_tbl := lw_at lw_m8 228 rfl
theorem q2030 : (Jvm.Cond.instanceMethod ({ cls := "BasicMachineModel", name := "isMatrix", desc := "(I)Z" } : Jvm.MethodName)) ∈ lw_all := lw_g (lw_at lw_m8 229 rfl) rfl
theorem q2031 : (Jvm.Cond.code ({ cls := "BasicMachineModel", name := "isMatrix", desc := "(I)Z" } : Jvm.MethodName) prog_32_method_17_code (2 : Nat) (Option.some Jvm.ClassFile.FieldType.boolean)) ∈ lw_all := lw_g (lw_at lw_m8 230 rfl) rfl
theorem q2032 : (Jvm.Cond.methodLink "BasicMachineModel" (261 : Nat) ({ cls := "BasicMachineModel", name := "variable", desc := "()I" } : Jvm.MethodName)) ∈ lw_all := lw_g (lw_at lw_m8 231 rfl) rfl
theorem q2033 : (Jvm.Cond.privateMethod ({ cls := "BasicMachineModel", name := "variable", desc := "()I" } : Jvm.MethodName)) ∈ lw_tbl := lw_at lw_m8 232 rfl
theorem q2034 : (Jvm.Cond.instanceMethod ({ cls := "BasicMachineModel", name := "variable", desc := "()I" } : Jvm.MethodName)) ∈ lw_all := lw_g (lw_at lw_m8 233 rfl) rfl
theorem q2035 : (Jvm.Cond.code ({ cls := "BasicMachineModel", name := "variable", desc := "()I" } : Jvm.MethodName) prog_32_method_18_code (2 : Nat) (Option.some Jvm.ClassFile.FieldType.int)) ∈ lw_all := lw_g (lw_at lw_m8 234 rfl) rfl
theorem q2036 : (Jvm.Cond.methodLink "BasicMachineModel" (279 : Nat) ({ cls := "BasicMachineModel", name := "setArg", desc := "(II)V" } : Jvm.MethodName)) ∈ lw_all := lw_g (lw_at lw_m8 235 rfl) rfl
theorem q2037 : (Jvm.Cond.privateMethod ({ cls := "BasicMachineModel", name := "setArg", desc := "(II)V" } : Jvm.MethodName)) ∈ lw_tbl := lw_at lw_m8 236 rfl
theorem q2038 : (Jvm.Cond.instanceMethod ({ cls := "BasicMachineModel", name := "setArg", desc := "(II)V" } : Jvm.MethodName)) ∈ lw_all := lw_g (lw_at lw_m8 237 rfl) rfl
theorem q2039 : (Jvm.Cond.code ({ cls := "BasicMachineModel", name := "setArg", desc := "(II)V" } : Jvm.MethodName) prog_32_method_29_code (3 : Nat) (Option.none : Option Jvm.ClassFile.FieldType)) ∈ lw_all := lw_g (lw_at lw_m8 238 rfl) rfl
theorem q2040 : (Jvm.Cond.methodLink "BasicMachineModel" (283 : Nat) ({ cls := "BasicMachineModel", name := "matrix", desc := "()I" } : Jvm.MethodName)) ∈ lw_all := lw_g (lw_at lw_m8 239 rfl) rfl
theorem q2041 : (Jvm.Cond.privateMethod ({ cls := "BasicMachineModel", name := "matrix", desc := "()I" } : Jvm.MethodName)) ∈ lw_tbl := lw_at lw_m9 0 rfl
theorem q2042 : (Jvm.Cond.instanceMethod ({ cls := "BasicMachineModel", name := "matrix", desc := "()I" } : Jvm.MethodName)) ∈ lw_all := lw_g (lw_at lw_m9 1 rfl) rfl
theorem q2043 : (Jvm.Cond.code ({ cls := "BasicMachineModel", name := "matrix", desc := "()I" } : Jvm.MethodName) prog_32_method_19_code (2 : Nat) (Option.some Jvm.ClassFile.FieldType.int)) ∈ lw_all := lw_g (lw_at lw_m9 2 rfl) rfl
theorem q2044 : (Jvm.Cond.methodLink "BasicMachineModel" (267 : Nat) ({ cls := "BasicMachineModel", name := "bracket", desc := "()V" } : Jvm.MethodName)) ∈ lw_all := lw_g (lw_at lw_m9 3 rfl) rfl
theorem q2045 : (Jvm.Cond.privateMethod ({ cls := "BasicMachineModel", name := "bracket", desc := "()V" } : Jvm.MethodName)) ∈ lw_tbl := lw_at lw_m9 4 rfl
theorem q2046 : (Jvm.Cond.instanceMethod ({ cls := "BasicMachineModel", name := "bracket", desc := "()V" } : Jvm.MethodName)) ∈ lw_all := lw_g (lw_at lw_m9 5 rfl) rfl
theorem q2047 : (Jvm.Cond.code ({ cls := "BasicMachineModel", name := "bracket", desc := "()V" } : Jvm.MethodName) prog_32_method_21_code (1 : Nat) (Option.none : Option Jvm.ClassFile.FieldType)) ∈ lw_all := lw_g (lw_at lw_m9 6 rfl) rfl
theorem q2048 : (Jvm.Cond.methodLink "BasicMachineModel" (248 : Nat) ({ cls := "BasicMachineModel", name := "need", desc := "(I)V" } : Jvm.MethodName)) ∈ lw_all := lw_g (lw_at lw_m9 7 rfl) rfl
theorem q2049 : (Jvm.Cond.privateMethod ({ cls := "BasicMachineModel", name := "need", desc := "(I)V" } : Jvm.MethodName)) ∈ lw_tbl := lw_at lw_m9 8 rfl
theorem q2050 : (Jvm.Cond.instanceMethod ({ cls := "BasicMachineModel", name := "need", desc := "(I)V" } : Jvm.MethodName)) ∈ lw_all := lw_g (lw_at lw_m9 9 rfl) rfl
theorem q2051 : (Jvm.Cond.code ({ cls := "BasicMachineModel", name := "need", desc := "(I)V" } : Jvm.MethodName) prog_32_method_9_code (2 : Nat) (Option.none : Option Jvm.ClassFile.FieldType)) ∈ lw_all := lw_g (lw_at lw_m9 10 rfl) rfl
theorem q2052 : (Jvm.Cond.methodLink "BasicMachineModel" (160 : Nat) ({ cls := "BasicMachineModel", name := "take", desc := "(I)Z" } : Jvm.MethodName)) ∈ lw_all := lw_g (lw_at lw_m9 11 rfl) rfl
theorem q2053 : (Jvm.Cond.privateMethod ({ cls := "BasicMachineModel", name := "take", desc := "(I)Z" } : Jvm.MethodName)) ∈ lw_tbl := lw_at lw_m9 12 rfl
theorem q2054 : (Jvm.Cond.instanceMethod ({ cls := "BasicMachineModel", name := "take", desc := "(I)Z" } : Jvm.MethodName)) ∈ lw_all := lw_g (lw_at lw_m9 13 rfl) rfl
theorem q2055 : (Jvm.Cond.code ({ cls := "BasicMachineModel", name := "take", desc := "(I)Z" } : Jvm.MethodName) prog_32_method_8_code (2 : Nat) (Option.some Jvm.ClassFile.FieldType.boolean)) ∈ lw_all := lw_g (lw_at lw_m9 14 rfl) rfl
theorem q2056 : (Jvm.Cond.methodLink "BasicMachineModel" (286 : Nat) ({ cls := "BasicMachineModel", name := "expression", desc := "(Z)I" } : Jvm.MethodName)) ∈ lw_all := lw_g (lw_at lw_m9 15 rfl) rfl
theorem q2057 : (Jvm.Cond.privateMethod ({ cls := "BasicMachineModel", name := "expression", desc := "(Z)I" } : Jvm.MethodName)) ∈ lw_tbl := lw_at lw_m9 16 rfl
theorem q2058 : (Jvm.Cond.instanceMethod ({ cls := "BasicMachineModel", name := "expression", desc := "(Z)I" } : Jvm.MethodName)) ∈ lw_all := lw_g (lw_at lw_m9 17 rfl) rfl
theorem q2059 : (Jvm.Cond.code ({ cls := "BasicMachineModel", name := "expression", desc := "(Z)I" } : Jvm.MethodName) prog_32_method_28_code (10 : Nat) (Option.some Jvm.ClassFile.FieldType.int)) ∈ lw_all := lw_g (lw_at lw_m9 18 rfl) rfl
theorem q2060 : (Jvm.Cond.methodLink "BasicMachineModel" (263 : Nat) ({ cls := "BasicMachineModel", name := "partMark", desc := "(ZZ)I" } : Jvm.MethodName)) ∈ lw_all := lw_g (lw_at lw_m9 19 rfl) rfl
theorem q2061 : (Jvm.Cond.privateMethod ({ cls := "BasicMachineModel", name := "partMark", desc := "(ZZ)I" } : Jvm.MethodName)) ∈ lw_tbl := lw_at lw_m9 20 rfl
theorem q2062 : (Jvm.Cond.instanceMethod ({ cls := "BasicMachineModel", name := "partMark", desc := "(ZZ)I" } : Jvm.MethodName)) ∈ lw_all := lw_g (lw_at lw_m9 21 rfl) rfl
theorem q2063 : (Jvm.Cond.code ({ cls := "BasicMachineModel", name := "partMark", desc := "(ZZ)I" } : Jvm.MethodName) prog_32_method_25_code (7 : Nat) (Option.some Jvm.ClassFile.FieldType.int)) ∈ lw_all := lw_g (lw_at lw_m9 22 rfl) rfl
theorem q2064 : (Jvm.Cond.methodLink "BasicMachineModel" (254 : Nat) ({ cls := "BasicMachineModel", name := "numeral", desc := "()V" } : Jvm.MethodName)) ∈ lw_all := lw_g (lw_at lw_m9 23 rfl) rfl
theorem q2065 : (Jvm.Cond.privateMethod ({ cls := "BasicMachineModel", name := "numeral", desc := "()V" } : Jvm.MethodName)) ∈ lw_tbl := lw_at lw_m9 24 rfl
theorem q2066 : (Jvm.Cond.instanceMethod ({ cls := "BasicMachineModel", name := "numeral", desc := "()V" } : Jvm.MethodName)) ∈ lw_all := lw_g (lw_at lw_m9 25 rfl) rfl
theorem q2067 : (Jvm.Cond.code ({ cls := "BasicMachineModel", name := "numeral", desc := "()V" } : Jvm.MethodName) prog_32_method_20_code (4 : Nat) (Option.none : Option Jvm.ClassFile.FieldType)) ∈ lw_all := lw_g (lw_at lw_m9 26 rfl) rfl
theorem q2068 : (Jvm.Cond.methodLink "BasicMachineModel" (244 : Nat) ({ cls := "BasicMachineModel", name := "make", desc := "(I)V" } : Jvm.MethodName)) ∈ lw_all := lw_g (lw_at lw_m9 27 rfl) rfl
theorem q2069 : (Jvm.Cond.privateMethod ({ cls := "BasicMachineModel", name := "make", desc := "(I)V" } : Jvm.MethodName)) ∈ lw_tbl := lw_at lw_m9 28 rfl
theorem q2070 : (Jvm.Cond.instanceMethod ({ cls := "BasicMachineModel", name := "make", desc := "(I)V" } : Jvm.MethodName)) ∈ lw_all := lw_g (lw_at lw_m9 29 rfl) rfl
theorem q2071 : (Jvm.Cond.code ({ cls := "BasicMachineModel", name := "make", desc := "(I)V" } : Jvm.MethodName) prog_32_method_16_code (2 : Nat) (Option.none : Option Jvm.ClassFile.FieldType)) ∈ lw_all := lw_g (lw_at lw_m9 30 rfl) rfl
theorem q2072 : (Jvm.Cond.methodLink "BasicMachineModel" (270 : Nat) ({ cls := "BasicMachineModel", name := "operator", desc := "(I)I" } : Jvm.MethodName)) ∈ lw_all := lw_g (lw_at lw_m9 31 rfl) rfl
theorem q2073 : (Jvm.Cond.privateMethod ({ cls := "BasicMachineModel", name := "operator", desc := "(I)I" } : Jvm.MethodName)) ∈ lw_tbl := lw_at lw_m9 32 rfl
theorem q2074 : (Jvm.Cond.instanceMethod ({ cls := "BasicMachineModel", name := "operator", desc := "(I)I" } : Jvm.MethodName)) ∈ lw_all := lw_g (lw_at lw_m9 33 rfl) rfl
theorem q2075 : (Jvm.Cond.code ({ cls := "BasicMachineModel", name := "operator", desc := "(I)I" } : Jvm.MethodName) prog_32_method_27_code (2 : Nat) (Option.some Jvm.ClassFile.FieldType.int)) ∈ lw_all := lw_g (lw_at lw_m9 34 rfl) rfl
theorem q2076 : (Jvm.Cond.methodLink "BasicMachineModel" (251 : Nat) ({ cls := "BasicMachineModel", name := "rank", desc := "(I)I" } : Jvm.MethodName)) ∈ lw_all := lw_g (lw_at lw_m9 35 rfl) rfl
theorem q2077 : (Jvm.Cond.privateMethod ({ cls := "BasicMachineModel", name := "rank", desc := "(I)I" } : Jvm.MethodName)) ∈ lw_tbl := lw_at lw_m9 36 rfl
theorem q2078 : (Jvm.Cond.instanceMethod ({ cls := "BasicMachineModel", name := "rank", desc := "(I)I" } : Jvm.MethodName)) ∈ lw_all := lw_g (lw_at lw_m9 37 rfl) rfl
theorem q2079 : (Jvm.Cond.code ({ cls := "BasicMachineModel", name := "rank", desc := "(I)I" } : Jvm.MethodName) prog_32_method_23_code (2 : Nat) (Option.some Jvm.ClassFile.FieldType.int)) ∈ lw_all := lw_g (lw_at lw_m9 38 rfl) rfl
theorem q2080 : (Jvm.Cond.methodLink "BasicMachineModel" (273 : Nat) ({ cls := "BasicMachineModel", name := "settle", desc := "(II)I" } : Jvm.MethodName)) ∈ lw_all := lw_g (lw_at lw_m9 39 rfl) rfl
theorem q2081 : (Jvm.Cond.privateMethod ({ cls := "BasicMachineModel", name := "settle", desc := "(II)I" } : Jvm.MethodName)) ∈ lw_tbl := lw_at lw_m9 40 rfl
theorem q2082 : (Jvm.Cond.instanceMethod ({ cls := "BasicMachineModel", name := "settle", desc := "(II)I" } : Jvm.MethodName)) ∈ lw_all := lw_g (lw_at lw_m9 41 rfl) rfl
theorem q2083 : (Jvm.Cond.code ({ cls := "BasicMachineModel", name := "settle", desc := "(II)I" } : Jvm.MethodName) prog_32_method_24_code (4 : Nat) (Option.some Jvm.ClassFile.FieldType.int)) ∈ lw_all := lw_g (lw_at lw_m9 42 rfl) rfl
theorem q2084 : (Jvm.Cond.methodLink "BasicMachineModel" (276 : Nat) ({ cls := "BasicMachineModel", name := "closeMark", desc := "(I)V" } : Jvm.MethodName)) ∈ lw_all := lw_g (lw_at lw_m9 43 rfl) rfl
theorem q2085 : (Jvm.Cond.privateMethod ({ cls := "BasicMachineModel", name := "closeMark", desc := "(I)V" } : Jvm.MethodName)) ∈ lw_tbl := lw_at lw_m9 44 rfl
theorem q2086 : (Jvm.Cond.instanceMethod ({ cls := "BasicMachineModel", name := "closeMark", desc := "(I)V" } : Jvm.MethodName)) ∈ lw_all := lw_g (lw_at lw_m9 45 rfl) rfl
theorem q2087 : (Jvm.Cond.code ({ cls := "BasicMachineModel", name := "closeMark", desc := "(I)V" } : Jvm.MethodName) prog_32_method_26_code (2 : Nat) (Option.none : Option Jvm.ClassFile.FieldType)) ∈ lw_all := lw_g (lw_at lw_m9 46 rfl) rfl
theorem q2088 : (Jvm.Cond.methodLink "BasicMachineModel" (290 : Nat) ({ cls := "BasicMachineModel", name := "setExpr", desc := "(II)V" } : Jvm.MethodName)) ∈ lw_all := lw_g (lw_at lw_m9 47 rfl) rfl
theorem q2089 : (Jvm.Cond.privateMethod ({ cls := "BasicMachineModel", name := "setExpr", desc := "(II)V" } : Jvm.MethodName)) ∈ lw_tbl := lw_at lw_m9 48 rfl
theorem q2090 : (Jvm.Cond.instanceMethod ({ cls := "BasicMachineModel", name := "setExpr", desc := "(II)V" } : Jvm.MethodName)) ∈ lw_all := lw_g (lw_at lw_m9 49 rfl) rfl
theorem q2091 : (Jvm.Cond.code ({ cls := "BasicMachineModel", name := "setExpr", desc := "(II)V" } : Jvm.MethodName) prog_32_method_30_code (3 : Nat) (Option.none : Option Jvm.ClassFile.FieldType)) ∈ lw_all := lw_g (lw_at lw_m9 50 rfl) rfl
theorem q2092 : (Jvm.Cond.methodLink "BasicMachineModel" (293 : Nat) ({ cls := "BasicMachineModel", name := "shut", desc := "()V" } : Jvm.MethodName)) ∈ lw_all := lw_g (lw_at lw_m9 51 rfl) rfl
theorem q2093 : (Jvm.Cond.privateMethod ({ cls := "BasicMachineModel", name := "shut", desc := "()V" } : Jvm.MethodName)) ∈ lw_tbl := lw_at lw_m9 52 rfl
theorem q2094 : (Jvm.Cond.instanceMethod ({ cls := "BasicMachineModel", name := "shut", desc := "()V" } : Jvm.MethodName)) ∈ lw_all := lw_g (lw_at lw_m9 53 rfl) rfl
theorem q2095 : (Jvm.Cond.code ({ cls := "BasicMachineModel", name := "shut", desc := "()V" } : Jvm.MethodName) prog_32_method_22_code (1 : Nat) (Option.none : Option Jvm.ClassFile.FieldType)) ∈ lw_all := lw_g (lw_at lw_m9 54 rfl) rfl
theorem q2096 : (Jvm.Cond.methodLink "BasicMachineModel" (305 : Nat) ({ cls := "BasicMachineModel", name := "condition", desc := "()V" } : Jvm.MethodName)) ∈ lw_all := lw_g (lw_at lw_m9 55 rfl) rfl
theorem q2097 : (Jvm.Cond.privateMethod ({ cls := "BasicMachineModel", name := "condition", desc := "()V" } : Jvm.MethodName)) ∈ lw_tbl := lw_at lw_m9 56 rfl
theorem q2098 : (Jvm.Cond.instanceMethod ({ cls := "BasicMachineModel", name := "condition", desc := "()V" } : Jvm.MethodName)) ∈ lw_all := lw_g (lw_at lw_m9 57 rfl) rfl
theorem q2099 : (Jvm.Cond.code ({ cls := "BasicMachineModel", name := "condition", desc := "()V" } : Jvm.MethodName) prog_32_method_32_code (2 : Nat) (Option.none : Option Jvm.ClassFile.FieldType)) ∈ lw_all := lw_g (lw_at lw_m9 58 rfl) rfl
theorem q2100 : (Jvm.Cond.methodLink "BasicMachineModel" (308 : Nat) ({ cls := "BasicMachineModel", name := "choice", desc := "()V" } : Jvm.MethodName)) ∈ lw_all := lw_g (lw_at lw_m9 59 rfl) rfl
theorem q2101 : (Jvm.Cond.privateMethod ({ cls := "BasicMachineModel", name := "choice", desc := "()V" } : Jvm.MethodName)) ∈ lw_tbl := lw_at lw_m9 60 rfl
theorem q2102 : (Jvm.Cond.instanceMethod ({ cls := "BasicMachineModel", name := "choice", desc := "()V" } : Jvm.MethodName)) ∈ lw_all := lw_g (lw_at lw_m9 61 rfl) rfl
theorem q2103 : (Jvm.Cond.code ({ cls := "BasicMachineModel", name := "choice", desc := "()V" } : Jvm.MethodName) prog_32_method_33_code (2 : Nat) (Option.none : Option Jvm.ClassFile.FieldType)) ∈ lw_all := lw_g (lw_at lw_m9 62 rfl) rfl
theorem q2104 : (Jvm.Cond.methodLink "BasicMachineModel" (311 : Nat) ({ cls := "BasicMachineModel", name := "loop", desc := "()V" } : Jvm.MethodName)) ∈ lw_all := lw_g (lw_at lw_m9 63 rfl) rfl
theorem q2105 : (Jvm.Cond.privateMethod ({ cls := "BasicMachineModel", name := "loop", desc := "()V" } : Jvm.MethodName)) ∈ lw_tbl := lw_at lw_m9 64 rfl
theorem q2106 : (Jvm.Cond.instanceMethod ({ cls := "BasicMachineModel", name := "loop", desc := "()V" } : Jvm.MethodName)) ∈ lw_all := lw_g (lw_at lw_m9 65 rfl) rfl
theorem q2107 : (Jvm.Cond.code ({ cls := "BasicMachineModel", name := "loop", desc := "()V" } : Jvm.MethodName) prog_32_method_34_code (1 : Nat) (Option.none : Option Jvm.ClassFile.FieldType)) ∈ lw_all := lw_g (lw_at lw_m9 66 rfl) rfl
theorem q2108 : (Jvm.Cond.methodLink "BasicMachineModel" (314 : Nat) ({ cls := "BasicMachineModel", name := "numbers", desc := "()V" } : Jvm.MethodName)) ∈ lw_all := lw_g (lw_at lw_m9 67 rfl) rfl
theorem q2109 : (Jvm.Cond.privateMethod ({ cls := "BasicMachineModel", name := "numbers", desc := "()V" } : Jvm.MethodName)) ∈ lw_tbl := lw_at lw_m9 68 rfl
theorem q2110 : (Jvm.Cond.instanceMethod ({ cls := "BasicMachineModel", name := "numbers", desc := "()V" } : Jvm.MethodName)) ∈ lw_all := lw_g (lw_at lw_m9 69 rfl) rfl
theorem q2111 : (Jvm.Cond.code ({ cls := "BasicMachineModel", name := "numbers", desc := "()V" } : Jvm.MethodName) prog_32_method_35_code (2 : Nat) (Option.none : Option Jvm.ClassFile.FieldType)) ∈ lw_all := lw_g (lw_at lw_m9 70 rfl) rfl
theorem q2112 : (Jvm.Cond.methodLink "BasicMachineModel" (317 : Nat) ({ cls := "BasicMachineModel", name := "dim", desc := "()V" } : Jvm.MethodName)) ∈ lw_all := lw_g (lw_at lw_m9 71 rfl) rfl
theorem q2113 : (Jvm.Cond.privateMethod ({ cls := "BasicMachineModel", name := "dim", desc := "()V" } : Jvm.MethodName)) ∈ lw_tbl := lw_at lw_m9 72 rfl
theorem q2114 : (Jvm.Cond.instanceMethod ({ cls := "BasicMachineModel", name := "dim", desc := "()V" } : Jvm.MethodName)) ∈ lw_all := lw_g (lw_at lw_m9 73 rfl) rfl
theorem q2115 : (Jvm.Cond.code ({ cls := "BasicMachineModel", name := "dim", desc := "()V" } : Jvm.MethodName) prog_32_method_37_code (1 : Nat) (Option.none : Option Jvm.ClassFile.FieldType)) ∈ lw_all := lw_g (lw_at lw_m9 74 rfl) rfl
theorem q2116 : (Jvm.Cond.methodLink "BasicMachineModel" (299 : Nat) ({ cls := "BasicMachineModel", name := "oneToSix", desc := "()I" } : Jvm.MethodName)) ∈ lw_all := lw_g (lw_at lw_m9 75 rfl) rfl
theorem q2117 : (Jvm.Cond.privateMethod ({ cls := "BasicMachineModel", name := "oneToSix", desc := "()I" } : Jvm.MethodName)) ∈ lw_tbl := lw_at lw_m9 76 rfl
theorem q2118 : (Jvm.Cond.instanceMethod ({ cls := "BasicMachineModel", name := "oneToSix", desc := "()I" } : Jvm.MethodName)) ∈ lw_all := lw_g (lw_at lw_m9 77 rfl) rfl
theorem q2119 : (Jvm.Cond.code ({ cls := "BasicMachineModel", name := "oneToSix", desc := "()I" } : Jvm.MethodName) prog_32_method_36_code (2 : Nat) (Option.some Jvm.ClassFile.FieldType.int)) ∈ lw_all := lw_g (lw_at lw_m9 78 rfl) rfl
theorem q2120 : (Jvm.Cond.methodLink "BasicMachineModel" (320 : Nat) ({ cls := "BasicMachineModel", name := "def", desc := "()V" } : Jvm.MethodName)) ∈ lw_all := lw_g (lw_at lw_m9 79 rfl) rfl
theorem q2121 : (Jvm.Cond.privateMethod ({ cls := "BasicMachineModel", name := "def", desc := "()V" } : Jvm.MethodName)) ∈ lw_tbl := lw_at lw_m9 80 rfl
theorem q2122 : (Jvm.Cond.instanceMethod ({ cls := "BasicMachineModel", name := "def", desc := "()V" } : Jvm.MethodName)) ∈ lw_all := lw_g (lw_at lw_m9 81 rfl) rfl
theorem q2123 : (Jvm.Cond.code ({ cls := "BasicMachineModel", name := "def", desc := "()V" } : Jvm.MethodName) prog_32_method_38_code (2 : Nat) (Option.none : Option Jvm.ClassFile.FieldType)) ∈ lw_all := lw_g (lw_at lw_m9 82 rfl) rfl
theorem q2124 : (Jvm.Cond.methodLink "BasicMachineModel" (323 : Nat) ({ cls := "BasicMachineModel", name := "mat", desc := "()V" } : Jvm.MethodName)) ∈ lw_all := lw_g (lw_at lw_m9 83 rfl) rfl
theorem q2125 : (Jvm.Cond.privateMethod ({ cls := "BasicMachineModel", name := "mat", desc := "()V" } : Jvm.MethodName)) ∈ lw_tbl := lw_at lw_m9 84 rfl
theorem q2126 : (Jvm.Cond.instanceMethod ({ cls := "BasicMachineModel", name := "mat", desc := "()V" } : Jvm.MethodName)) ∈ lw_all := lw_g (lw_at lw_m9 85 rfl) rfl
theorem q2127 : (Jvm.Cond.code ({ cls := "BasicMachineModel", name := "mat", desc := "()V" } : Jvm.MethodName) prog_32_method_39_code (2 : Nat) (Option.none : Option Jvm.ClassFile.FieldType)) ∈ lw_all := lw_g (lw_at lw_m9 86 rfl) rfl
theorem q2128 : (Jvm.Cond.methodLink "BasicMachineModel" (329 : Nat) ({ cls := "BasicMachineModel", name := "slotOf", desc := "(I)I" } : Jvm.MethodName)) ∈ lw_all := lw_g (lw_at lw_m9 87 rfl) rfl
theorem q2129 : (Jvm.Cond.privateMethod ({ cls := "BasicMachineModel", name := "slotOf", desc := "(I)I" } : Jvm.MethodName)) ∈ lw_tbl := lw_at lw_m9 88 rfl
theorem q2130 : (Jvm.Cond.instanceMethod ({ cls := "BasicMachineModel", name := "slotOf", desc := "(I)I" } : Jvm.MethodName)) ∈ lw_all := lw_g (lw_at lw_m9 89 rfl) rfl
theorem q2131 : (Jvm.Cond.code ({ cls := "BasicMachineModel", name := "slotOf", desc := "(I)I" } : Jvm.MethodName) prog_32_method_41_code (3 : Nat) (Option.some Jvm.ClassFile.FieldType.int)) ∈ lw_all := lw_g (lw_at lw_m9 90 rfl) rfl
theorem q2132 : (Jvm.Cond.methodLink "BasicMachineModel" (332 : Nat) ({ cls := "BasicMachineModel", name := "lines", desc := "()I" } : Jvm.MethodName)) ∈ lw_all := lw_g (lw_at lw_m9 91 rfl) rfl
theorem q2133 : (Jvm.Cond.privateMethod ({ cls := "BasicMachineModel", name := "lines", desc := "()I" } : Jvm.MethodName)) ∈ lw_tbl := lw_at lw_m9 92 rfl
theorem q2134 : (Jvm.Cond.instanceMethod ({ cls := "BasicMachineModel", name := "lines", desc := "()I" } : Jvm.MethodName)) ∈ lw_all := lw_g (lw_at lw_m9 93 rfl) rfl
theorem q2135 : (Jvm.Cond.code ({ cls := "BasicMachineModel", name := "lines", desc := "()I" } : Jvm.MethodName) prog_32_method_44_code (3 : Nat) (Option.some Jvm.ClassFile.FieldType.int)) ∈ lw_all := lw_g (lw_at lw_m9 94 rfl) rfl
theorem q2136 : (Jvm.Cond.methodLink "BasicMachineModel" (335 : Nat) ({ cls := "BasicMachineModel", name := "copyTo", desc := "(I)V" } : Jvm.MethodName)) ∈ lw_all := lw_g (lw_at lw_m9 95 rfl) rfl
theorem q2137 : (Jvm.Cond.privateMethod ({ cls := "BasicMachineModel", name := "copyTo", desc := "(I)V" } : Jvm.MethodName)) ∈ lw_tbl := lw_at lw_m9 96 rfl
theorem q2138 : (Jvm.Cond.instanceMethod ({ cls := "BasicMachineModel", name := "copyTo", desc := "(I)V" } : Jvm.MethodName)) ∈ lw_all := lw_g (lw_at lw_m9 97 rfl) rfl
theorem q2139 : (Jvm.Cond.code ({ cls := "BasicMachineModel", name := "copyTo", desc := "(I)V" } : Jvm.MethodName) prog_32_method_42_code (3 : Nat) (Option.none : Option Jvm.ClassFile.FieldType)) ∈ lw_all := lw_g (lw_at lw_m9 98 rfl) rfl
theorem q2141 : (Jvm.Cond.instanceMethod ({ cls := "BasicMachineModel", name := "errorAt", desc := "()I" } : Jvm.MethodName)) ∈ lw_all := lw_g (lw_at lw_m9 100 rfl) rfl
theorem q2142 : (Jvm.Cond.selects "BasicMachineModel" ({ cls := "BasicMachineModel", name := "errorAt", desc := "()I" } : Jvm.MethodName) ({ cls := "BasicMachineModel", name := "errorAt", desc := "()I" } : Jvm.MethodName)) ∈ lw_all := lw_g (lw_at lw_m9 101 rfl) rfl
theorem q2143 : (Jvm.Cond.code ({ cls := "BasicMachineModel", name := "errorAt", desc := "()I" } : Jvm.MethodName) prog_32_method_45_code (1 : Nat) (Option.some Jvm.ClassFile.FieldType.int)) ∈ lw_all := lw_g (lw_at lw_m9 102 rfl) rfl
theorem q2145 : (Jvm.Cond.instanceMethod ({ cls := "BasicMachineModel", name := "wipe", desc := "()I" } : Jvm.MethodName)) ∈ lw_all := lw_g (lw_at lw_m9 104 rfl) rfl
theorem q2146 : (Jvm.Cond.selects "BasicMachineModel" ({ cls := "BasicMachineModel", name := "wipe", desc := "()I" } : Jvm.MethodName) ({ cls := "BasicMachineModel", name := "wipe", desc := "()I" } : Jvm.MethodName)) ∈ lw_all := lw_g (lw_at lw_m9 105 rfl) rfl
theorem q2147 : (Jvm.Cond.code ({ cls := "BasicMachineModel", name := "wipe", desc := "()I" } : Jvm.MethodName) prog_32_method_46_code (3 : Nat) (Option.some Jvm.ClassFile.FieldType.int)) ∈ lw_all := lw_g (lw_at lw_m9 106 rfl) rfl
theorem q2149 : (Jvm.Cond.instanceMethod ({ cls := "BasicMachineModel", name := "run", desc := "()I" } : Jvm.MethodName)) ∈ lw_all := lw_g (lw_at lw_m9 108 rfl) rfl
theorem q2150 : (Jvm.Cond.selects "BasicMachineModel" ({ cls := "BasicMachineModel", name := "run", desc := "()I" } : Jvm.MethodName) ({ cls := "BasicMachineModel", name := "run", desc := "()I" } : Jvm.MethodName)) ∈ lw_all := lw_g (lw_at lw_m9 109 rfl) rfl
theorem q2151 : (Jvm.Cond.code ({ cls := "BasicMachineModel", name := "run", desc := "()I" } : Jvm.MethodName) prog_32_method_75_code (2 : Nat) (Option.some Jvm.ClassFile.FieldType.int)) ∈ lw_all := lw_g (lw_at lw_m9 110 rfl) rfl
theorem q2152 : (Jvm.Cond.methodLink "BasicMachineModel" (433 : Nat) ({ cls := "BasicMachineModel", name := "dimension", desc := "(III)V" } : Jvm.MethodName)) ∈ lw_all := lw_g (lw_at lw_m9 111 rfl) rfl
theorem q2153 : (Jvm.Cond.privateMethod ({ cls := "BasicMachineModel", name := "dimension", desc := "(III)V" } : Jvm.MethodName)) ∈ lw_tbl := lw_at lw_m9 112 rfl
theorem q2154 : (Jvm.Cond.instanceMethod ({ cls := "BasicMachineModel", name := "dimension", desc := "(III)V" } : Jvm.MethodName)) ∈ lw_all := lw_g (lw_at lw_m9 113 rfl) rfl
theorem q2155 : (Jvm.Cond.code ({ cls := "BasicMachineModel", name := "dimension", desc := "(III)V" } : Jvm.MethodName) prog_32_method_73_code (5 : Nat) (Option.none : Option Jvm.ClassFile.FieldType)) ∈ lw_all := lw_g (lw_at lw_m9 114 rfl) rfl
theorem q2156 : (Jvm.Cond.methodLink "BasicMachineModel" (440 : Nat) ({ cls := "BasicMachineModel", name := "collect", desc := "()V" } : Jvm.MethodName)) ∈ lw_all := lw_g (lw_at lw_m9 115 rfl) rfl
theorem q2157 : (Jvm.Cond.privateMethod ({ cls := "BasicMachineModel", name := "collect", desc := "()V" } : Jvm.MethodName)) ∈ lw_tbl := lw_at lw_m9 116 rfl
theorem q2158 : (Jvm.Cond.instanceMethod ({ cls := "BasicMachineModel", name := "collect", desc := "()V" } : Jvm.MethodName)) ∈ lw_all := lw_g (lw_at lw_m9 117 rfl) rfl
theorem q2159 : (Jvm.Cond.code ({ cls := "BasicMachineModel", name := "collect", desc := "()V" } : Jvm.MethodName) prog_32_method_61_code (6 : Nat) (Option.none : Option Jvm.ClassFile.FieldType)) ∈ lw_all := lw_g (lw_at lw_m9 118 rfl) rfl
theorem q2160 : (Jvm.Cond.methodLink "BasicMachineModel" (389 : Nat) ({ cls := "BasicMachineModel", name := "nextSlot", desc := "(I)I" } : Jvm.MethodName)) ∈ lw_all := lw_g (lw_at lw_m9 119 rfl) rfl
theorem q2161 : (Jvm.Cond.privateMethod ({ cls := "BasicMachineModel", name := "nextSlot", desc := "(I)I" } : Jvm.MethodName)) ∈ lw_tbl := lw_at lw_m9 120 rfl
theorem q2162 : (Jvm.Cond.instanceMethod ({ cls := "BasicMachineModel", name := "nextSlot", desc := "(I)I" } : Jvm.MethodName)) ∈ lw_all := lw_g (lw_at lw_m9 121 rfl) rfl
theorem q2163 : (Jvm.Cond.code ({ cls := "BasicMachineModel", name := "nextSlot", desc := "(I)I" } : Jvm.MethodName) prog_32_method_59_code (4 : Nat) (Option.some Jvm.ClassFile.FieldType.int)) ∈ lw_all := lw_g (lw_at lw_m9 122 rfl) rfl
theorem q2164 : (Jvm.Cond.methodLink "BasicMachineModel" (364 : Nat) ({ cls := "BasicMachineModel", name := "plain", desc := "(I)D" } : Jvm.MethodName)) ∈ lw_all := lw_g (lw_at lw_m9 123 rfl) rfl
theorem q2165 : (Jvm.Cond.privateMethod ({ cls := "BasicMachineModel", name := "plain", desc := "(I)D" } : Jvm.MethodName)) ∈ lw_tbl := lw_at lw_m9 124 rfl
theorem q2166 : (Jvm.Cond.instanceMethod ({ cls := "BasicMachineModel", name := "plain", desc := "(I)D" } : Jvm.MethodName)) ∈ lw_all := lw_g (lw_at lw_m9 125 rfl) rfl
theorem q2167 : (Jvm.Cond.code ({ cls := "BasicMachineModel", name := "plain", desc := "(I)D" } : Jvm.MethodName) prog_32_method_53_code (5 : Nat) (Option.some Jvm.ClassFile.FieldType.double)) ∈ lw_all := lw_g (lw_at lw_m9 126 rfl) rfl
theorem q2168 : (Jvm.Cond.constantDouble "BasicMachineModel" (362 : Nat) (4621819117588971520 : UInt64)) ∈ lw_all := lw_g (lw_at lw_m9 127 rfl) rfl
theorem q2169 : (Jvm.Cond.methodLink "BasicMachineModel" (443 : Nat) ({ cls := "BasicMachineModel", name := "step", desc := "(I)I" } : Jvm.MethodName)) ∈ lw_all := lw_g (lw_at lw_m9 128 rfl) rfl
theorem q2170 : (Jvm.Cond.privateMethod ({ cls := "BasicMachineModel", name := "step", desc := "(I)I" } : Jvm.MethodName)) ∈ lw_tbl := lw_at lw_m9 129 rfl
theorem q2171 : (Jvm.Cond.instanceMethod ({ cls := "BasicMachineModel", name := "step", desc := "(I)I" } : Jvm.MethodName)) ∈ lw_all := lw_g (lw_at lw_m9 130 rfl) rfl
theorem q2172 : (Jvm.Cond.code ({ cls := "BasicMachineModel", name := "step", desc := "(I)I" } : Jvm.MethodName) prog_32_method_74_code (9 : Nat) (Option.some Jvm.ClassFile.FieldType.int)) ∈ lw_all := lw_g (lw_at lw_m9 131 rfl) rfl
theorem q2173 : (Jvm.Cond.methodLink "BasicMachineModel" (413 : Nat) ({ cls := "BasicMachineModel", name := "assign", desc := "(IZ)V" } : Jvm.MethodName)) ∈ lw_all := lw_g (lw_at lw_m9 132 rfl) rfl
theorem q2174 : (Jvm.Cond.privateMethod ({ cls := "BasicMachineModel", name := "assign", desc := "(IZ)V" } : Jvm.MethodName)) ∈ lw_tbl := lw_at lw_m9 133 rfl
theorem q2175 : (Jvm.Cond.instanceMethod ({ cls := "BasicMachineModel", name := "assign", desc := "(IZ)V" } : Jvm.MethodName)) ∈ lw_all := lw_g (lw_at lw_m9 134 rfl) rfl
theorem q2176 : (Jvm.Cond.code ({ cls := "BasicMachineModel", name := "assign", desc := "(IZ)V" } : Jvm.MethodName) prog_32_method_62_code (9 : Nat) (Option.none : Option Jvm.ClassFile.FieldType)) ∈ lw_all := lw_g (lw_at lw_m9 135 rfl) rfl
theorem q2177 : (Jvm.Cond.methodLink "BasicMachineModel" (392 : Nat) ({ cls := "BasicMachineModel", name := "work", desc := "(I)D" } : Jvm.MethodName)) ∈ lw_all := lw_g (lw_at lw_m9 136 rfl) rfl
theorem q2178 : (Jvm.Cond.privateMethod ({ cls := "BasicMachineModel", name := "work", desc := "(I)D" } : Jvm.MethodName)) ∈ lw_tbl := lw_at lw_m9 137 rfl
theorem q2179 : (Jvm.Cond.instanceMethod ({ cls := "BasicMachineModel", name := "work", desc := "(I)D" } : Jvm.MethodName)) ∈ lw_all := lw_g (lw_at lw_m9 138 rfl) rfl
theorem q2180 : (Jvm.Cond.code ({ cls := "BasicMachineModel", name := "work", desc := "(I)D" } : Jvm.MethodName) prog_32_method_58_code (3 : Nat) (Option.some Jvm.ClassFile.FieldType.double)) ∈ lw_all := lw_g (lw_at lw_m9 139 rfl) rfl
theorem q2181 : (Jvm.Cond.methodLink "BasicMachineModel" (383 : Nat) ({ cls := "BasicMachineModel", name := "operate", desc := "(II)I" } : Jvm.MethodName)) ∈ lw_all := lw_g (lw_at lw_m9 140 rfl) rfl
theorem q2182 : (Jvm.Cond.privateMethod ({ cls := "BasicMachineModel", name := "operate", desc := "(II)I" } : Jvm.MethodName)) ∈ lw_tbl := lw_at lw_m9 141 rfl
theorem q2183 : (Jvm.Cond.instanceMethod ({ cls := "BasicMachineModel", name := "operate", desc := "(II)I" } : Jvm.MethodName)) ∈ lw_all := lw_g (lw_at lw_m9 142 rfl) rfl
theorem q2184 : (Jvm.Cond.code ({ cls := "BasicMachineModel", name := "operate", desc := "(II)I" } : Jvm.MethodName) prog_32_method_57_code (5 : Nat) (Option.some Jvm.ClassFile.FieldType.int)) ∈ lw_all := lw_g (lw_at lw_m9 143 rfl) rfl
theorem q2185 : (Jvm.Cond.methodLink "BasicMachineModel" (368 : Nat) ({ cls := "BasicMachineModel", name := "placeOf", desc := "(IDD)I" } : Jvm.MethodName)) ∈ lw_all := lw_g (lw_at lw_m9 144 rfl) rfl
theorem q2186 : (Jvm.Cond.privateMethod ({ cls := "BasicMachineModel", name := "placeOf", desc := "(IDD)I" } : Jvm.MethodName)) ∈ lw_tbl := lw_at lw_m9 145 rfl
theorem q2187 : (Jvm.Cond.instanceMethod ({ cls := "BasicMachineModel", name := "placeOf", desc := "(IDD)I" } : Jvm.MethodName)) ∈ lw_all := lw_g (lw_at lw_m9 146 rfl) rfl
theorem q2188 : (Jvm.Cond.code ({ cls := "BasicMachineModel", name := "placeOf", desc := "(IDD)I" } : Jvm.MethodName) prog_32_method_54_code (10 : Nat) (Option.some Jvm.ClassFile.FieldType.int)) ∈ lw_all := lw_g (lw_at lw_m9 147 rfl) rfl
theorem q2189 : (Jvm.Cond.methodLink "BasicMachineModel" (372 : Nat) ({ cls := "BasicMachineModel", name := "two", desc := "(IDD)D" } : Jvm.MethodName)) ∈ lw_all := lw_g (lw_at lw_m9 148 rfl) rfl
theorem q2190 : (Jvm.Cond.privateMethod ({ cls := "BasicMachineModel", name := "two", desc := "(IDD)D" } : Jvm.MethodName)) ∈ lw_tbl := lw_at lw_m9 149 rfl
theorem q2191 : (Jvm.Cond.instanceMethod ({ cls := "BasicMachineModel", name := "two", desc := "(IDD)D" } : Jvm.MethodName)) ∈ lw_all := lw_g (lw_at lw_m9 150 rfl) rfl
theorem q2192 : (Jvm.Cond.code ({ cls := "BasicMachineModel", name := "two", desc := "(IDD)D" } : Jvm.MethodName) prog_32_method_51_code (6 : Nat) (Option.some Jvm.ClassFile.FieldType.double)) ∈ lw_all := lw_g (lw_at lw_m9 151 rfl) rfl
theorem q2193 : (Jvm.Cond.methodLink "BasicMachineModel" (342 : Nat) ({ cls := "BasicMachineModel", name := "kept", desc := "(D)D" } : Jvm.MethodName)) ∈ lw_all := lw_g (lw_at lw_m9 152 rfl) rfl
theorem q2194 : (Jvm.Cond.privateMethod ({ cls := "BasicMachineModel", name := "kept", desc := "(D)D" } : Jvm.MethodName)) ∈ lw_tbl := lw_at lw_m9 153 rfl
theorem q2195 : (Jvm.Cond.instanceMethod ({ cls := "BasicMachineModel", name := "kept", desc := "(D)D" } : Jvm.MethodName)) ∈ lw_all := lw_g (lw_at lw_m9 154 rfl) rfl
theorem q2196 : (Jvm.Cond.code ({ cls := "BasicMachineModel", name := "kept", desc := "(D)D" } : Jvm.MethodName) prog_32_method_47_code (3 : Nat) (Option.some Jvm.ClassFile.FieldType.double)) ∈ lw_all := lw_g (lw_at lw_m9 155 rfl) rfl
theorem q2197 : (Jvm.Cond.constantDouble "BasicMachineModel" (338 : Nat) (4877398396442247168 : UInt64)) ∈ lw_all := lw_g (lw_at lw_m9 156 rfl) rfl
theorem q2198 : (Jvm.Cond.constantDouble "BasicMachineModel" (340 : Nat) (14100770433297022976 : UInt64)) ∈ lw_all := lw_g (lw_at lw_m9 157 rfl) rfl
theorem q2199 : (Jvm.Cond.methodLink "BasicMachineModel" (350 : Nat) ({ cls := "BasicMachineModel", name := "divided", desc := "(DD)D" } : Jvm.MethodName)) ∈ lw_all := lw_g (lw_at lw_m9 158 rfl) rfl
theorem q2200 : (Jvm.Cond.privateMethod ({ cls := "BasicMachineModel", name := "divided", desc := "(DD)D" } : Jvm.MethodName)) ∈ lw_tbl := lw_at lw_m9 159 rfl
theorem q2201 : (Jvm.Cond.instanceMethod ({ cls := "BasicMachineModel", name := "divided", desc := "(DD)D" } : Jvm.MethodName)) ∈ lw_all := lw_g (lw_at lw_m9 160 rfl) rfl
theorem q2202 : (Jvm.Cond.code ({ cls := "BasicMachineModel", name := "divided", desc := "(DD)D" } : Jvm.MethodName) prog_32_method_48_code (5 : Nat) (Option.some Jvm.ClassFile.FieldType.double)) ∈ lw_all := lw_g (lw_at lw_m9 161 rfl) rfl
theorem q2203 : (Jvm.Cond.methodLink "BasicMachineModel" (354 : Nat) ({ cls := "BasicMachineModel", name := "power", desc := "(DD)D" } : Jvm.MethodName)) ∈ lw_all := lw_g (lw_at lw_m9 162 rfl) rfl
theorem q2204 : (Jvm.Cond.privateMethod ({ cls := "BasicMachineModel", name := "power", desc := "(DD)D" } : Jvm.MethodName)) ∈ lw_tbl := lw_at lw_m9 163 rfl
theorem q2205 : (Jvm.Cond.instanceMethod ({ cls := "BasicMachineModel", name := "power", desc := "(DD)D" } : Jvm.MethodName)) ∈ lw_all := lw_g (lw_at lw_m9 164 rfl) rfl
theorem q2206 : (Jvm.Cond.code ({ cls := "BasicMachineModel", name := "power", desc := "(DD)D" } : Jvm.MethodName) prog_32_method_50_code (9 : Nat) (Option.some Jvm.ClassFile.FieldType.double)) ∈ lw_all := lw_g (lw_at lw_m9 165 rfl) rfl
theorem q2207 : (Jvm.Cond.constantDouble "BasicMachineModel" (346 : Nat) (13849694754071117824 : UInt64)) ∈ lw_all := lw_g (lw_at lw_m9 166 rfl) rfl
theorem q2208 : (Jvm.Cond.constantDouble "BasicMachineModel" (348 : Nat) (4626322717216342016 : UInt64)) ∈ lw_all := lw_g (lw_at lw_m9 167 rfl) rfl
theorem q2209 : (Jvm.Cond.methodLink "BasicMachineModel" (376 : Nat) ({ cls := "BasicMachineModel", name := "one", desc := "(ID)D" } : Jvm.MethodName)) ∈ lw_all := lw_g (lw_at lw_m9 168 rfl) rfl
theorem q2210 : (Jvm.Cond.privateMethod ({ cls := "BasicMachineModel", name := "one", desc := "(ID)D" } : Jvm.MethodName)) ∈ lw_tbl := lw_at lw_m9 169 rfl
theorem q2211 : (Jvm.Cond.instanceMethod ({ cls := "BasicMachineModel", name := "one", desc := "(ID)D" } : Jvm.MethodName)) ∈ lw_all := lw_g (lw_at lw_m9 170 rfl) rfl
theorem q2212 : (Jvm.Cond.code ({ cls := "BasicMachineModel", name := "one", desc := "(ID)D" } : Jvm.MethodName) prog_32_method_52_code (4 : Nat) (Option.some Jvm.ClassFile.FieldType.double)) ∈ lw_all := lw_g (lw_at lw_m9 171 rfl) rfl
theorem q2213 : (Jvm.Cond.methodLink "BasicMachineModel" (357 : Nat) ({ cls := "BasicMachineModel", name := "floor", desc := "(D)D" } : Jvm.MethodName)) ∈ lw_all := lw_g (lw_at lw_m9 172 rfl) rfl
theorem q2214 : (Jvm.Cond.privateMethod ({ cls := "BasicMachineModel", name := "floor", desc := "(D)D" } : Jvm.MethodName)) ∈ lw_tbl := lw_at lw_m9 173 rfl
theorem q2215 : (Jvm.Cond.instanceMethod ({ cls := "BasicMachineModel", name := "floor", desc := "(D)D" } : Jvm.MethodName)) ∈ lw_all := lw_g (lw_at lw_m9 174 rfl) rfl
theorem q2216 : (Jvm.Cond.code ({ cls := "BasicMachineModel", name := "floor", desc := "(D)D" } : Jvm.MethodName) prog_32_method_49_code (5 : Nat) (Option.some Jvm.ClassFile.FieldType.double)) ∈ lw_all := lw_g (lw_at lw_m9 175 rfl) rfl
theorem q2217 : (Jvm.Cond.constantDouble "BasicMachineModel" (360 : Nat) (13830554455654793216 : UInt64)) ∈ lw_all := lw_g (lw_at lw_m9 176 rfl) rfl
theorem q2218 : (Jvm.Cond.methodLink "BasicMachineModel" (380 : Nat) ({ cls := "BasicMachineModel", name := "call", desc := "(II)I" } : Jvm.MethodName)) ∈ lw_all := lw_g (lw_at lw_m9 177 rfl) rfl
theorem q2219 : (Jvm.Cond.privateMethod ({ cls := "BasicMachineModel", name := "call", desc := "(II)I" } : Jvm.MethodName)) ∈ lw_tbl := lw_at lw_m9 178 rfl
theorem q2220 : (Jvm.Cond.instanceMethod ({ cls := "BasicMachineModel", name := "call", desc := "(II)I" } : Jvm.MethodName)) ∈ lw_all := lw_g (lw_at lw_m9 179 rfl) rfl
theorem q2221 : (Jvm.Cond.code ({ cls := "BasicMachineModel", name := "call", desc := "(II)I" } : Jvm.MethodName) prog_32_method_55_code (4 : Nat) (Option.some Jvm.ClassFile.FieldType.int)) ∈ lw_all := lw_g (lw_at lw_m9 180 rfl) rfl
theorem q2222 : (Jvm.Cond.methodLink "BasicMachineModel" (386 : Nat) ({ cls := "BasicMachineModel", name := "leave", desc := "()V" } : Jvm.MethodName)) ∈ lw_all := lw_g (lw_at lw_m9 181 rfl) rfl
theorem q2223 : (Jvm.Cond.privateMethod ({ cls := "BasicMachineModel", name := "leave", desc := "()V" } : Jvm.MethodName)) ∈ lw_tbl := lw_at lw_m9 182 rfl
theorem q2224 : (Jvm.Cond.instanceMethod ({ cls := "BasicMachineModel", name := "leave", desc := "()V" } : Jvm.MethodName)) ∈ lw_all := lw_g (lw_at lw_m9 183 rfl) rfl
theorem q2225 : (Jvm.Cond.code ({ cls := "BasicMachineModel", name := "leave", desc := "()V" } : Jvm.MethodName) prog_32_method_56_code (1 : Nat) (Option.none : Option Jvm.ClassFile.FieldType)) ∈ lw_all := lw_g (lw_at lw_m9 184 rfl) rfl
theorem q2226 : (Jvm.Cond.methodLink "BasicMachineModel" (417 : Nat) ({ cls := "BasicMachineModel", name := "holds", desc := "(IDD)Z" } : Jvm.MethodName)) ∈ lw_all := lw_g (lw_at lw_m9 185 rfl) rfl
theorem q2227 : (Jvm.Cond.privateMethod ({ cls := "BasicMachineModel", name := "holds", desc := "(IDD)Z" } : Jvm.MethodName)) ∈ lw_tbl := lw_at lw_m9 186 rfl
theorem q2228 : (Jvm.Cond.instanceMethod ({ cls := "BasicMachineModel", name := "holds", desc := "(IDD)Z" } : Jvm.MethodName)) ∈ lw_all := lw_g (lw_at lw_m9 187 rfl) rfl
theorem q2229 : (Jvm.Cond.code ({ cls := "BasicMachineModel", name := "holds", desc := "(IDD)Z" } : Jvm.MethodName) prog_32_method_63_code (6 : Nat) (Option.some Jvm.ClassFile.FieldType.boolean)) ∈ lw_all := lw_g (lw_at lw_m9 188 rfl) rfl
theorem q2230 : (Jvm.Cond.methodLink "BasicMachineModel" (402 : Nat) ({ cls := "BasicMachineModel", name := "goTo", desc := "(I)I" } : Jvm.MethodName)) ∈ lw_all := lw_g (lw_at lw_m9 189 rfl) rfl
theorem q2231 : (Jvm.Cond.privateMethod ({ cls := "BasicMachineModel", name := "goTo", desc := "(I)I" } : Jvm.MethodName)) ∈ lw_tbl := lw_at lw_m9 190 rfl
theorem q2232 : (Jvm.Cond.instanceMethod ({ cls := "BasicMachineModel", name := "goTo", desc := "(I)I" } : Jvm.MethodName)) ∈ lw_all := lw_g (lw_at lw_m9 191 rfl) rfl
theorem q2233 : (Jvm.Cond.code ({ cls := "BasicMachineModel", name := "goTo", desc := "(I)I" } : Jvm.MethodName) prog_32_method_60_code (3 : Nat) (Option.some Jvm.ClassFile.FieldType.int)) ∈ lw_all := lw_g (lw_at lw_m9 192 rfl) rfl
theorem q2234 : (Jvm.Cond.methodLink "BasicMachineModel" (421 : Nat) ({ cls := "BasicMachineModel", name := "choose", desc := "(I)I" } : Jvm.MethodName)) ∈ lw_all := lw_g (lw_at lw_m9 193 rfl) rfl
theorem q2235 : (Jvm.Cond.privateMethod ({ cls := "BasicMachineModel", name := "choose", desc := "(I)I" } : Jvm.MethodName)) ∈ lw_tbl := lw_at lw_m9 194 rfl
theorem q2236 : (Jvm.Cond.instanceMethod ({ cls := "BasicMachineModel", name := "choose", desc := "(I)I" } : Jvm.MethodName)) ∈ lw_all := lw_g (lw_at lw_m9 195 rfl) rfl
theorem q2237 : (Jvm.Cond.code ({ cls := "BasicMachineModel", name := "choose", desc := "(I)I" } : Jvm.MethodName) prog_32_method_68_code (6 : Nat) (Option.some Jvm.ClassFile.FieldType.int)) ∈ lw_all := lw_g (lw_at lw_m9 196 rfl) rfl
theorem q2238 : (Jvm.Cond.methodLink "BasicMachineModel" (424 : Nat) ({ cls := "BasicMachineModel", name := "goSub", desc := "(II)I" } : Jvm.MethodName)) ∈ lw_all := lw_g (lw_at lw_m9 197 rfl) rfl
theorem q2239 : (Jvm.Cond.privateMethod ({ cls := "BasicMachineModel", name := "goSub", desc := "(II)I" } : Jvm.MethodName)) ∈ lw_tbl := lw_at lw_m9 198 rfl
theorem q2240 : (Jvm.Cond.instanceMethod ({ cls := "BasicMachineModel", name := "goSub", desc := "(II)I" } : Jvm.MethodName)) ∈ lw_all := lw_g (lw_at lw_m9 199 rfl) rfl
theorem q2241 : (Jvm.Cond.code ({ cls := "BasicMachineModel", name := "goSub", desc := "(II)I" } : Jvm.MethodName) prog_32_method_69_code (4 : Nat) (Option.some Jvm.ClassFile.FieldType.int)) ∈ lw_all := lw_g (lw_at lw_m9 200 rfl) rfl
theorem q2242 : (Jvm.Cond.methodLink "BasicMachineModel" (427 : Nat) ({ cls := "BasicMachineModel", name := "doFor", desc := "(II)I" } : Jvm.MethodName)) ∈ lw_all := lw_g (lw_at lw_m9 201 rfl) rfl
theorem q2243 : (Jvm.Cond.privateMethod ({ cls := "BasicMachineModel", name := "doFor", desc := "(II)I" } : Jvm.MethodName)) ∈ lw_tbl := lw_at lw_m9 202 rfl
theorem q2244 : (Jvm.Cond.instanceMethod ({ cls := "BasicMachineModel", name := "doFor", desc := "(II)I" } : Jvm.MethodName)) ∈ lw_all := lw_g (lw_at lw_m9 203 rfl) rfl
theorem q2245 : (Jvm.Cond.code ({ cls := "BasicMachineModel", name := "doFor", desc := "(II)I" } : Jvm.MethodName) prog_32_method_66_code (11 : Nat) (Option.some Jvm.ClassFile.FieldType.int)) ∈ lw_all := lw_g (lw_at lw_m9 204 rfl) rfl
theorem q2246 : (Jvm.Cond.methodLink "BasicMachineModel" (395 : Nat) ({ cls := "BasicMachineModel", name := "loopFor", desc := "(I)I" } : Jvm.MethodName)) ∈ lw_all := lw_g (lw_at lw_m9 205 rfl) rfl
theorem q2247 : (Jvm.Cond.privateMethod ({ cls := "BasicMachineModel", name := "loopFor", desc := "(I)I" } : Jvm.MethodName)) ∈ lw_tbl := lw_at lw_m9 206 rfl
theorem q2248 : (Jvm.Cond.instanceMethod ({ cls := "BasicMachineModel", name := "loopFor", desc := "(I)I" } : Jvm.MethodName)) ∈ lw_all := lw_g (lw_at lw_m9 207 rfl) rfl
theorem q2249 : (Jvm.Cond.code ({ cls := "BasicMachineModel", name := "loopFor", desc := "(I)I" } : Jvm.MethodName) prog_32_method_65_code (3 : Nat) (Option.some Jvm.ClassFile.FieldType.int)) ∈ lw_all := lw_g (lw_at lw_m9 208 rfl) rfl
theorem q2250 : (Jvm.Cond.methodLink "BasicMachineModel" (398 : Nat) ({ cls := "BasicMachineModel", name := "over", desc := "(DDD)Z" } : Jvm.MethodName)) ∈ lw_all := lw_g (lw_at lw_m9 209 rfl) rfl
theorem q2251 : (Jvm.Cond.privateMethod ({ cls := "BasicMachineModel", name := "over", desc := "(DDD)Z" } : Jvm.MethodName)) ∈ lw_tbl := lw_at lw_m9 210 rfl
theorem q2252 : (Jvm.Cond.instanceMethod ({ cls := "BasicMachineModel", name := "over", desc := "(DDD)Z" } : Jvm.MethodName)) ∈ lw_all := lw_g (lw_at lw_m9 211 rfl) rfl
theorem q2253 : (Jvm.Cond.code ({ cls := "BasicMachineModel", name := "over", desc := "(DDD)Z" } : Jvm.MethodName) prog_32_method_64_code (7 : Nat) (Option.some Jvm.ClassFile.FieldType.boolean)) ∈ lw_all := lw_g (lw_at lw_m9 212 rfl) rfl
theorem q2254 : (Jvm.Cond.methodLink "BasicMachineModel" (430 : Nat) ({ cls := "BasicMachineModel", name := "doNext", desc := "(II)I" } : Jvm.MethodName)) ∈ lw_all := lw_g (lw_at lw_m9 213 rfl) rfl
theorem q2255 : (Jvm.Cond.privateMethod ({ cls := "BasicMachineModel", name := "doNext", desc := "(II)I" } : Jvm.MethodName)) ∈ lw_tbl := lw_at lw_m9 214 rfl
theorem q2256 : (Jvm.Cond.instanceMethod ({ cls := "BasicMachineModel", name := "doNext", desc := "(II)I" } : Jvm.MethodName)) ∈ lw_all := lw_g (lw_at lw_m9 215 rfl) rfl
theorem q2257 : (Jvm.Cond.code ({ cls := "BasicMachineModel", name := "doNext", desc := "(II)I" } : Jvm.MethodName) prog_32_method_67_code (7 : Nat) (Option.some Jvm.ClassFile.FieldType.int)) ∈ lw_all := lw_g (lw_at lw_m9 216 rfl) rfl
theorem q2258 : (Jvm.Cond.methodLink "BasicMachineModel" (437 : Nat) ({ cls := "BasicMachineModel", name := "doMat", desc := "(I)V" } : Jvm.MethodName)) ∈ lw_all := lw_g (lw_at lw_m9 217 rfl) rfl
theorem q2259 : (Jvm.Cond.privateMethod ({ cls := "BasicMachineModel", name := "doMat", desc := "(I)V" } : Jvm.MethodName)) ∈ lw_tbl := lw_at lw_m9 218 rfl
theorem q2260 : (Jvm.Cond.instanceMethod ({ cls := "BasicMachineModel", name := "doMat", desc := "(I)V" } : Jvm.MethodName)) ∈ lw_all := lw_g (lw_at lw_m9 219 rfl) rfl
theorem q2261 : (Jvm.Cond.code ({ cls := "BasicMachineModel", name := "doMat", desc := "(I)V" } : Jvm.MethodName) prog_32_method_72_code (12 : Nat) (Option.none : Option Jvm.ClassFile.FieldType)) ∈ lw_all := lw_g (lw_at lw_m9 220 rfl) rfl
theorem q2262 : (Jvm.Cond.methodLink "BasicMachineModel" (405 : Nat) ({ cls := "BasicMachineModel", name := "matFits", desc := "(IIII)Z" } : Jvm.MethodName)) ∈ lw_all := lw_g (lw_at lw_m9 221 rfl) rfl
theorem q2263 : (Jvm.Cond.privateMethod ({ cls := "BasicMachineModel", name := "matFits", desc := "(IIII)Z" } : Jvm.MethodName)) ∈ lw_tbl := lw_at lw_m9 222 rfl
theorem q2264 : (Jvm.Cond.instanceMethod ({ cls := "BasicMachineModel", name := "matFits", desc := "(IIII)Z" } : Jvm.MethodName)) ∈ lw_all := lw_g (lw_at lw_m9 223 rfl) rfl
theorem q2265 : (Jvm.Cond.code ({ cls := "BasicMachineModel", name := "matFits", desc := "(IIII)Z" } : Jvm.MethodName) prog_32_method_71_code (5 : Nat) (Option.some Jvm.ClassFile.FieldType.boolean)) ∈ lw_all := lw_g (lw_at lw_m9 224 rfl) rfl
theorem q2266 : (Jvm.Cond.methodLink "BasicMachineModel" (409 : Nat) ({ cls := "BasicMachineModel", name := "matCell", desc := "(IIIIID)D" } : Jvm.MethodName)) ∈ lw_all := lw_g (lw_at lw_m9 225 rfl) rfl
theorem q2267 : (Jvm.Cond.privateMethod ({ cls := "BasicMachineModel", name := "matCell", desc := "(IIIIID)D" } : Jvm.MethodName)) ∈ lw_tbl := lw_at lw_m9 226 rfl
theorem q2268 : (Jvm.Cond.instanceMethod ({ cls := "BasicMachineModel", name := "matCell", desc := "(IIIIID)D" } : Jvm.MethodName)) ∈ lw_all := lw_g (lw_at lw_m9 227 rfl) rfl
theorem q2269 : (Jvm.Cond.code ({ cls := "BasicMachineModel", name := "matCell", desc := "(IIIIID)D" } : Jvm.MethodName) prog_32_method_70_code (14 : Nat) (Option.some Jvm.ClassFile.FieldType.double)) ∈ lw_all := lw_g (lw_at lw_m9 228 rfl) rfl
theorem q2271 : (Jvm.Cond.instanceMethod ({ cls := "BasicMachineModel", name := "printed", desc := "(I)D" } : Jvm.MethodName)) ∈ lw_all := lw_g (lw_at lw_m9 230 rfl) rfl
theorem q2272 : (Jvm.Cond.selects "BasicMachineModel" ({ cls := "BasicMachineModel", name := "printed", desc := "(I)D" } : Jvm.MethodName) ({ cls := "BasicMachineModel", name := "printed", desc := "(I)D" } : Jvm.MethodName)) ∈ lw_all := lw_g (lw_at lw_m9 231 rfl) rfl
theorem q2273 : (Jvm.Cond.code ({ cls := "BasicMachineModel", name := "printed", desc := "(I)D" } : Jvm.MethodName) prog_32_method_76_code (2 : Nat) (Option.some Jvm.ClassFile.FieldType.double)) ∈ lw_all := lw_g (lw_at lw_m9 232 rfl) rfl
theorem q2275 : (Jvm.Cond.instanceMethod ({ cls := "BasicMachineModel", name := "variable", desc := "(I)D" } : Jvm.MethodName)) ∈ lw_all := lw_g (lw_at lw_m9 234 rfl) rfl
theorem q2276 : (Jvm.Cond.selects "BasicMachineModel" ({ cls := "BasicMachineModel", name := "variable", desc := "(I)D" } : Jvm.MethodName) ({ cls := "BasicMachineModel", name := "variable", desc := "(I)D" } : Jvm.MethodName)) ∈ lw_all := lw_g (lw_at lw_m9 235 rfl) rfl
theorem q2277 : (Jvm.Cond.code ({ cls := "BasicMachineModel", name := "variable", desc := "(I)D" } : Jvm.MethodName) prog_32_method_77_code (2 : Nat) (Option.some Jvm.ClassFile.FieldType.double)) ∈ lw_all := lw_g (lw_at lw_m9 236 rfl) rfl
theorem q2279 : (Jvm.Cond.instanceMethod ({ cls := "BasicMachineModel", name := "element", desc := "(III)D" } : Jvm.MethodName)) ∈ lw_all := lw_g (lw_at lw_m9 238 rfl) rfl
theorem q2280 : (Jvm.Cond.selects "BasicMachineModel" ({ cls := "BasicMachineModel", name := "element", desc := "(III)D" } : Jvm.MethodName) ({ cls := "BasicMachineModel", name := "element", desc := "(III)D" } : Jvm.MethodName)) ∈ lw_all := lw_g (lw_at lw_m9 239 rfl) rfl
theorem q2281 : (Jvm.Cond.code ({ cls := "BasicMachineModel", name := "element", desc := "(III)D" } : Jvm.MethodName) prog_32_method_78_code (4 : Nat) (Option.some Jvm.ClassFile.FieldType.double)) ∈ lw_all := lw_g (lw_at lw_m10 0 rfl) rfl
theorem q2283 : (Jvm.Cond.instanceMethod ({ cls := "BasicMachineModel", name := "at", desc := "()I" } : Jvm.MethodName)) ∈ lw_all := lw_g (lw_at lw_m10 2 rfl) rfl
theorem q2284 : (Jvm.Cond.selects "BasicMachineModel" ({ cls := "BasicMachineModel", name := "at", desc := "()I" } : Jvm.MethodName) ({ cls := "BasicMachineModel", name := "at", desc := "()I" } : Jvm.MethodName)) ∈ lw_all := lw_g (lw_at lw_m10 3 rfl) rfl
theorem q2285 : (Jvm.Cond.code ({ cls := "BasicMachineModel", name := "at", desc := "()I" } : Jvm.MethodName) prog_32_method_79_code (1 : Nat) (Option.some Jvm.ClassFile.FieldType.int)) ∈ lw_all := lw_g (lw_at lw_m10 4 rfl) rfl
theorem q2287 : (Jvm.Cond.instanceMethod ({ cls := "BasicMachineModel", name := "count", desc := "(I)I" } : Jvm.MethodName)) ∈ lw_all := lw_g (lw_at lw_m10 6 rfl) rfl
theorem q2288 : (Jvm.Cond.selects "BasicMachineModel" ({ cls := "BasicMachineModel", name := "count", desc := "(I)I" } : Jvm.MethodName) ({ cls := "BasicMachineModel", name := "count", desc := "(I)I" } : Jvm.MethodName)) ∈ lw_all := lw_g (lw_at lw_m10 7 rfl) rfl
theorem q2289 : (Jvm.Cond.code ({ cls := "BasicMachineModel", name := "count", desc := "(I)I" } : Jvm.MethodName) prog_32_method_81_code (2 : Nat) (Option.some Jvm.ClassFile.FieldType.int)) ∈ lw_all := lw_g (lw_at lw_m10 8 rfl) rfl
theorem q2290 : (Jvm.Cond.methodLink "BasicMachineModel" (446 : Nat) ({ cls := "BasicMachineModel", name := "most", desc := "()I" } : Jvm.MethodName)) ∈ lw_all := lw_g (lw_at lw_m10 9 rfl) rfl
theorem q2291 : (Jvm.Cond.privateMethod ({ cls := "BasicMachineModel", name := "most", desc := "()I" } : Jvm.MethodName)) ∈ lw_tbl := lw_at lw_m10 10 rfl
theorem q2292 : (Jvm.Cond.instanceMethod ({ cls := "BasicMachineModel", name := "most", desc := "()I" } : Jvm.MethodName)) ∈ lw_all := lw_g (lw_at lw_m10 11 rfl) rfl
theorem q2293 : (Jvm.Cond.code ({ cls := "BasicMachineModel", name := "most", desc := "()I" } : Jvm.MethodName) prog_32_method_80_code (3 : Nat) (Option.some Jvm.ClassFile.FieldType.int)) ∈ lw_all := lw_g (lw_at lw_m10 12 rfl) rfl
theorem q2306 : (Jvm.Cond.castable "BasicMachineModel" "java/lang/Object") ∈ lw_tbl := lw_at lw_m10 25 rfl
theorem in_X2 : ∀ w ∈ wsX20, w ∈ lw_all := lw_in wsX20 [1848, 1850, 1852, 1854, 1856, 1858, 1860, 1862, 1864, 1866, 1868, 1870, 1872, 1874, 1876, 1878, 1880, 1882, 1884, 1886, 1888, 1890, 1892, 1894, 1896, 1898, 1900, 1902, 1904, 1906, 1908, 1910, 1912, 1914, 1916, 1918, 1920, 1922, 1924, 1926, 1928, 1930, 1932, 1934, 1936] (by decide +kernel) (by decide +kernel)
