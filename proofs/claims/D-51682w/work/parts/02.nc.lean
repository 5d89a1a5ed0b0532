set_option maxRecDepth 100000
/-! WreckSharesModel -/
def RX5 : String := "WreckSharesModel"
def TX5 : u_T := fun k => match k with
  | 0 => ("WreckSharesModel", "now", "[I", true)
  | 1 => ("WreckSharesModel", "draft", "[I", true)
  | 2 => ("WreckSharesModel", "kept", "[I", true)
  | 3 => ("WreckSharesModel", "snapshot", "[I", true)
  | 4 => ("WreckSharesModel", "history", "[I", true)
  | 5 => ("WreckSharesModel", "accounts", "[I", true)
  | 6 => ("WreckSharesModel", "rates", "[I", true)
  | 7 => ("WreckSharesModel", "letters", "[I", true)
  | 8 => ("WreckSharesModel", "signs", "[I", true)
  | 9 => ("WreckSharesModel", "kinds", "[Ljava/lang/String;", true)
  | 10 => ("WreckSharesModel", "row", "[I", false)
  | 11 => ("WreckSharesModel", "undoCount", "I", false)
  | 12 => ("WreckSharesModel", "thrown", "I", false)
  | 13 => ("WreckSharesModel", "hasSnapshot", "Z", false)
  | 14 => ("WreckSharesModel", "formatted", "[I", true)
  | 15 => ("WreckSharesModel", "formattedLength", "I", false)
  | 16 => ("WreckSharesModel", "buffer", "[I", true)
  | 17 => ("WreckSharesModel", "bufferLength", "I", false)
  | 18 => ("WreckSharesModel", "limit", "I", false)
  | 19 => ("WreckSharesModel", "next", "I", false)
  | 20 => ("WreckSharesModel", "beginsAt", "I", false)
  | 21 => ("WreckSharesModel", "token", "I", false)
  | 22 => ("WreckSharesModel", "error", "I", false)
  | 23 => ("WreckSharesModel", "errorAt", "I", false)
  | 24 => ("WreckSharesModel", "errorPosition", "I", false)
  | 25 => ("WreckSharesModel", "nested", "I", false)
  | 26 => ("WreckSharesModel", "orders", "[I", true)
  | 27 => ("WreckSharesModel", "orderWords", "[Ljava/lang/String;", true)
  | _ => ("WreckSharesModel", "orderCount", "I", false)
def tyX5 : Nat → FieldType := fun k => match k with
  | 0 => .array .int
  | 1 => .array .int
  | 2 => .array .int
  | 3 => .array .int
  | 4 => .array .int
  | 5 => .array .int
  | 6 => .array .int
  | 7 => .array .int
  | 8 => .array .int
  | 9 => .array (.object "java/lang/String")
  | 10 => .array .int
  | 11 => .int
  | 12 => .int
  | 13 => .boolean
  | 14 => .array .int
  | 15 => .int
  | 16 => .array .int
  | 17 => .int
  | 18 => .int
  | 19 => .int
  | 20 => .int
  | 21 => .int
  | 22 => .int
  | 23 => .int
  | 24 => .int
  | 25 => .int
  | 26 => .array .int
  | 27 => .array (.object "java/lang/String")
  | _ => .int
abbrev wsX50 : List Cond := u_ws RX5 TX5 29
set_option maxRecDepth 100000 in
theorem nmX5 : ∀ a, a < 29 → ∀ b, b < 29 → a ≠ b → (TX5 a).2.1 ≠ (TX5 b).2.1 := by decide +kernel
set_option maxRecDepth 100000 in
theorem tyX5_ok : ∀ k, k < 29 → parseFieldDescriptor (TX5 k).2.2.1 = some (tyX5 k) := by decide +kernel
abbrev cX5_init : ByteArray := prog_21_method_1_code
def yX5_init : MethodName := ⟨RX5, "<init>", "()V"⟩
def dkwX5_init_12 : List UInt8 := [182, 0, 88, 42, 6, 17, 3, 231, 16, 9, 6, 5, 182, 0, 88, 177]
abbrev dktX5_init_12 : List UInt8 := dkwX5_init_12 ++ []
def dkwX5_init_11 : List UInt8 := [7, 4, 3, 182, 0, 88, 42, 4, 16, 57, 5, 5, 4, 182, 0, 88, 42, 5, 16, 31, 3, 4, 3]
abbrev dktX5_init_11 : List UInt8 := dkwX5_init_11 ++ dktX5_init_12
def dkwX5_init_10 : List UInt8 := [83, 89, 16, 6, 18, 79, 83, 181, 0, 81, 42, 16, 8, 16, 6, 6, 6, 182, 0, 84, 42, 3, 16, 100]
abbrev dktX5_init_10 : List UInt8 := dkwX5_init_10 ++ dktX5_init_11
def dkwX5_init_9 : List UInt8 := [89, 4, 18, 69, 83, 89, 5, 18, 71, 83, 89, 6, 18, 73, 83, 89, 7, 18, 75, 83, 89, 8, 18, 77]
abbrev dktX5_init_9 : List UInt8 := dkwX5_init_9 ++ dktX5_init_10
def dkwX5_init_8 : List UInt8 := [42, 2, 181, 0, 60, 42, 16, 80, 188, 10, 181, 0, 64, 42, 16, 7, 189, 0, 37, 89, 3, 18, 67, 83]
abbrev dktX5_init_8 : List UInt8 := dkwX5_init_8 ++ dktX5_init_9
def dkwX5_init_7 : List UInt8 := [42, 180, 0, 9, 181, 0, 51, 42, 16, 40, 188, 10, 181, 0, 54, 42, 17, 2, 188, 188, 10, 181, 0, 57]
abbrev dktX5_init_7 : List UInt8 := dkwX5_init_7 ++ dktX5_init_8
def dkwX5_init_6 : List UInt8 := [89, 3, 18, 39, 83, 89, 4, 18, 41, 83, 89, 5, 18, 43, 83, 89, 6, 18, 45, 83, 181, 0, 47, 42]
abbrev dktX5_init_6 : List UInt8 := dkwX5_init_6 ++ dktX5_init_7
def dkwX5_init_5 : List UInt8 := [79, 89, 4, 16, 43, 79, 89, 5, 16, 61, 79, 89, 6, 16, 126, 79, 181, 0, 34, 42, 7, 189, 0, 37]
abbrev dktX5_init_5 : List UInt8 := dkwX5_init_5 ++ dktX5_init_6
def dkwX5_init_4 : List UInt8 := [16, 98, 79, 89, 5, 16, 115, 79, 89, 6, 16, 99, 79, 181, 0, 31, 42, 7, 188, 10, 89, 3, 16, 45]
abbrev dktX5_init_4 : List UInt8 := dkwX5_init_4 ++ dktX5_init_5
def dkwX5_init_3 : List UInt8 := [89, 5, 16, 40, 79, 89, 6, 16, 50, 79, 181, 0, 28, 42, 7, 188, 10, 89, 3, 16, 99, 79, 89, 4]
abbrev dktX5_init_3 : List UInt8 := dkwX5_init_3 ++ dktX5_init_4
def dkwX5_init_2 : List UInt8 := [181, 0, 22, 42, 6, 188, 10, 181, 0, 25, 42, 7, 188, 10, 89, 3, 16, 30, 79, 89, 4, 16, 25, 79]
abbrev dktX5_init_2 : List UInt8 := dkwX5_init_2 ++ dktX5_init_3
def dkwX5_init_1 : List UInt8 := [17, 1, 212, 188, 10, 181, 0, 16, 42, 17, 1, 212, 188, 10, 181, 0, 19, 42, 17, 14, 160, 188, 10]
abbrev dktX5_init_1 : List UInt8 := dkwX5_init_1 ++ dktX5_init_2
def dkwX5_init_0 : List UInt8 := [42, 183, 0, 1, 42, 17, 1, 212, 188, 10, 181, 0, 9, 42, 17, 1, 212, 188, 10, 181, 0, 13, 42]
abbrev dktX5_init_0 : List UInt8 := dkwX5_init_0 ++ dktX5_init_1
theorem dksX5_init_0 : cX5_init.data.toList.drop 0 = dktX5_init_0 := by decide +kernel
theorem dksX5_init_1 : cX5_init.data.toList.drop 23 = dktX5_init_1 := dk_seg dksX5_init_0 23 rfl rfl
theorem dksX5_init_2 : cX5_init.data.toList.drop 46 = dktX5_init_2 := dk_seg dksX5_init_1 23 rfl rfl
theorem dksX5_init_3 : cX5_init.data.toList.drop 70 = dktX5_init_3 := dk_seg dksX5_init_2 24 rfl rfl
theorem dksX5_init_4 : cX5_init.data.toList.drop 94 = dktX5_init_4 := dk_seg dksX5_init_3 24 rfl rfl
theorem dksX5_init_5 : cX5_init.data.toList.drop 118 = dktX5_init_5 := dk_seg dksX5_init_4 24 rfl rfl
theorem dksX5_init_6 : cX5_init.data.toList.drop 142 = dktX5_init_6 := dk_seg dksX5_init_5 24 rfl rfl
theorem dksX5_init_7 : cX5_init.data.toList.drop 166 = dktX5_init_7 := dk_seg dksX5_init_6 24 rfl rfl
theorem dksX5_init_8 : cX5_init.data.toList.drop 190 = dktX5_init_8 := dk_seg dksX5_init_7 24 rfl rfl
theorem dksX5_init_9 : cX5_init.data.toList.drop 214 = dktX5_init_9 := dk_seg dksX5_init_8 24 rfl rfl
theorem dksX5_init_10 : cX5_init.data.toList.drop 238 = dktX5_init_10 := dk_seg dksX5_init_9 24 rfl rfl
theorem dksX5_init_11 : cX5_init.data.toList.drop 262 = dktX5_init_11 := dk_seg dksX5_init_10 24 rfl rfl
theorem dksX5_init_12 : cX5_init.data.toList.drop 285 = dktX5_init_12 := dk_seg dksX5_init_11 23 rfl rfl
theorem dX5_init_0 : decode cX5_init 0 = .ok (.aload_n 0, 1) := dk_42 (dk_at dksX5_init_0 0 rfl rfl)
theorem dX5_init_1 : decode cX5_init 1 = .ok (.invokespecial 1, 3) := dk_183 0 1 (dk_at dksX5_init_0 1 rfl rfl)
theorem dX5_init_4 : decode cX5_init 4 = .ok (.aload_n 0, 1) := dk_42 (dk_at dksX5_init_0 4 rfl rfl)
theorem dX5_init_5 : decode cX5_init 5 = .ok (.sipush 468, 3) := dk_17 1 212 (dk_at dksX5_init_0 5 rfl rfl)
theorem dX5_init_8 : decode cX5_init 8 = .ok (.newarray .int, 2) := dk_188_10 (dk_at dksX5_init_0 8 rfl rfl)
theorem dX5_init_10 : decode cX5_init 10 = .ok (.putfield 9, 3) := dk_181 0 9 (dk_at dksX5_init_0 10 rfl rfl)
theorem dX5_init_13 : decode cX5_init 13 = .ok (.aload_n 0, 1) := dk_42 (dk_at dksX5_init_0 13 rfl rfl)
theorem dX5_init_14 : decode cX5_init 14 = .ok (.sipush 468, 3) := dk_17 1 212 (dk_at dksX5_init_0 14 rfl rfl)
theorem dX5_init_17 : decode cX5_init 17 = .ok (.newarray .int, 2) := dk_188_10 (dk_at dksX5_init_0 17 rfl rfl)
theorem dX5_init_19 : decode cX5_init 19 = .ok (.putfield 13, 3) := dk_181 0 13 (dk_at dksX5_init_0 19 rfl rfl)
theorem dX5_init_22 : decode cX5_init 22 = .ok (.aload_n 0, 1) := dk_42 (dk_at dksX5_init_0 22 rfl rfl)
theorem dX5_init_23 : decode cX5_init 23 = .ok (.sipush 468, 3) := dk_17 1 212 (dk_at dksX5_init_1 0 rfl rfl)
theorem dX5_init_26 : decode cX5_init 26 = .ok (.newarray .int, 2) := dk_188_10 (dk_at dksX5_init_1 3 rfl rfl)
theorem dX5_init_28 : decode cX5_init 28 = .ok (.putfield 16, 3) := dk_181 0 16 (dk_at dksX5_init_1 5 rfl rfl)
theorem dX5_init_31 : decode cX5_init 31 = .ok (.aload_n 0, 1) := dk_42 (dk_at dksX5_init_1 8 rfl rfl)
theorem dX5_init_32 : decode cX5_init 32 = .ok (.sipush 468, 3) := dk_17 1 212 (dk_at dksX5_init_1 9 rfl rfl)
theorem dX5_init_35 : decode cX5_init 35 = .ok (.newarray .int, 2) := dk_188_10 (dk_at dksX5_init_1 12 rfl rfl)
theorem dX5_init_37 : decode cX5_init 37 = .ok (.putfield 19, 3) := dk_181 0 19 (dk_at dksX5_init_1 14 rfl rfl)
theorem dX5_init_40 : decode cX5_init 40 = .ok (.aload_n 0, 1) := dk_42 (dk_at dksX5_init_1 17 rfl rfl)
theorem dX5_init_41 : decode cX5_init 41 = .ok (.sipush 3744, 3) := dk_17 14 160 (dk_at dksX5_init_1 18 rfl rfl)
theorem dX5_init_44 : decode cX5_init 44 = .ok (.newarray .int, 2) := dk_188_10 (dk_at dksX5_init_1 21 rfl rfl)
theorem dX5_init_46 : decode cX5_init 46 = .ok (.putfield 22, 3) := dk_181 0 22 (dk_at dksX5_init_2 0 rfl rfl)
theorem dX5_init_49 : decode cX5_init 49 = .ok (.aload_n 0, 1) := dk_42 (dk_at dksX5_init_2 3 rfl rfl)
theorem dX5_init_50 : decode cX5_init 50 = .ok (.iconst 3, 1) := dk_6 (dk_at dksX5_init_2 4 rfl rfl)
theorem dX5_init_51 : decode cX5_init 51 = .ok (.newarray .int, 2) := dk_188_10 (dk_at dksX5_init_2 5 rfl rfl)
theorem dX5_init_53 : decode cX5_init 53 = .ok (.putfield 25, 3) := dk_181 0 25 (dk_at dksX5_init_2 7 rfl rfl)
theorem dX5_init_56 : decode cX5_init 56 = .ok (.aload_n 0, 1) := dk_42 (dk_at dksX5_init_2 10 rfl rfl)
theorem dX5_init_57 : decode cX5_init 57 = .ok (.iconst 4, 1) := dk_7 (dk_at dksX5_init_2 11 rfl rfl)
theorem dX5_init_58 : decode cX5_init 58 = .ok (.newarray .int, 2) := dk_188_10 (dk_at dksX5_init_2 12 rfl rfl)
theorem dX5_init_60 : decode cX5_init 60 = .ok (.dup, 1) := dk_89 (dk_at dksX5_init_2 14 rfl rfl)
theorem dX5_init_61 : decode cX5_init 61 = .ok (.iconst 0, 1) := dk_3 (dk_at dksX5_init_2 15 rfl rfl)
theorem dX5_init_62 : decode cX5_init 62 = .ok (.bipush 30, 2) := dk_16 30 (dk_at dksX5_init_2 16 rfl rfl)
theorem dX5_init_64 : decode cX5_init 64 = .ok (.iastore, 1) := dk_79 (dk_at dksX5_init_2 18 rfl rfl)
theorem dX5_init_65 : decode cX5_init 65 = .ok (.dup, 1) := dk_89 (dk_at dksX5_init_2 19 rfl rfl)
theorem dX5_init_66 : decode cX5_init 66 = .ok (.iconst 1, 1) := dk_4 (dk_at dksX5_init_2 20 rfl rfl)
theorem dX5_init_67 : decode cX5_init 67 = .ok (.bipush 25, 2) := dk_16 25 (dk_at dksX5_init_2 21 rfl rfl)
theorem dX5_init_69 : decode cX5_init 69 = .ok (.iastore, 1) := dk_79 (dk_at dksX5_init_2 23 rfl rfl)
theorem dX5_init_70 : decode cX5_init 70 = .ok (.dup, 1) := dk_89 (dk_at dksX5_init_3 0 rfl rfl)
theorem dX5_init_71 : decode cX5_init 71 = .ok (.iconst 2, 1) := dk_5 (dk_at dksX5_init_3 1 rfl rfl)
theorem dX5_init_72 : decode cX5_init 72 = .ok (.bipush 40, 2) := dk_16 40 (dk_at dksX5_init_3 2 rfl rfl)
theorem dX5_init_74 : decode cX5_init 74 = .ok (.iastore, 1) := dk_79 (dk_at dksX5_init_3 4 rfl rfl)
theorem dX5_init_75 : decode cX5_init 75 = .ok (.dup, 1) := dk_89 (dk_at dksX5_init_3 5 rfl rfl)
theorem dX5_init_76 : decode cX5_init 76 = .ok (.iconst 3, 1) := dk_6 (dk_at dksX5_init_3 6 rfl rfl)
theorem dX5_init_77 : decode cX5_init 77 = .ok (.bipush 50, 2) := dk_16 50 (dk_at dksX5_init_3 7 rfl rfl)
theorem dX5_init_79 : decode cX5_init 79 = .ok (.iastore, 1) := dk_79 (dk_at dksX5_init_3 9 rfl rfl)
theorem dX5_init_80 : decode cX5_init 80 = .ok (.putfield 28, 3) := dk_181 0 28 (dk_at dksX5_init_3 10 rfl rfl)
theorem dX5_init_83 : decode cX5_init 83 = .ok (.aload_n 0, 1) := dk_42 (dk_at dksX5_init_3 13 rfl rfl)
theorem dX5_init_84 : decode cX5_init 84 = .ok (.iconst 4, 1) := dk_7 (dk_at dksX5_init_3 14 rfl rfl)
theorem dX5_init_85 : decode cX5_init 85 = .ok (.newarray .int, 2) := dk_188_10 (dk_at dksX5_init_3 15 rfl rfl)
theorem dX5_init_87 : decode cX5_init 87 = .ok (.dup, 1) := dk_89 (dk_at dksX5_init_3 17 rfl rfl)
theorem dX5_init_88 : decode cX5_init 88 = .ok (.iconst 0, 1) := dk_3 (dk_at dksX5_init_3 18 rfl rfl)
theorem dX5_init_89 : decode cX5_init 89 = .ok (.bipush 99, 2) := dk_16 99 (dk_at dksX5_init_3 19 rfl rfl)
theorem dX5_init_91 : decode cX5_init 91 = .ok (.iastore, 1) := dk_79 (dk_at dksX5_init_3 21 rfl rfl)
theorem dX5_init_92 : decode cX5_init 92 = .ok (.dup, 1) := dk_89 (dk_at dksX5_init_3 22 rfl rfl)
theorem dX5_init_93 : decode cX5_init 93 = .ok (.iconst 1, 1) := dk_4 (dk_at dksX5_init_3 23 rfl rfl)
theorem dX5_init_94 : decode cX5_init 94 = .ok (.bipush 98, 2) := dk_16 98 (dk_at dksX5_init_4 0 rfl rfl)
theorem dX5_init_96 : decode cX5_init 96 = .ok (.iastore, 1) := dk_79 (dk_at dksX5_init_4 2 rfl rfl)
theorem dX5_init_97 : decode cX5_init 97 = .ok (.dup, 1) := dk_89 (dk_at dksX5_init_4 3 rfl rfl)
theorem dX5_init_98 : decode cX5_init 98 = .ok (.iconst 2, 1) := dk_5 (dk_at dksX5_init_4 4 rfl rfl)
theorem dX5_init_99 : decode cX5_init 99 = .ok (.bipush 115, 2) := dk_16 115 (dk_at dksX5_init_4 5 rfl rfl)
theorem dX5_init_101 : decode cX5_init 101 = .ok (.iastore, 1) := dk_79 (dk_at dksX5_init_4 7 rfl rfl)
theorem dX5_init_102 : decode cX5_init 102 = .ok (.dup, 1) := dk_89 (dk_at dksX5_init_4 8 rfl rfl)
theorem dX5_init_103 : decode cX5_init 103 = .ok (.iconst 3, 1) := dk_6 (dk_at dksX5_init_4 9 rfl rfl)
theorem dX5_init_104 : decode cX5_init 104 = .ok (.bipush 99, 2) := dk_16 99 (dk_at dksX5_init_4 10 rfl rfl)
theorem dX5_init_106 : decode cX5_init 106 = .ok (.iastore, 1) := dk_79 (dk_at dksX5_init_4 12 rfl rfl)
theorem dX5_init_107 : decode cX5_init 107 = .ok (.putfield 31, 3) := dk_181 0 31 (dk_at dksX5_init_4 13 rfl rfl)
theorem dX5_init_110 : decode cX5_init 110 = .ok (.aload_n 0, 1) := dk_42 (dk_at dksX5_init_4 16 rfl rfl)
theorem dX5_init_111 : decode cX5_init 111 = .ok (.iconst 4, 1) := dk_7 (dk_at dksX5_init_4 17 rfl rfl)
theorem dX5_init_112 : decode cX5_init 112 = .ok (.newarray .int, 2) := dk_188_10 (dk_at dksX5_init_4 18 rfl rfl)
theorem dX5_init_114 : decode cX5_init 114 = .ok (.dup, 1) := dk_89 (dk_at dksX5_init_4 20 rfl rfl)
theorem dX5_init_115 : decode cX5_init 115 = .ok (.iconst 0, 1) := dk_3 (dk_at dksX5_init_4 21 rfl rfl)
theorem dX5_init_116 : decode cX5_init 116 = .ok (.bipush 45, 2) := dk_16 45 (dk_at dksX5_init_4 22 rfl rfl)
theorem dX5_init_118 : decode cX5_init 118 = .ok (.iastore, 1) := dk_79 (dk_at dksX5_init_5 0 rfl rfl)
theorem dX5_init_119 : decode cX5_init 119 = .ok (.dup, 1) := dk_89 (dk_at dksX5_init_5 1 rfl rfl)
theorem dX5_init_120 : decode cX5_init 120 = .ok (.iconst 1, 1) := dk_4 (dk_at dksX5_init_5 2 rfl rfl)
theorem dX5_init_121 : decode cX5_init 121 = .ok (.bipush 43, 2) := dk_16 43 (dk_at dksX5_init_5 3 rfl rfl)
theorem dX5_init_123 : decode cX5_init 123 = .ok (.iastore, 1) := dk_79 (dk_at dksX5_init_5 5 rfl rfl)
theorem dX5_init_124 : decode cX5_init 124 = .ok (.dup, 1) := dk_89 (dk_at dksX5_init_5 6 rfl rfl)
theorem dX5_init_125 : decode cX5_init 125 = .ok (.iconst 2, 1) := dk_5 (dk_at dksX5_init_5 7 rfl rfl)
theorem dX5_init_126 : decode cX5_init 126 = .ok (.bipush 61, 2) := dk_16 61 (dk_at dksX5_init_5 8 rfl rfl)
theorem dX5_init_128 : decode cX5_init 128 = .ok (.iastore, 1) := dk_79 (dk_at dksX5_init_5 10 rfl rfl)
theorem dX5_init_129 : decode cX5_init 129 = .ok (.dup, 1) := dk_89 (dk_at dksX5_init_5 11 rfl rfl)
theorem dX5_init_130 : decode cX5_init 130 = .ok (.iconst 3, 1) := dk_6 (dk_at dksX5_init_5 12 rfl rfl)
theorem dX5_init_131 : decode cX5_init 131 = .ok (.bipush 126, 2) := dk_16 126 (dk_at dksX5_init_5 13 rfl rfl)
theorem dX5_init_133 : decode cX5_init 133 = .ok (.iastore, 1) := dk_79 (dk_at dksX5_init_5 15 rfl rfl)
theorem dX5_init_134 : decode cX5_init 134 = .ok (.putfield 34, 3) := dk_181 0 34 (dk_at dksX5_init_5 16 rfl rfl)
theorem dX5_init_137 : decode cX5_init 137 = .ok (.aload_n 0, 1) := dk_42 (dk_at dksX5_init_5 19 rfl rfl)
theorem dX5_init_138 : decode cX5_init 138 = .ok (.iconst 4, 1) := dk_7 (dk_at dksX5_init_5 20 rfl rfl)
theorem dX5_init_139 : decode cX5_init 139 = .ok (.anewarray 37, 3) := dk_189 0 37 (dk_at dksX5_init_5 21 rfl rfl)
theorem dX5_init_142 : decode cX5_init 142 = .ok (.dup, 1) := dk_89 (dk_at dksX5_init_6 0 rfl rfl)
theorem dX5_init_143 : decode cX5_init 143 = .ok (.iconst 0, 1) := dk_3 (dk_at dksX5_init_6 1 rfl rfl)
theorem dX5_init_144 : decode cX5_init 144 = .ok (.ldc 39, 2) := dk_18 39 (dk_at dksX5_init_6 2 rfl rfl)
theorem dX5_init_146 : decode cX5_init 146 = .ok (.aastore, 1) := dk_83 (dk_at dksX5_init_6 4 rfl rfl)
theorem dX5_init_147 : decode cX5_init 147 = .ok (.dup, 1) := dk_89 (dk_at dksX5_init_6 5 rfl rfl)
theorem dX5_init_148 : decode cX5_init 148 = .ok (.iconst 1, 1) := dk_4 (dk_at dksX5_init_6 6 rfl rfl)
theorem dX5_init_149 : decode cX5_init 149 = .ok (.ldc 41, 2) := dk_18 41 (dk_at dksX5_init_6 7 rfl rfl)
theorem dX5_init_151 : decode cX5_init 151 = .ok (.aastore, 1) := dk_83 (dk_at dksX5_init_6 9 rfl rfl)
theorem dX5_init_152 : decode cX5_init 152 = .ok (.dup, 1) := dk_89 (dk_at dksX5_init_6 10 rfl rfl)
theorem dX5_init_153 : decode cX5_init 153 = .ok (.iconst 2, 1) := dk_5 (dk_at dksX5_init_6 11 rfl rfl)
theorem dX5_init_154 : decode cX5_init 154 = .ok (.ldc 43, 2) := dk_18 43 (dk_at dksX5_init_6 12 rfl rfl)
theorem dX5_init_156 : decode cX5_init 156 = .ok (.aastore, 1) := dk_83 (dk_at dksX5_init_6 14 rfl rfl)
theorem dX5_init_157 : decode cX5_init 157 = .ok (.dup, 1) := dk_89 (dk_at dksX5_init_6 15 rfl rfl)
theorem dX5_init_158 : decode cX5_init 158 = .ok (.iconst 3, 1) := dk_6 (dk_at dksX5_init_6 16 rfl rfl)
theorem dX5_init_159 : decode cX5_init 159 = .ok (.ldc 45, 2) := dk_18 45 (dk_at dksX5_init_6 17 rfl rfl)
theorem dX5_init_161 : decode cX5_init 161 = .ok (.aastore, 1) := dk_83 (dk_at dksX5_init_6 19 rfl rfl)
theorem dX5_init_162 : decode cX5_init 162 = .ok (.putfield 47, 3) := dk_181 0 47 (dk_at dksX5_init_6 20 rfl rfl)
theorem dX5_init_165 : decode cX5_init 165 = .ok (.aload_n 0, 1) := dk_42 (dk_at dksX5_init_6 23 rfl rfl)
theorem dX5_init_166 : decode cX5_init 166 = .ok (.aload_n 0, 1) := dk_42 (dk_at dksX5_init_7 0 rfl rfl)
theorem dX5_init_167 : decode cX5_init 167 = .ok (.getfield 9, 3) := dk_180 0 9 (dk_at dksX5_init_7 1 rfl rfl)
theorem dX5_init_170 : decode cX5_init 170 = .ok (.putfield 51, 3) := dk_181 0 51 (dk_at dksX5_init_7 4 rfl rfl)
theorem dX5_init_173 : decode cX5_init 173 = .ok (.aload_n 0, 1) := dk_42 (dk_at dksX5_init_7 7 rfl rfl)
theorem dX5_init_174 : decode cX5_init 174 = .ok (.bipush 40, 2) := dk_16 40 (dk_at dksX5_init_7 8 rfl rfl)
theorem dX5_init_176 : decode cX5_init 176 = .ok (.newarray .int, 2) := dk_188_10 (dk_at dksX5_init_7 10 rfl rfl)
theorem dX5_init_178 : decode cX5_init 178 = .ok (.putfield 54, 3) := dk_181 0 54 (dk_at dksX5_init_7 12 rfl rfl)
theorem dX5_init_181 : decode cX5_init 181 = .ok (.aload_n 0, 1) := dk_42 (dk_at dksX5_init_7 15 rfl rfl)
theorem dX5_init_182 : decode cX5_init 182 = .ok (.sipush 700, 3) := dk_17 2 188 (dk_at dksX5_init_7 16 rfl rfl)
theorem dX5_init_185 : decode cX5_init 185 = .ok (.newarray .int, 2) := dk_188_10 (dk_at dksX5_init_7 19 rfl rfl)
theorem dX5_init_187 : decode cX5_init 187 = .ok (.putfield 57, 3) := dk_181 0 57 (dk_at dksX5_init_7 21 rfl rfl)
theorem dX5_init_190 : decode cX5_init 190 = .ok (.aload_n 0, 1) := dk_42 (dk_at dksX5_init_8 0 rfl rfl)
theorem dX5_init_191 : decode cX5_init 191 = .ok (.iconst (-1), 1) := dk_2 (dk_at dksX5_init_8 1 rfl rfl)
theorem dX5_init_192 : decode cX5_init 192 = .ok (.putfield 60, 3) := dk_181 0 60 (dk_at dksX5_init_8 2 rfl rfl)
theorem dX5_init_195 : decode cX5_init 195 = .ok (.aload_n 0, 1) := dk_42 (dk_at dksX5_init_8 5 rfl rfl)
theorem dX5_init_196 : decode cX5_init 196 = .ok (.bipush 80, 2) := dk_16 80 (dk_at dksX5_init_8 6 rfl rfl)
theorem dX5_init_198 : decode cX5_init 198 = .ok (.newarray .int, 2) := dk_188_10 (dk_at dksX5_init_8 8 rfl rfl)
theorem dX5_init_200 : decode cX5_init 200 = .ok (.putfield 64, 3) := dk_181 0 64 (dk_at dksX5_init_8 10 rfl rfl)
theorem dX5_init_203 : decode cX5_init 203 = .ok (.aload_n 0, 1) := dk_42 (dk_at dksX5_init_8 13 rfl rfl)
theorem dX5_init_204 : decode cX5_init 204 = .ok (.bipush 7, 2) := dk_16 7 (dk_at dksX5_init_8 14 rfl rfl)
theorem dX5_init_206 : decode cX5_init 206 = .ok (.anewarray 37, 3) := dk_189 0 37 (dk_at dksX5_init_8 16 rfl rfl)
theorem dX5_init_209 : decode cX5_init 209 = .ok (.dup, 1) := dk_89 (dk_at dksX5_init_8 19 rfl rfl)
theorem dX5_init_210 : decode cX5_init 210 = .ok (.iconst 0, 1) := dk_3 (dk_at dksX5_init_8 20 rfl rfl)
theorem dX5_init_211 : decode cX5_init 211 = .ok (.ldc 67, 2) := dk_18 67 (dk_at dksX5_init_8 21 rfl rfl)
theorem dX5_init_213 : decode cX5_init 213 = .ok (.aastore, 1) := dk_83 (dk_at dksX5_init_8 23 rfl rfl)
theorem dX5_init_214 : decode cX5_init 214 = .ok (.dup, 1) := dk_89 (dk_at dksX5_init_9 0 rfl rfl)
theorem dX5_init_215 : decode cX5_init 215 = .ok (.iconst 1, 1) := dk_4 (dk_at dksX5_init_9 1 rfl rfl)
theorem dX5_init_216 : decode cX5_init 216 = .ok (.ldc 69, 2) := dk_18 69 (dk_at dksX5_init_9 2 rfl rfl)
theorem dX5_init_218 : decode cX5_init 218 = .ok (.aastore, 1) := dk_83 (dk_at dksX5_init_9 4 rfl rfl)
theorem dX5_init_219 : decode cX5_init 219 = .ok (.dup, 1) := dk_89 (dk_at dksX5_init_9 5 rfl rfl)
theorem dX5_init_220 : decode cX5_init 220 = .ok (.iconst 2, 1) := dk_5 (dk_at dksX5_init_9 6 rfl rfl)
theorem dX5_init_221 : decode cX5_init 221 = .ok (.ldc 71, 2) := dk_18 71 (dk_at dksX5_init_9 7 rfl rfl)
theorem dX5_init_223 : decode cX5_init 223 = .ok (.aastore, 1) := dk_83 (dk_at dksX5_init_9 9 rfl rfl)
theorem dX5_init_224 : decode cX5_init 224 = .ok (.dup, 1) := dk_89 (dk_at dksX5_init_9 10 rfl rfl)
theorem dX5_init_225 : decode cX5_init 225 = .ok (.iconst 3, 1) := dk_6 (dk_at dksX5_init_9 11 rfl rfl)
theorem dX5_init_226 : decode cX5_init 226 = .ok (.ldc 73, 2) := dk_18 73 (dk_at dksX5_init_9 12 rfl rfl)
theorem dX5_init_228 : decode cX5_init 228 = .ok (.aastore, 1) := dk_83 (dk_at dksX5_init_9 14 rfl rfl)
theorem dX5_init_229 : decode cX5_init 229 = .ok (.dup, 1) := dk_89 (dk_at dksX5_init_9 15 rfl rfl)
theorem dX5_init_230 : decode cX5_init 230 = .ok (.iconst 4, 1) := dk_7 (dk_at dksX5_init_9 16 rfl rfl)
theorem dX5_init_231 : decode cX5_init 231 = .ok (.ldc 75, 2) := dk_18 75 (dk_at dksX5_init_9 17 rfl rfl)
theorem dX5_init_233 : decode cX5_init 233 = .ok (.aastore, 1) := dk_83 (dk_at dksX5_init_9 19 rfl rfl)
theorem dX5_init_234 : decode cX5_init 234 = .ok (.dup, 1) := dk_89 (dk_at dksX5_init_9 20 rfl rfl)
theorem dX5_init_235 : decode cX5_init 235 = .ok (.iconst 5, 1) := dk_8 (dk_at dksX5_init_9 21 rfl rfl)
theorem dX5_init_236 : decode cX5_init 236 = .ok (.ldc 77, 2) := dk_18 77 (dk_at dksX5_init_9 22 rfl rfl)
theorem dX5_init_238 : decode cX5_init 238 = .ok (.aastore, 1) := dk_83 (dk_at dksX5_init_10 0 rfl rfl)
theorem dX5_init_239 : decode cX5_init 239 = .ok (.dup, 1) := dk_89 (dk_at dksX5_init_10 1 rfl rfl)
theorem dX5_init_240 : decode cX5_init 240 = .ok (.bipush 6, 2) := dk_16 6 (dk_at dksX5_init_10 2 rfl rfl)
theorem dX5_init_242 : decode cX5_init 242 = .ok (.ldc 79, 2) := dk_18 79 (dk_at dksX5_init_10 4 rfl rfl)
theorem dX5_init_244 : decode cX5_init 244 = .ok (.aastore, 1) := dk_83 (dk_at dksX5_init_10 6 rfl rfl)
theorem dX5_init_245 : decode cX5_init 245 = .ok (.putfield 81, 3) := dk_181 0 81 (dk_at dksX5_init_10 7 rfl rfl)
theorem dX5_init_248 : decode cX5_init 248 = .ok (.aload_n 0, 1) := dk_42 (dk_at dksX5_init_10 10 rfl rfl)
theorem dX5_init_249 : decode cX5_init 249 = .ok (.bipush 8, 2) := dk_16 8 (dk_at dksX5_init_10 11 rfl rfl)
theorem dX5_init_251 : decode cX5_init 251 = .ok (.bipush 6, 2) := dk_16 6 (dk_at dksX5_init_10 13 rfl rfl)
theorem dX5_init_253 : decode cX5_init 253 = .ok (.iconst 3, 1) := dk_6 (dk_at dksX5_init_10 15 rfl rfl)
theorem dX5_init_254 : decode cX5_init 254 = .ok (.iconst 3, 1) := dk_6 (dk_at dksX5_init_10 16 rfl rfl)
theorem dX5_init_255 : decode cX5_init 255 = .ok (.invokevirtual 84, 3) := dk_182 0 84 (dk_at dksX5_init_10 17 rfl rfl)
theorem dX5_init_258 : decode cX5_init 258 = .ok (.aload_n 0, 1) := dk_42 (dk_at dksX5_init_10 20 rfl rfl)
theorem dX5_init_259 : decode cX5_init 259 = .ok (.iconst 0, 1) := dk_3 (dk_at dksX5_init_10 21 rfl rfl)
theorem dX5_init_260 : decode cX5_init 260 = .ok (.bipush 100, 2) := dk_16 100 (dk_at dksX5_init_10 22 rfl rfl)
theorem dX5_init_262 : decode cX5_init 262 = .ok (.iconst 4, 1) := dk_7 (dk_at dksX5_init_11 0 rfl rfl)
theorem dX5_init_263 : decode cX5_init 263 = .ok (.iconst 1, 1) := dk_4 (dk_at dksX5_init_11 1 rfl rfl)
theorem dX5_init_264 : decode cX5_init 264 = .ok (.iconst 0, 1) := dk_3 (dk_at dksX5_init_11 2 rfl rfl)
theorem dX5_init_265 : decode cX5_init 265 = .ok (.invokevirtual 88, 3) := dk_182 0 88 (dk_at dksX5_init_11 3 rfl rfl)
theorem dX5_init_268 : decode cX5_init 268 = .ok (.aload_n 0, 1) := dk_42 (dk_at dksX5_init_11 6 rfl rfl)
theorem dX5_init_269 : decode cX5_init 269 = .ok (.iconst 1, 1) := dk_4 (dk_at dksX5_init_11 7 rfl rfl)
theorem dX5_init_270 : decode cX5_init 270 = .ok (.bipush 57, 2) := dk_16 57 (dk_at dksX5_init_11 8 rfl rfl)
theorem dX5_init_272 : decode cX5_init 272 = .ok (.iconst 2, 1) := dk_5 (dk_at dksX5_init_11 10 rfl rfl)
theorem dX5_init_273 : decode cX5_init 273 = .ok (.iconst 2, 1) := dk_5 (dk_at dksX5_init_11 11 rfl rfl)
theorem dX5_init_274 : decode cX5_init 274 = .ok (.iconst 1, 1) := dk_4 (dk_at dksX5_init_11 12 rfl rfl)
theorem dX5_init_275 : decode cX5_init 275 = .ok (.invokevirtual 88, 3) := dk_182 0 88 (dk_at dksX5_init_11 13 rfl rfl)
theorem dX5_init_278 : decode cX5_init 278 = .ok (.aload_n 0, 1) := dk_42 (dk_at dksX5_init_11 16 rfl rfl)
theorem dX5_init_279 : decode cX5_init 279 = .ok (.iconst 2, 1) := dk_5 (dk_at dksX5_init_11 17 rfl rfl)
theorem dX5_init_280 : decode cX5_init 280 = .ok (.bipush 31, 2) := dk_16 31 (dk_at dksX5_init_11 18 rfl rfl)
theorem dX5_init_282 : decode cX5_init 282 = .ok (.iconst 0, 1) := dk_3 (dk_at dksX5_init_11 20 rfl rfl)
theorem dX5_init_283 : decode cX5_init 283 = .ok (.iconst 1, 1) := dk_4 (dk_at dksX5_init_11 21 rfl rfl)
theorem dX5_init_284 : decode cX5_init 284 = .ok (.iconst 0, 1) := dk_3 (dk_at dksX5_init_11 22 rfl rfl)
theorem dX5_init_285 : decode cX5_init 285 = .ok (.invokevirtual 88, 3) := dk_182 0 88 (dk_at dksX5_init_12 0 rfl rfl)
theorem dX5_init_288 : decode cX5_init 288 = .ok (.aload_n 0, 1) := dk_42 (dk_at dksX5_init_12 3 rfl rfl)
theorem dX5_init_289 : decode cX5_init 289 = .ok (.iconst 3, 1) := dk_6 (dk_at dksX5_init_12 4 rfl rfl)
theorem dX5_init_290 : decode cX5_init 290 = .ok (.sipush 999, 3) := dk_17 3 231 (dk_at dksX5_init_12 5 rfl rfl)
theorem dX5_init_293 : decode cX5_init 293 = .ok (.bipush 9, 2) := dk_16 9 (dk_at dksX5_init_12 8 rfl rfl)
theorem dX5_init_295 : decode cX5_init 295 = .ok (.iconst 3, 1) := dk_6 (dk_at dksX5_init_12 10 rfl rfl)
theorem dX5_init_296 : decode cX5_init 296 = .ok (.iconst 2, 1) := dk_5 (dk_at dksX5_init_12 11 rfl rfl)
theorem dX5_init_297 : decode cX5_init 297 = .ok (.invokevirtual 88, 3) := dk_182 0 88 (dk_at dksX5_init_12 12 rfl rfl)
theorem dX5_init_300 : decode cX5_init 300 = .ok (.return_, 1) := dk_177 (dk_at dksX5_init_12 15 rfl rfl)
abbrev cX5_begin : ByteArray := prog_21_method_6_code
def yX5_begin : MethodName := ⟨RX5, "begin", "(IIII)V"⟩
def dkwX5_begin_3 : List UInt8 := [182, 0, 95, 132, 5, 1, 167, 255, 238, 177]
abbrev dktX5_begin_3 : List UInt8 := dkwX5_begin_3 ++ []
def dkwX5_begin_2 : List UInt8 := [42, 180, 0, 51, 7, 21, 4, 79, 3, 54, 5, 21, 5, 21, 4, 162, 0, 17, 42, 21, 5, 4, 2]
abbrev dktX5_begin_2 : List UInt8 := dkwX5_begin_2 ++ dktX5_begin_3
def dkwX5_begin_1 : List UInt8 := [167, 255, 237, 42, 180, 0, 51, 4, 27, 79, 42, 180, 0, 51, 5, 28, 79, 42, 180, 0, 51, 6, 29, 79]
abbrev dktX5_begin_1 : List UInt8 := dkwX5_begin_1 ++ dktX5_begin_2
def dkwX5_begin_0 : List UInt8 := [3, 54, 5, 21, 5, 17, 1, 212, 162, 0, 17, 42, 180, 0, 51, 21, 5, 3, 79, 132, 5, 1]
abbrev dktX5_begin_0 : List UInt8 := dkwX5_begin_0 ++ dktX5_begin_1
theorem dksX5_begin_0 : cX5_begin.data.toList.drop 0 = dktX5_begin_0 := by decide +kernel
theorem dksX5_begin_1 : cX5_begin.data.toList.drop 22 = dktX5_begin_1 := dk_seg dksX5_begin_0 22 rfl rfl
theorem dksX5_begin_2 : cX5_begin.data.toList.drop 46 = dktX5_begin_2 := dk_seg dksX5_begin_1 24 rfl rfl
theorem dksX5_begin_3 : cX5_begin.data.toList.drop 69 = dktX5_begin_3 := dk_seg dksX5_begin_2 23 rfl rfl
theorem dX5_begin_0 : decode cX5_begin 0 = .ok (.iconst 0, 1) := dk_3 (dk_at dksX5_begin_0 0 rfl rfl)
theorem dX5_begin_1 : decode cX5_begin 1 = .ok (.istore 5, 2) := dk_54 5 (dk_at dksX5_begin_0 1 rfl rfl)
theorem dX5_begin_3 : decode cX5_begin 3 = .ok (.iload 5, 2) := dk_21 5 (dk_at dksX5_begin_0 3 rfl rfl)
theorem dX5_begin_5 : decode cX5_begin 5 = .ok (.sipush 468, 3) := dk_17 1 212 (dk_at dksX5_begin_0 5 rfl rfl)
theorem dX5_begin_8 : decode cX5_begin 8 = .ok (.if_icmp .ge 17, 3) := dk_162 0 17 (dk_at dksX5_begin_0 8 rfl rfl)
theorem dX5_begin_11 : decode cX5_begin 11 = .ok (.aload_n 0, 1) := dk_42 (dk_at dksX5_begin_0 11 rfl rfl)
theorem dX5_begin_12 : decode cX5_begin 12 = .ok (.getfield 51, 3) := dk_180 0 51 (dk_at dksX5_begin_0 12 rfl rfl)
theorem dX5_begin_15 : decode cX5_begin 15 = .ok (.iload 5, 2) := dk_21 5 (dk_at dksX5_begin_0 15 rfl rfl)
theorem dX5_begin_17 : decode cX5_begin 17 = .ok (.iconst 0, 1) := dk_3 (dk_at dksX5_begin_0 17 rfl rfl)
theorem dX5_begin_18 : decode cX5_begin 18 = .ok (.iastore, 1) := dk_79 (dk_at dksX5_begin_0 18 rfl rfl)
theorem dX5_begin_19 : decode cX5_begin 19 = .ok (.iinc 5 1, 3) := dk_132 5 1 (dk_at dksX5_begin_0 19 rfl rfl)
theorem dX5_begin_22 : decode cX5_begin 22 = .ok (.goto (-19), 3) := dk_167 255 237 (dk_at dksX5_begin_1 0 rfl rfl)
theorem dX5_begin_25 : decode cX5_begin 25 = .ok (.aload_n 0, 1) := dk_42 (dk_at dksX5_begin_1 3 rfl rfl)
theorem dX5_begin_26 : decode cX5_begin 26 = .ok (.getfield 51, 3) := dk_180 0 51 (dk_at dksX5_begin_1 4 rfl rfl)
theorem dX5_begin_29 : decode cX5_begin 29 = .ok (.iconst 1, 1) := dk_4 (dk_at dksX5_begin_1 7 rfl rfl)
theorem dX5_begin_30 : decode cX5_begin 30 = .ok (.iload_n 1, 1) := dk_27 (dk_at dksX5_begin_1 8 rfl rfl)
theorem dX5_begin_31 : decode cX5_begin 31 = .ok (.iastore, 1) := dk_79 (dk_at dksX5_begin_1 9 rfl rfl)
theorem dX5_begin_32 : decode cX5_begin 32 = .ok (.aload_n 0, 1) := dk_42 (dk_at dksX5_begin_1 10 rfl rfl)
theorem dX5_begin_33 : decode cX5_begin 33 = .ok (.getfield 51, 3) := dk_180 0 51 (dk_at dksX5_begin_1 11 rfl rfl)
theorem dX5_begin_36 : decode cX5_begin 36 = .ok (.iconst 2, 1) := dk_5 (dk_at dksX5_begin_1 14 rfl rfl)
theorem dX5_begin_37 : decode cX5_begin 37 = .ok (.iload_n 2, 1) := dk_28 (dk_at dksX5_begin_1 15 rfl rfl)
theorem dX5_begin_38 : decode cX5_begin 38 = .ok (.iastore, 1) := dk_79 (dk_at dksX5_begin_1 16 rfl rfl)
theorem dX5_begin_39 : decode cX5_begin 39 = .ok (.aload_n 0, 1) := dk_42 (dk_at dksX5_begin_1 17 rfl rfl)
theorem dX5_begin_40 : decode cX5_begin 40 = .ok (.getfield 51, 3) := dk_180 0 51 (dk_at dksX5_begin_1 18 rfl rfl)
theorem dX5_begin_43 : decode cX5_begin 43 = .ok (.iconst 3, 1) := dk_6 (dk_at dksX5_begin_1 21 rfl rfl)
theorem dX5_begin_44 : decode cX5_begin 44 = .ok (.iload_n 3, 1) := dk_29 (dk_at dksX5_begin_1 22 rfl rfl)
theorem dX5_begin_45 : decode cX5_begin 45 = .ok (.iastore, 1) := dk_79 (dk_at dksX5_begin_1 23 rfl rfl)
theorem dX5_begin_46 : decode cX5_begin 46 = .ok (.aload_n 0, 1) := dk_42 (dk_at dksX5_begin_2 0 rfl rfl)
theorem dX5_begin_47 : decode cX5_begin 47 = .ok (.getfield 51, 3) := dk_180 0 51 (dk_at dksX5_begin_2 1 rfl rfl)
theorem dX5_begin_50 : decode cX5_begin 50 = .ok (.iconst 4, 1) := dk_7 (dk_at dksX5_begin_2 4 rfl rfl)
theorem dX5_begin_51 : decode cX5_begin 51 = .ok (.iload 4, 2) := dk_21 4 (dk_at dksX5_begin_2 5 rfl rfl)
theorem dX5_begin_53 : decode cX5_begin 53 = .ok (.iastore, 1) := dk_79 (dk_at dksX5_begin_2 7 rfl rfl)
theorem dX5_begin_54 : decode cX5_begin 54 = .ok (.iconst 0, 1) := dk_3 (dk_at dksX5_begin_2 8 rfl rfl)
theorem dX5_begin_55 : decode cX5_begin 55 = .ok (.istore 5, 2) := dk_54 5 (dk_at dksX5_begin_2 9 rfl rfl)
theorem dX5_begin_57 : decode cX5_begin 57 = .ok (.iload 5, 2) := dk_21 5 (dk_at dksX5_begin_2 11 rfl rfl)
theorem dX5_begin_59 : decode cX5_begin 59 = .ok (.iload 4, 2) := dk_21 4 (dk_at dksX5_begin_2 13 rfl rfl)
theorem dX5_begin_61 : decode cX5_begin 61 = .ok (.if_icmp .ge 17, 3) := dk_162 0 17 (dk_at dksX5_begin_2 15 rfl rfl)
theorem dX5_begin_64 : decode cX5_begin 64 = .ok (.aload_n 0, 1) := dk_42 (dk_at dksX5_begin_2 18 rfl rfl)
theorem dX5_begin_65 : decode cX5_begin 65 = .ok (.iload 5, 2) := dk_21 5 (dk_at dksX5_begin_2 19 rfl rfl)
theorem dX5_begin_67 : decode cX5_begin 67 = .ok (.iconst 1, 1) := dk_4 (dk_at dksX5_begin_2 21 rfl rfl)
theorem dX5_begin_68 : decode cX5_begin 68 = .ok (.iconst (-1), 1) := dk_2 (dk_at dksX5_begin_2 22 rfl rfl)
theorem dX5_begin_69 : decode cX5_begin 69 = .ok (.invokevirtual 95, 3) := dk_182 0 95 (dk_at dksX5_begin_3 0 rfl rfl)
theorem dX5_begin_72 : decode cX5_begin 72 = .ok (.iinc 5 1, 3) := dk_132 5 1 (dk_at dksX5_begin_3 3 rfl rfl)
theorem dX5_begin_75 : decode cX5_begin 75 = .ok (.goto (-18), 3) := dk_167 255 238 (dk_at dksX5_begin_3 6 rfl rfl)
theorem dX5_begin_78 : decode cX5_begin 78 = .ok (.return_, 1) := dk_177 (dk_at dksX5_begin_3 9 rfl rfl)
abbrev cX5_layFinder : ByteArray := prog_21_method_10_code
def yX5_layFinder : MethodName := ⟨RX5, "layFinder", "(III)V"⟩
def dkwX5_layFinder_0 : List UInt8 := [42, 180, 0, 51, 16, 20, 5, 27, 104, 96, 28, 96, 29, 79, 177]
abbrev dktX5_layFinder_0 : List UInt8 := dkwX5_layFinder_0 ++ []
theorem dksX5_layFinder_0 : cX5_layFinder.data.toList.drop 0 = dktX5_layFinder_0 := by decide +kernel
theorem dX5_layFinder_0 : decode cX5_layFinder 0 = .ok (.aload_n 0, 1) := dk_42 (dk_at dksX5_layFinder_0 0 rfl rfl)
theorem dX5_layFinder_1 : decode cX5_layFinder 1 = .ok (.getfield 51, 3) := dk_180 0 51 (dk_at dksX5_layFinder_0 1 rfl rfl)
theorem dX5_layFinder_4 : decode cX5_layFinder 4 = .ok (.bipush 20, 2) := dk_16 20 (dk_at dksX5_layFinder_0 4 rfl rfl)
theorem dX5_layFinder_6 : decode cX5_layFinder 6 = .ok (.iconst 2, 1) := dk_5 (dk_at dksX5_layFinder_0 6 rfl rfl)
theorem dX5_layFinder_7 : decode cX5_layFinder 7 = .ok (.iload_n 1, 1) := dk_27 (dk_at dksX5_layFinder_0 7 rfl rfl)
theorem dX5_layFinder_8 : decode cX5_layFinder 8 = .ok (.imul, 1) := dk_104 (dk_at dksX5_layFinder_0 8 rfl rfl)
theorem dX5_layFinder_9 : decode cX5_layFinder 9 = .ok (.iadd, 1) := dk_96 (dk_at dksX5_layFinder_0 9 rfl rfl)
theorem dX5_layFinder_10 : decode cX5_layFinder 10 = .ok (.iload_n 2, 1) := dk_28 (dk_at dksX5_layFinder_0 10 rfl rfl)
theorem dX5_layFinder_11 : decode cX5_layFinder 11 = .ok (.iadd, 1) := dk_96 (dk_at dksX5_layFinder_0 11 rfl rfl)
theorem dX5_layFinder_12 : decode cX5_layFinder 12 = .ok (.iload_n 3, 1) := dk_29 (dk_at dksX5_layFinder_0 12 rfl rfl)
theorem dX5_layFinder_13 : decode cX5_layFinder 13 = .ok (.iastore, 1) := dk_79 (dk_at dksX5_layFinder_0 13 rfl rfl)
theorem dX5_layFinder_14 : decode cX5_layFinder 14 = .ok (.return_, 1) := dk_177 (dk_at dksX5_layFinder_0 14 rfl rfl)
abbrev cX5_addGood : ByteArray := prog_21_method_13_code
def yX5_addGood : MethodName := ⟨RX5, "addGood", "(IIIII)V"⟩
def dkwX5_addGood_2 : List UInt8 := [21, 4, 182, 0, 99, 42, 21, 6, 5, 21, 5, 182, 0, 99, 42, 21, 6, 16, 7, 2, 182, 0, 99, 177]
abbrev dktX5_addGood_2 : List UInt8 := dkwX5_addGood_2 ++ []
def dkwX5_addGood_1 : List UInt8 := [182, 0, 99, 42, 21, 6, 4, 28, 182, 0, 99, 42, 21, 6, 6, 29, 182, 0, 99, 42, 21, 6, 7]
abbrev dktX5_addGood_1 : List UInt8 := dkwX5_addGood_1 ++ dktX5_addGood_2
def dkwX5_addGood_0 : List UInt8 := [42, 180, 0, 51, 8, 46, 54, 6, 42, 180, 0, 51, 8, 92, 46, 4, 96, 79, 42, 21, 6, 3, 27]
abbrev dktX5_addGood_0 : List UInt8 := dkwX5_addGood_0 ++ dktX5_addGood_1
theorem dksX5_addGood_0 : cX5_addGood.data.toList.drop 0 = dktX5_addGood_0 := by decide +kernel
theorem dksX5_addGood_1 : cX5_addGood.data.toList.drop 23 = dktX5_addGood_1 := dk_seg dksX5_addGood_0 23 rfl rfl
theorem dksX5_addGood_2 : cX5_addGood.data.toList.drop 46 = dktX5_addGood_2 := dk_seg dksX5_addGood_1 23 rfl rfl
theorem dX5_addGood_0 : decode cX5_addGood 0 = .ok (.aload_n 0, 1) := dk_42 (dk_at dksX5_addGood_0 0 rfl rfl)
theorem dX5_addGood_1 : decode cX5_addGood 1 = .ok (.getfield 51, 3) := dk_180 0 51 (dk_at dksX5_addGood_0 1 rfl rfl)
theorem dX5_addGood_4 : decode cX5_addGood 4 = .ok (.iconst 5, 1) := dk_8 (dk_at dksX5_addGood_0 4 rfl rfl)
theorem dX5_addGood_5 : decode cX5_addGood 5 = .ok (.iaload, 1) := dk_46 (dk_at dksX5_addGood_0 5 rfl rfl)
theorem dX5_addGood_6 : decode cX5_addGood 6 = .ok (.istore 6, 2) := dk_54 6 (dk_at dksX5_addGood_0 6 rfl rfl)
theorem dX5_addGood_8 : decode cX5_addGood 8 = .ok (.aload_n 0, 1) := dk_42 (dk_at dksX5_addGood_0 8 rfl rfl)
theorem dX5_addGood_9 : decode cX5_addGood 9 = .ok (.getfield 51, 3) := dk_180 0 51 (dk_at dksX5_addGood_0 9 rfl rfl)
theorem dX5_addGood_12 : decode cX5_addGood 12 = .ok (.iconst 5, 1) := dk_8 (dk_at dksX5_addGood_0 12 rfl rfl)
theorem dX5_addGood_13 : decode cX5_addGood 13 = .ok (.dup2, 1) := dk_92 (dk_at dksX5_addGood_0 13 rfl rfl)
theorem dX5_addGood_14 : decode cX5_addGood 14 = .ok (.iaload, 1) := dk_46 (dk_at dksX5_addGood_0 14 rfl rfl)
theorem dX5_addGood_15 : decode cX5_addGood 15 = .ok (.iconst 1, 1) := dk_4 (dk_at dksX5_addGood_0 15 rfl rfl)
theorem dX5_addGood_16 : decode cX5_addGood 16 = .ok (.iadd, 1) := dk_96 (dk_at dksX5_addGood_0 16 rfl rfl)
theorem dX5_addGood_17 : decode cX5_addGood 17 = .ok (.iastore, 1) := dk_79 (dk_at dksX5_addGood_0 17 rfl rfl)
theorem dX5_addGood_18 : decode cX5_addGood 18 = .ok (.aload_n 0, 1) := dk_42 (dk_at dksX5_addGood_0 18 rfl rfl)
theorem dX5_addGood_19 : decode cX5_addGood 19 = .ok (.iload 6, 2) := dk_21 6 (dk_at dksX5_addGood_0 19 rfl rfl)
theorem dX5_addGood_21 : decode cX5_addGood 21 = .ok (.iconst 0, 1) := dk_3 (dk_at dksX5_addGood_0 21 rfl rfl)
theorem dX5_addGood_22 : decode cX5_addGood 22 = .ok (.iload_n 1, 1) := dk_27 (dk_at dksX5_addGood_0 22 rfl rfl)
theorem dX5_addGood_23 : decode cX5_addGood 23 = .ok (.invokevirtual 99, 3) := dk_182 0 99 (dk_at dksX5_addGood_1 0 rfl rfl)
theorem dX5_addGood_26 : decode cX5_addGood 26 = .ok (.aload_n 0, 1) := dk_42 (dk_at dksX5_addGood_1 3 rfl rfl)
theorem dX5_addGood_27 : decode cX5_addGood 27 = .ok (.iload 6, 2) := dk_21 6 (dk_at dksX5_addGood_1 4 rfl rfl)
theorem dX5_addGood_29 : decode cX5_addGood 29 = .ok (.iconst 1, 1) := dk_4 (dk_at dksX5_addGood_1 6 rfl rfl)
theorem dX5_addGood_30 : decode cX5_addGood 30 = .ok (.iload_n 2, 1) := dk_28 (dk_at dksX5_addGood_1 7 rfl rfl)
theorem dX5_addGood_31 : decode cX5_addGood 31 = .ok (.invokevirtual 99, 3) := dk_182 0 99 (dk_at dksX5_addGood_1 8 rfl rfl)
theorem dX5_addGood_34 : decode cX5_addGood 34 = .ok (.aload_n 0, 1) := dk_42 (dk_at dksX5_addGood_1 11 rfl rfl)
theorem dX5_addGood_35 : decode cX5_addGood 35 = .ok (.iload 6, 2) := dk_21 6 (dk_at dksX5_addGood_1 12 rfl rfl)
theorem dX5_addGood_37 : decode cX5_addGood 37 = .ok (.iconst 3, 1) := dk_6 (dk_at dksX5_addGood_1 14 rfl rfl)
theorem dX5_addGood_38 : decode cX5_addGood 38 = .ok (.iload_n 3, 1) := dk_29 (dk_at dksX5_addGood_1 15 rfl rfl)
theorem dX5_addGood_39 : decode cX5_addGood 39 = .ok (.invokevirtual 99, 3) := dk_182 0 99 (dk_at dksX5_addGood_1 16 rfl rfl)
theorem dX5_addGood_42 : decode cX5_addGood 42 = .ok (.aload_n 0, 1) := dk_42 (dk_at dksX5_addGood_1 19 rfl rfl)
theorem dX5_addGood_43 : decode cX5_addGood 43 = .ok (.iload 6, 2) := dk_21 6 (dk_at dksX5_addGood_1 20 rfl rfl)
theorem dX5_addGood_45 : decode cX5_addGood 45 = .ok (.iconst 4, 1) := dk_7 (dk_at dksX5_addGood_1 22 rfl rfl)
theorem dX5_addGood_46 : decode cX5_addGood 46 = .ok (.iload 4, 2) := dk_21 4 (dk_at dksX5_addGood_2 0 rfl rfl)
theorem dX5_addGood_48 : decode cX5_addGood 48 = .ok (.invokevirtual 99, 3) := dk_182 0 99 (dk_at dksX5_addGood_2 2 rfl rfl)
theorem dX5_addGood_51 : decode cX5_addGood 51 = .ok (.aload_n 0, 1) := dk_42 (dk_at dksX5_addGood_2 5 rfl rfl)
theorem dX5_addGood_52 : decode cX5_addGood 52 = .ok (.iload 6, 2) := dk_21 6 (dk_at dksX5_addGood_2 6 rfl rfl)
theorem dX5_addGood_54 : decode cX5_addGood 54 = .ok (.iconst 2, 1) := dk_5 (dk_at dksX5_addGood_2 8 rfl rfl)
theorem dX5_addGood_55 : decode cX5_addGood 55 = .ok (.iload 5, 2) := dk_21 5 (dk_at dksX5_addGood_2 9 rfl rfl)
theorem dX5_addGood_57 : decode cX5_addGood 57 = .ok (.invokevirtual 99, 3) := dk_182 0 99 (dk_at dksX5_addGood_2 11 rfl rfl)
theorem dX5_addGood_60 : decode cX5_addGood 60 = .ok (.aload_n 0, 1) := dk_42 (dk_at dksX5_addGood_2 14 rfl rfl)
theorem dX5_addGood_61 : decode cX5_addGood 61 = .ok (.iload 6, 2) := dk_21 6 (dk_at dksX5_addGood_2 15 rfl rfl)
theorem dX5_addGood_63 : decode cX5_addGood 63 = .ok (.bipush 7, 2) := dk_16 7 (dk_at dksX5_addGood_2 17 rfl rfl)
theorem dX5_addGood_65 : decode cX5_addGood 65 = .ok (.iconst (-1), 1) := dk_2 (dk_at dksX5_addGood_2 19 rfl rfl)
theorem dX5_addGood_66 : decode cX5_addGood 66 = .ok (.invokevirtual 99, 3) := dk_182 0 99 (dk_at dksX5_addGood_2 20 rfl rfl)
theorem dX5_addGood_69 : decode cX5_addGood 69 = .ok (.return_, 1) := dk_177 (dk_at dksX5_addGood_2 23 rfl rfl)
abbrev cX5_lay : ByteArray := prog_21_method_12_code
def yX5_lay : MethodName := ⟨RX5, "lay", "(III)V"⟩
def dkwX5_lay_0 : List UInt8 := [42, 180, 0, 51, 16, 36, 16, 18, 27, 104, 96, 28, 96, 29, 79, 177]
abbrev dktX5_lay_0 : List UInt8 := dkwX5_lay_0 ++ []
theorem dksX5_lay_0 : cX5_lay.data.toList.drop 0 = dktX5_lay_0 := by decide +kernel
theorem dX5_lay_0 : decode cX5_lay 0 = .ok (.aload_n 0, 1) := dk_42 (dk_at dksX5_lay_0 0 rfl rfl)
theorem dX5_lay_1 : decode cX5_lay 1 = .ok (.getfield 51, 3) := dk_180 0 51 (dk_at dksX5_lay_0 1 rfl rfl)
theorem dX5_lay_4 : decode cX5_lay 4 = .ok (.bipush 36, 2) := dk_16 36 (dk_at dksX5_lay_0 4 rfl rfl)
theorem dX5_lay_6 : decode cX5_lay 6 = .ok (.bipush 18, 2) := dk_16 18 (dk_at dksX5_lay_0 6 rfl rfl)
theorem dX5_lay_8 : decode cX5_lay 8 = .ok (.iload_n 1, 1) := dk_27 (dk_at dksX5_lay_0 8 rfl rfl)
theorem dX5_lay_9 : decode cX5_lay 9 = .ok (.imul, 1) := dk_104 (dk_at dksX5_lay_0 9 rfl rfl)
theorem dX5_lay_10 : decode cX5_lay 10 = .ok (.iadd, 1) := dk_96 (dk_at dksX5_lay_0 10 rfl rfl)
theorem dX5_lay_11 : decode cX5_lay 11 = .ok (.iload_n 2, 1) := dk_28 (dk_at dksX5_lay_0 11 rfl rfl)
theorem dX5_lay_12 : decode cX5_lay 12 = .ok (.iadd, 1) := dk_96 (dk_at dksX5_lay_0 12 rfl rfl)
theorem dX5_lay_13 : decode cX5_lay 13 = .ok (.iload_n 3, 1) := dk_29 (dk_at dksX5_lay_0 13 rfl rfl)
theorem dX5_lay_14 : decode cX5_lay 14 = .ok (.iastore, 1) := dk_79 (dk_at dksX5_lay_0 14 rfl rfl)
theorem dX5_lay_15 : decode cX5_lay 15 = .ok (.return_, 1) := dk_177 (dk_at dksX5_lay_0 15 rfl rfl)
abbrev cX5_thrown : ByteArray := prog_21_method_2_code
def yX5_thrown : MethodName := ⟨RX5, "thrown", "()I"⟩
theorem dX5_thrown_0 : decode cX5_thrown 0 = .ok (.aload_n 0, 1) := by decide +kernel
theorem dX5_thrown_1 : decode cX5_thrown 1 = .ok (.getfield 92, 3) := by decide +kernel
theorem dX5_thrown_4 : decode cX5_thrown 4 = .ok (.ireturn, 1) := by decide +kernel
abbrev cX5_size : ByteArray := prog_21_method_45_code
def yX5_size : MethodName := ⟨RX5, "size", "(I)I"⟩
def dkwX5_size_3 : List UInt8 := [180, 0, 51, 16, 6, 46, 172, 42, 182, 0, 180, 172, 42, 182, 0, 184, 172, 42, 180, 0, 51, 27, 46, 172]
abbrev dktX5_size_3 : List UInt8 := dkwX5_size_3 ++ []
def dkwX5_size_2 : List UInt8 := [42, 42, 180, 0, 51, 3, 46, 182, 0, 110, 172, 42, 3, 182, 0, 177, 172, 42, 4, 182, 0, 177, 172, 42]
abbrev dktX5_size_2 : List UInt8 := dkwX5_size_2 ++ dktX5_size_3
def dkwX5_size_1 : List UInt8 := [170, 0, 0, 0, 0, 0, 80, 0, 0, 0, 6, 0, 0, 0, 11, 0, 0, 0, 39, 0, 0, 0, 50, 0, 0, 0, 56, 0, 0, 0, 62, 0, 0, 0, 70, 0, 0, 0, 75]
abbrev dktX5_size_1 : List UInt8 := dkwX5_size_1 ++ dktX5_size_2
def dkwX5_size_0 : List UInt8 := [42, 27, 3, 16, 11, 184, 0, 102, 182, 0, 173, 153, 0, 5, 3, 172, 27]
abbrev dktX5_size_0 : List UInt8 := dkwX5_size_0 ++ dktX5_size_1
theorem dksX5_size_0 : cX5_size.data.toList.drop 0 = dktX5_size_0 := by decide +kernel
theorem dksX5_size_1 : cX5_size.data.toList.drop 17 = dktX5_size_1 := dk_seg dksX5_size_0 17 rfl rfl
theorem dksX5_size_2 : cX5_size.data.toList.drop 56 = dktX5_size_2 := dk_seg dksX5_size_1 39 rfl rfl
theorem dksX5_size_3 : cX5_size.data.toList.drop 80 = dktX5_size_3 := dk_seg dksX5_size_2 24 rfl rfl
theorem dX5_size_0 : decode cX5_size 0 = .ok (.aload_n 0, 1) := dk_42 (dk_at dksX5_size_0 0 rfl rfl)
theorem dX5_size_1 : decode cX5_size 1 = .ok (.iload_n 1, 1) := dk_27 (dk_at dksX5_size_0 1 rfl rfl)
theorem dX5_size_2 : decode cX5_size 2 = .ok (.iconst 0, 1) := dk_3 (dk_at dksX5_size_0 2 rfl rfl)
theorem dX5_size_3 : decode cX5_size 3 = .ok (.bipush 11, 2) := dk_16 11 (dk_at dksX5_size_0 3 rfl rfl)
theorem dX5_size_5 : decode cX5_size 5 = .ok (.invokestatic 102, 3) := dk_184 0 102 (dk_at dksX5_size_0 5 rfl rfl)
theorem dX5_size_8 : decode cX5_size 8 = .ok (.invokevirtual 173, 3) := dk_182 0 173 (dk_at dksX5_size_0 8 rfl rfl)
theorem dX5_size_11 : decode cX5_size 11 = .ok (.ifCond .eq 5, 3) := dk_153 0 5 (dk_at dksX5_size_0 11 rfl rfl)
theorem dX5_size_14 : decode cX5_size 14 = .ok (.iconst 0, 1) := dk_3 (dk_at dksX5_size_0 14 rfl rfl)
theorem dX5_size_15 : decode cX5_size 15 = .ok (.ireturn, 1) := dk_172 (dk_at dksX5_size_0 15 rfl rfl)
theorem dX5_size_16 : decode cX5_size 16 = .ok (.iload_n 1, 1) := dk_27 (dk_at dksX5_size_0 16 rfl rfl)
theorem dX5_size_17 : decode cX5_size 17 = .ok (.tableswitch 80 6 11 #[39, 50, 56, 62, 70, 75], 39) := by decide +kernel
theorem dX5_size_56 : decode cX5_size 56 = .ok (.aload_n 0, 1) := dk_42 (dk_at dksX5_size_2 0 rfl rfl)
theorem dX5_size_57 : decode cX5_size 57 = .ok (.aload_n 0, 1) := dk_42 (dk_at dksX5_size_2 1 rfl rfl)
theorem dX5_size_58 : decode cX5_size 58 = .ok (.getfield 51, 3) := dk_180 0 51 (dk_at dksX5_size_2 2 rfl rfl)
theorem dX5_size_61 : decode cX5_size 61 = .ok (.iconst 0, 1) := dk_3 (dk_at dksX5_size_2 5 rfl rfl)
theorem dX5_size_62 : decode cX5_size 62 = .ok (.iaload, 1) := dk_46 (dk_at dksX5_size_2 6 rfl rfl)
theorem dX5_size_63 : decode cX5_size 63 = .ok (.invokevirtual 110, 3) := dk_182 0 110 (dk_at dksX5_size_2 7 rfl rfl)
theorem dX5_size_66 : decode cX5_size 66 = .ok (.ireturn, 1) := dk_172 (dk_at dksX5_size_2 10 rfl rfl)
theorem dX5_size_67 : decode cX5_size 67 = .ok (.aload_n 0, 1) := dk_42 (dk_at dksX5_size_2 11 rfl rfl)
theorem dX5_size_68 : decode cX5_size 68 = .ok (.iconst 0, 1) := dk_3 (dk_at dksX5_size_2 12 rfl rfl)
theorem dX5_size_69 : decode cX5_size 69 = .ok (.invokevirtual 177, 3) := dk_182 0 177 (dk_at dksX5_size_2 13 rfl rfl)
theorem dX5_size_72 : decode cX5_size 72 = .ok (.ireturn, 1) := dk_172 (dk_at dksX5_size_2 16 rfl rfl)
theorem dX5_size_73 : decode cX5_size 73 = .ok (.aload_n 0, 1) := dk_42 (dk_at dksX5_size_2 17 rfl rfl)
theorem dX5_size_74 : decode cX5_size 74 = .ok (.iconst 1, 1) := dk_4 (dk_at dksX5_size_2 18 rfl rfl)
theorem dX5_size_75 : decode cX5_size 75 = .ok (.invokevirtual 177, 3) := dk_182 0 177 (dk_at dksX5_size_2 19 rfl rfl)
theorem dX5_size_78 : decode cX5_size 78 = .ok (.ireturn, 1) := dk_172 (dk_at dksX5_size_2 22 rfl rfl)
theorem dX5_size_79 : decode cX5_size 79 = .ok (.aload_n 0, 1) := dk_42 (dk_at dksX5_size_2 23 rfl rfl)
theorem dX5_size_80 : decode cX5_size 80 = .ok (.getfield 51, 3) := dk_180 0 51 (dk_at dksX5_size_3 0 rfl rfl)
theorem dX5_size_83 : decode cX5_size 83 = .ok (.bipush 6, 2) := dk_16 6 (dk_at dksX5_size_3 3 rfl rfl)
theorem dX5_size_85 : decode cX5_size 85 = .ok (.iaload, 1) := dk_46 (dk_at dksX5_size_3 5 rfl rfl)
theorem dX5_size_86 : decode cX5_size 86 = .ok (.ireturn, 1) := dk_172 (dk_at dksX5_size_3 6 rfl rfl)
theorem dX5_size_87 : decode cX5_size 87 = .ok (.aload_n 0, 1) := dk_42 (dk_at dksX5_size_3 7 rfl rfl)
theorem dX5_size_88 : decode cX5_size 88 = .ok (.invokevirtual 180, 3) := dk_182 0 180 (dk_at dksX5_size_3 8 rfl rfl)
theorem dX5_size_91 : decode cX5_size 91 = .ok (.ireturn, 1) := dk_172 (dk_at dksX5_size_3 11 rfl rfl)
theorem dX5_size_92 : decode cX5_size 92 = .ok (.aload_n 0, 1) := dk_42 (dk_at dksX5_size_3 12 rfl rfl)
theorem dX5_size_93 : decode cX5_size 93 = .ok (.invokevirtual 184, 3) := dk_182 0 184 (dk_at dksX5_size_3 13 rfl rfl)
theorem dX5_size_96 : decode cX5_size 96 = .ok (.ireturn, 1) := dk_172 (dk_at dksX5_size_3 16 rfl rfl)
theorem dX5_size_97 : decode cX5_size 97 = .ok (.aload_n 0, 1) := dk_42 (dk_at dksX5_size_3 17 rfl rfl)
theorem dX5_size_98 : decode cX5_size 98 = .ok (.getfield 51, 3) := dk_180 0 51 (dk_at dksX5_size_3 18 rfl rfl)
theorem dX5_size_101 : decode cX5_size 101 = .ok (.iload_n 1, 1) := dk_27 (dk_at dksX5_size_3 21 rfl rfl)
theorem dX5_size_102 : decode cX5_size 102 = .ok (.iaload, 1) := dk_46 (dk_at dksX5_size_3 22 rfl rfl)
theorem dX5_size_103 : decode cX5_size 103 = .ok (.ireturn, 1) := dk_172 (dk_at dksX5_size_3 23 rfl rfl)
abbrev cX5_inRange : ByteArray := prog_21_method_4_code
def yX5_inRange : MethodName := ⟨RX5, "inRange", "(III)Z"⟩
def dkwX5_inRange_0 : List UInt8 := [26, 27, 161, 0, 12, 26, 28, 163, 0, 7, 4, 167, 0, 4, 3, 172]
abbrev dktX5_inRange_0 : List UInt8 := dkwX5_inRange_0 ++ []
theorem dksX5_inRange_0 : cX5_inRange.data.toList.drop 0 = dktX5_inRange_0 := by decide +kernel
theorem dX5_inRange_0 : decode cX5_inRange 0 = .ok (.iload_n 0, 1) := dk_26 (dk_at dksX5_inRange_0 0 rfl rfl)
theorem dX5_inRange_1 : decode cX5_inRange 1 = .ok (.iload_n 1, 1) := dk_27 (dk_at dksX5_inRange_0 1 rfl rfl)
theorem dX5_inRange_2 : decode cX5_inRange 2 = .ok (.if_icmp .lt 12, 3) := dk_161 0 12 (dk_at dksX5_inRange_0 2 rfl rfl)
theorem dX5_inRange_5 : decode cX5_inRange 5 = .ok (.iload_n 0, 1) := dk_26 (dk_at dksX5_inRange_0 5 rfl rfl)
theorem dX5_inRange_6 : decode cX5_inRange 6 = .ok (.iload_n 2, 1) := dk_28 (dk_at dksX5_inRange_0 6 rfl rfl)
theorem dX5_inRange_7 : decode cX5_inRange 7 = .ok (.if_icmp .gt 7, 3) := dk_163 0 7 (dk_at dksX5_inRange_0 7 rfl rfl)
theorem dX5_inRange_10 : decode cX5_inRange 10 = .ok (.iconst 1, 1) := dk_4 (dk_at dksX5_inRange_0 10 rfl rfl)
theorem dX5_inRange_11 : decode cX5_inRange 11 = .ok (.goto 4, 3) := dk_167 0 4 (dk_at dksX5_inRange_0 11 rfl rfl)
theorem dX5_inRange_14 : decode cX5_inRange 14 = .ok (.iconst 0, 1) := dk_3 (dk_at dksX5_inRange_0 14 rfl rfl)
theorem dX5_inRange_15 : decode cX5_inRange 15 = .ok (.ireturn, 1) := dk_172 (dk_at dksX5_inRange_0 15 rfl rfl)
abbrev cX5_lacks : ByteArray := prog_21_method_5_code
def yX5_lacks : MethodName := ⟨RX5, "lacks", "(Z)Z"⟩
def dkwX5_lacks_0 : List UInt8 := [42, 27, 153, 0, 7, 3, 167, 0, 4, 4, 181, 0, 92, 27, 154, 0, 7, 4, 167, 0, 4, 3, 172]
abbrev dktX5_lacks_0 : List UInt8 := dkwX5_lacks_0 ++ []
theorem dksX5_lacks_0 : cX5_lacks.data.toList.drop 0 = dktX5_lacks_0 := by decide +kernel
theorem dX5_lacks_0 : decode cX5_lacks 0 = .ok (.aload_n 0, 1) := dk_42 (dk_at dksX5_lacks_0 0 rfl rfl)
theorem dX5_lacks_1 : decode cX5_lacks 1 = .ok (.iload_n 1, 1) := dk_27 (dk_at dksX5_lacks_0 1 rfl rfl)
theorem dX5_lacks_2 : decode cX5_lacks 2 = .ok (.ifCond .eq 7, 3) := dk_153 0 7 (dk_at dksX5_lacks_0 2 rfl rfl)
theorem dX5_lacks_5 : decode cX5_lacks 5 = .ok (.iconst 0, 1) := dk_3 (dk_at dksX5_lacks_0 5 rfl rfl)
theorem dX5_lacks_6 : decode cX5_lacks 6 = .ok (.goto 4, 3) := dk_167 0 4 (dk_at dksX5_lacks_0 6 rfl rfl)
theorem dX5_lacks_9 : decode cX5_lacks 9 = .ok (.iconst 1, 1) := dk_4 (dk_at dksX5_lacks_0 9 rfl rfl)
theorem dX5_lacks_10 : decode cX5_lacks 10 = .ok (.putfield 92, 3) := dk_181 0 92 (dk_at dksX5_lacks_0 10 rfl rfl)
theorem dX5_lacks_13 : decode cX5_lacks 13 = .ok (.iload_n 1, 1) := dk_27 (dk_at dksX5_lacks_0 13 rfl rfl)
theorem dX5_lacks_14 : decode cX5_lacks 14 = .ok (.ifCond .ne 7, 3) := dk_154 0 7 (dk_at dksX5_lacks_0 14 rfl rfl)
theorem dX5_lacks_17 : decode cX5_lacks 17 = .ok (.iconst 1, 1) := dk_4 (dk_at dksX5_lacks_0 17 rfl rfl)
theorem dX5_lacks_18 : decode cX5_lacks 18 = .ok (.goto 4, 3) := dk_167 0 4 (dk_at dksX5_lacks_0 18 rfl rfl)
theorem dX5_lacks_21 : decode cX5_lacks 21 = .ok (.iconst 0, 1) := dk_3 (dk_at dksX5_lacks_0 21 rfl rfl)
theorem dX5_lacks_22 : decode cX5_lacks 22 = .ok (.ireturn, 1) := dk_172 (dk_at dksX5_lacks_0 22 rfl rfl)
abbrev cX5_levelAt : ByteArray := prog_21_method_17_code
def yX5_levelAt : MethodName := ⟨RX5, "levelAt", "(I)I"⟩
def dkwX5_levelAt_1 : List UInt8 := [167, 0, 11, 42, 180, 0, 51, 4, 46, 28, 100, 62, 16, 18, 29, 104, 42, 180, 0, 51, 4, 46, 108, 172]
abbrev dktX5_levelAt_1 : List UInt8 := dkwX5_levelAt_1 ++ []
def dkwX5_levelAt_0 : List UInt8 := [27, 42, 180, 0, 51, 4, 46, 112, 61, 28, 42, 180, 0, 51, 4, 46, 28, 100, 162, 0, 7, 28]
abbrev dktX5_levelAt_0 : List UInt8 := dkwX5_levelAt_0 ++ dktX5_levelAt_1
theorem dksX5_levelAt_0 : cX5_levelAt.data.toList.drop 0 = dktX5_levelAt_0 := by decide +kernel
theorem dksX5_levelAt_1 : cX5_levelAt.data.toList.drop 22 = dktX5_levelAt_1 := dk_seg dksX5_levelAt_0 22 rfl rfl
theorem dX5_levelAt_0 : decode cX5_levelAt 0 = .ok (.iload_n 1, 1) := dk_27 (dk_at dksX5_levelAt_0 0 rfl rfl)
theorem dX5_levelAt_1 : decode cX5_levelAt 1 = .ok (.aload_n 0, 1) := dk_42 (dk_at dksX5_levelAt_0 1 rfl rfl)
theorem dX5_levelAt_2 : decode cX5_levelAt 2 = .ok (.getfield 51, 3) := dk_180 0 51 (dk_at dksX5_levelAt_0 2 rfl rfl)
theorem dX5_levelAt_5 : decode cX5_levelAt 5 = .ok (.iconst 1, 1) := dk_4 (dk_at dksX5_levelAt_0 5 rfl rfl)
theorem dX5_levelAt_6 : decode cX5_levelAt 6 = .ok (.iaload, 1) := dk_46 (dk_at dksX5_levelAt_0 6 rfl rfl)
theorem dX5_levelAt_7 : decode cX5_levelAt 7 = .ok (.irem, 1) := dk_112 (dk_at dksX5_levelAt_0 7 rfl rfl)
theorem dX5_levelAt_8 : decode cX5_levelAt 8 = .ok (.istore_n 2, 1) := dk_61 (dk_at dksX5_levelAt_0 8 rfl rfl)
theorem dX5_levelAt_9 : decode cX5_levelAt 9 = .ok (.iload_n 2, 1) := dk_28 (dk_at dksX5_levelAt_0 9 rfl rfl)
theorem dX5_levelAt_10 : decode cX5_levelAt 10 = .ok (.aload_n 0, 1) := dk_42 (dk_at dksX5_levelAt_0 10 rfl rfl)
theorem dX5_levelAt_11 : decode cX5_levelAt 11 = .ok (.getfield 51, 3) := dk_180 0 51 (dk_at dksX5_levelAt_0 11 rfl rfl)
theorem dX5_levelAt_14 : decode cX5_levelAt 14 = .ok (.iconst 1, 1) := dk_4 (dk_at dksX5_levelAt_0 14 rfl rfl)
theorem dX5_levelAt_15 : decode cX5_levelAt 15 = .ok (.iaload, 1) := dk_46 (dk_at dksX5_levelAt_0 15 rfl rfl)
theorem dX5_levelAt_16 : decode cX5_levelAt 16 = .ok (.iload_n 2, 1) := dk_28 (dk_at dksX5_levelAt_0 16 rfl rfl)
theorem dX5_levelAt_17 : decode cX5_levelAt 17 = .ok (.isub, 1) := dk_100 (dk_at dksX5_levelAt_0 17 rfl rfl)
theorem dX5_levelAt_18 : decode cX5_levelAt 18 = .ok (.if_icmp .ge 7, 3) := dk_162 0 7 (dk_at dksX5_levelAt_0 18 rfl rfl)
theorem dX5_levelAt_21 : decode cX5_levelAt 21 = .ok (.iload_n 2, 1) := dk_28 (dk_at dksX5_levelAt_0 21 rfl rfl)
theorem dX5_levelAt_22 : decode cX5_levelAt 22 = .ok (.goto 11, 3) := dk_167 0 11 (dk_at dksX5_levelAt_1 0 rfl rfl)
theorem dX5_levelAt_25 : decode cX5_levelAt 25 = .ok (.aload_n 0, 1) := dk_42 (dk_at dksX5_levelAt_1 3 rfl rfl)
theorem dX5_levelAt_26 : decode cX5_levelAt 26 = .ok (.getfield 51, 3) := dk_180 0 51 (dk_at dksX5_levelAt_1 4 rfl rfl)
theorem dX5_levelAt_29 : decode cX5_levelAt 29 = .ok (.iconst 1, 1) := dk_4 (dk_at dksX5_levelAt_1 7 rfl rfl)
theorem dX5_levelAt_30 : decode cX5_levelAt 30 = .ok (.iaload, 1) := dk_46 (dk_at dksX5_levelAt_1 8 rfl rfl)
theorem dX5_levelAt_31 : decode cX5_levelAt 31 = .ok (.iload_n 2, 1) := dk_28 (dk_at dksX5_levelAt_1 9 rfl rfl)
theorem dX5_levelAt_32 : decode cX5_levelAt 32 = .ok (.isub, 1) := dk_100 (dk_at dksX5_levelAt_1 10 rfl rfl)
theorem dX5_levelAt_33 : decode cX5_levelAt 33 = .ok (.istore_n 3, 1) := dk_62 (dk_at dksX5_levelAt_1 11 rfl rfl)
theorem dX5_levelAt_34 : decode cX5_levelAt 34 = .ok (.bipush 18, 2) := dk_16 18 (dk_at dksX5_levelAt_1 12 rfl rfl)
theorem dX5_levelAt_36 : decode cX5_levelAt 36 = .ok (.iload_n 3, 1) := dk_29 (dk_at dksX5_levelAt_1 14 rfl rfl)
theorem dX5_levelAt_37 : decode cX5_levelAt 37 = .ok (.imul, 1) := dk_104 (dk_at dksX5_levelAt_1 15 rfl rfl)
theorem dX5_levelAt_38 : decode cX5_levelAt 38 = .ok (.aload_n 0, 1) := dk_42 (dk_at dksX5_levelAt_1 16 rfl rfl)
theorem dX5_levelAt_39 : decode cX5_levelAt 39 = .ok (.getfield 51, 3) := dk_180 0 51 (dk_at dksX5_levelAt_1 17 rfl rfl)
theorem dX5_levelAt_42 : decode cX5_levelAt 42 = .ok (.iconst 1, 1) := dk_4 (dk_at dksX5_levelAt_1 20 rfl rfl)
theorem dX5_levelAt_43 : decode cX5_levelAt 43 = .ok (.iaload, 1) := dk_46 (dk_at dksX5_levelAt_1 21 rfl rfl)
theorem dX5_levelAt_44 : decode cX5_levelAt 44 = .ok (.idiv, 1) := dk_108 (dk_at dksX5_levelAt_1 22 rfl rfl)
theorem dX5_levelAt_45 : decode cX5_levelAt 45 = .ok (.ireturn, 1) := dk_172 (dk_at dksX5_levelAt_1 23 rfl rfl)
abbrev cX5_countState : ByteArray := prog_21_method_43_code
def yX5_countState : MethodName := ⟨RX5, "countState", "(I)I"⟩
def dkwX5_countState_1 : List UInt8 := [4, 167, 0, 4, 3, 96, 61, 132, 3, 1, 167, 255, 226, 28, 172]
abbrev dktX5_countState_1 : List UInt8 := dkwX5_countState_1 ++ []
def dkwX5_countState_0 : List UInt8 := [3, 61, 3, 62, 29, 42, 180, 0, 51, 8, 46, 162, 0, 26, 28, 42, 29, 27, 182, 0, 118, 153, 0, 7]
abbrev dktX5_countState_0 : List UInt8 := dkwX5_countState_0 ++ dktX5_countState_1
theorem dksX5_countState_0 : cX5_countState.data.toList.drop 0 = dktX5_countState_0 := by decide +kernel
theorem dksX5_countState_1 : cX5_countState.data.toList.drop 24 = dktX5_countState_1 := dk_seg dksX5_countState_0 24 rfl rfl
theorem dX5_countState_0 : decode cX5_countState 0 = .ok (.iconst 0, 1) := dk_3 (dk_at dksX5_countState_0 0 rfl rfl)
theorem dX5_countState_1 : decode cX5_countState 1 = .ok (.istore_n 2, 1) := dk_61 (dk_at dksX5_countState_0 1 rfl rfl)
theorem dX5_countState_2 : decode cX5_countState 2 = .ok (.iconst 0, 1) := dk_3 (dk_at dksX5_countState_0 2 rfl rfl)
theorem dX5_countState_3 : decode cX5_countState 3 = .ok (.istore_n 3, 1) := dk_62 (dk_at dksX5_countState_0 3 rfl rfl)
theorem dX5_countState_4 : decode cX5_countState 4 = .ok (.iload_n 3, 1) := dk_29 (dk_at dksX5_countState_0 4 rfl rfl)
theorem dX5_countState_5 : decode cX5_countState 5 = .ok (.aload_n 0, 1) := dk_42 (dk_at dksX5_countState_0 5 rfl rfl)
theorem dX5_countState_6 : decode cX5_countState 6 = .ok (.getfield 51, 3) := dk_180 0 51 (dk_at dksX5_countState_0 6 rfl rfl)
theorem dX5_countState_9 : decode cX5_countState 9 = .ok (.iconst 5, 1) := dk_8 (dk_at dksX5_countState_0 9 rfl rfl)
theorem dX5_countState_10 : decode cX5_countState 10 = .ok (.iaload, 1) := dk_46 (dk_at dksX5_countState_0 10 rfl rfl)
theorem dX5_countState_11 : decode cX5_countState 11 = .ok (.if_icmp .ge 26, 3) := dk_162 0 26 (dk_at dksX5_countState_0 11 rfl rfl)
theorem dX5_countState_14 : decode cX5_countState 14 = .ok (.iload_n 2, 1) := dk_28 (dk_at dksX5_countState_0 14 rfl rfl)
theorem dX5_countState_15 : decode cX5_countState 15 = .ok (.aload_n 0, 1) := dk_42 (dk_at dksX5_countState_0 15 rfl rfl)
theorem dX5_countState_16 : decode cX5_countState 16 = .ok (.iload_n 3, 1) := dk_29 (dk_at dksX5_countState_0 16 rfl rfl)
theorem dX5_countState_17 : decode cX5_countState 17 = .ok (.iload_n 1, 1) := dk_27 (dk_at dksX5_countState_0 17 rfl rfl)
theorem dX5_countState_18 : decode cX5_countState 18 = .ok (.invokevirtual 118, 3) := dk_182 0 118 (dk_at dksX5_countState_0 18 rfl rfl)
theorem dX5_countState_21 : decode cX5_countState 21 = .ok (.ifCond .eq 7, 3) := dk_153 0 7 (dk_at dksX5_countState_0 21 rfl rfl)
theorem dX5_countState_24 : decode cX5_countState 24 = .ok (.iconst 1, 1) := dk_4 (dk_at dksX5_countState_1 0 rfl rfl)
theorem dX5_countState_25 : decode cX5_countState 25 = .ok (.goto 4, 3) := dk_167 0 4 (dk_at dksX5_countState_1 1 rfl rfl)
theorem dX5_countState_28 : decode cX5_countState 28 = .ok (.iconst 0, 1) := dk_3 (dk_at dksX5_countState_1 4 rfl rfl)
theorem dX5_countState_29 : decode cX5_countState 29 = .ok (.iadd, 1) := dk_96 (dk_at dksX5_countState_1 5 rfl rfl)
theorem dX5_countState_30 : decode cX5_countState 30 = .ok (.istore_n 2, 1) := dk_61 (dk_at dksX5_countState_1 6 rfl rfl)
theorem dX5_countState_31 : decode cX5_countState 31 = .ok (.iinc 3 1, 3) := dk_132 3 1 (dk_at dksX5_countState_1 7 rfl rfl)
theorem dX5_countState_34 : decode cX5_countState 34 = .ok (.goto (-30), 3) := dk_167 255 226 (dk_at dksX5_countState_1 10 rfl rfl)
theorem dX5_countState_37 : decode cX5_countState 37 = .ok (.iload_n 2, 1) := dk_28 (dk_at dksX5_countState_1 13 rfl rfl)
theorem dX5_countState_38 : decode cX5_countState 38 = .ok (.ireturn, 1) := dk_172 (dk_at dksX5_countState_1 14 rfl rfl)
abbrev cX5_isIn : ByteArray := prog_21_method_16_code
def yX5_isIn : MethodName := ⟨RX5, "isIn", "(II)Z"⟩
def dkwX5_isIn_0 : List UInt8 := [42, 27, 8, 182, 0, 106, 28, 160, 0, 7, 4, 167, 0, 4, 3, 172]
abbrev dktX5_isIn_0 : List UInt8 := dkwX5_isIn_0 ++ []
theorem dksX5_isIn_0 : cX5_isIn.data.toList.drop 0 = dktX5_isIn_0 := by decide +kernel
theorem dX5_isIn_0 : decode cX5_isIn 0 = .ok (.aload_n 0, 1) := dk_42 (dk_at dksX5_isIn_0 0 rfl rfl)
theorem dX5_isIn_1 : decode cX5_isIn 1 = .ok (.iload_n 1, 1) := dk_27 (dk_at dksX5_isIn_0 1 rfl rfl)
theorem dX5_isIn_2 : decode cX5_isIn 2 = .ok (.iconst 5, 1) := dk_8 (dk_at dksX5_isIn_0 2 rfl rfl)
theorem dX5_isIn_3 : decode cX5_isIn 3 = .ok (.invokevirtual 106, 3) := dk_182 0 106 (dk_at dksX5_isIn_0 3 rfl rfl)
theorem dX5_isIn_6 : decode cX5_isIn 6 = .ok (.iload_n 2, 1) := dk_28 (dk_at dksX5_isIn_0 6 rfl rfl)
theorem dX5_isIn_7 : decode cX5_isIn 7 = .ok (.if_icmp .ne 7, 3) := dk_160 0 7 (dk_at dksX5_isIn_0 7 rfl rfl)
theorem dX5_isIn_10 : decode cX5_isIn 10 = .ok (.iconst 1, 1) := dk_4 (dk_at dksX5_isIn_0 10 rfl rfl)
theorem dX5_isIn_11 : decode cX5_isIn 11 = .ok (.goto 4, 3) := dk_167 0 4 (dk_at dksX5_isIn_0 11 rfl rfl)
theorem dX5_isIn_14 : decode cX5_isIn 14 = .ok (.iconst 0, 1) := dk_3 (dk_at dksX5_isIn_0 14 rfl rfl)
theorem dX5_isIn_15 : decode cX5_isIn 15 = .ok (.ireturn, 1) := dk_172 (dk_at dksX5_isIn_0 15 rfl rfl)
abbrev cX5_of : ByteArray := prog_21_method_11_code
def yX5_of : MethodName := ⟨RX5, "of", "(II)I"⟩
def dkwX5_of_0 : List UInt8 := [42, 180, 0, 51, 16, 36, 16, 18, 27, 104, 96, 28, 96, 46, 172]
abbrev dktX5_of_0 : List UInt8 := dkwX5_of_0 ++ []
theorem dksX5_of_0 : cX5_of.data.toList.drop 0 = dktX5_of_0 := by decide +kernel
theorem dX5_of_0 : decode cX5_of 0 = .ok (.aload_n 0, 1) := dk_42 (dk_at dksX5_of_0 0 rfl rfl)
theorem dX5_of_1 : decode cX5_of 1 = .ok (.getfield 51, 3) := dk_180 0 51 (dk_at dksX5_of_0 1 rfl rfl)
theorem dX5_of_4 : decode cX5_of 4 = .ok (.bipush 36, 2) := dk_16 36 (dk_at dksX5_of_0 4 rfl rfl)
theorem dX5_of_6 : decode cX5_of 6 = .ok (.bipush 18, 2) := dk_16 18 (dk_at dksX5_of_0 6 rfl rfl)
theorem dX5_of_8 : decode cX5_of 8 = .ok (.iload_n 1, 1) := dk_27 (dk_at dksX5_of_0 8 rfl rfl)
theorem dX5_of_9 : decode cX5_of 9 = .ok (.imul, 1) := dk_104 (dk_at dksX5_of_0 9 rfl rfl)
theorem dX5_of_10 : decode cX5_of 10 = .ok (.iadd, 1) := dk_96 (dk_at dksX5_of_0 10 rfl rfl)
theorem dX5_of_11 : decode cX5_of 11 = .ok (.iload_n 2, 1) := dk_28 (dk_at dksX5_of_0 11 rfl rfl)
theorem dX5_of_12 : decode cX5_of 12 = .ok (.iadd, 1) := dk_96 (dk_at dksX5_of_0 12 rfl rfl)
theorem dX5_of_13 : decode cX5_of 13 = .ok (.iaload, 1) := dk_46 (dk_at dksX5_of_0 13 rfl rfl)
theorem dX5_of_14 : decode cX5_of 14 = .ok (.ireturn, 1) := dk_172 (dk_at dksX5_of_0 14 rfl rfl)
abbrev cX5_countFree : ByteArray := prog_21_method_27_code
def yX5_countFree : MethodName := ⟨RX5, "countFree", "()I"⟩
def dkwX5_countFree_1 : List UInt8 := [160, 0, 7, 4, 167, 0, 4, 3, 96, 60, 132, 2, 1, 167, 255, 225, 27, 172]
abbrev dktX5_countFree_1 : List UInt8 := dkwX5_countFree_1 ++ []
def dkwX5_countFree_0 : List UInt8 := [3, 60, 3, 61, 28, 42, 180, 0, 51, 7, 46, 162, 0, 27, 27, 42, 28, 4, 182, 0, 127, 2]
abbrev dktX5_countFree_0 : List UInt8 := dkwX5_countFree_0 ++ dktX5_countFree_1
theorem dksX5_countFree_0 : cX5_countFree.data.toList.drop 0 = dktX5_countFree_0 := by decide +kernel
theorem dksX5_countFree_1 : cX5_countFree.data.toList.drop 22 = dktX5_countFree_1 := dk_seg dksX5_countFree_0 22 rfl rfl
theorem dX5_countFree_0 : decode cX5_countFree 0 = .ok (.iconst 0, 1) := dk_3 (dk_at dksX5_countFree_0 0 rfl rfl)
theorem dX5_countFree_1 : decode cX5_countFree 1 = .ok (.istore_n 1, 1) := dk_60 (dk_at dksX5_countFree_0 1 rfl rfl)
theorem dX5_countFree_2 : decode cX5_countFree 2 = .ok (.iconst 0, 1) := dk_3 (dk_at dksX5_countFree_0 2 rfl rfl)
theorem dX5_countFree_3 : decode cX5_countFree 3 = .ok (.istore_n 2, 1) := dk_61 (dk_at dksX5_countFree_0 3 rfl rfl)
theorem dX5_countFree_4 : decode cX5_countFree 4 = .ok (.iload_n 2, 1) := dk_28 (dk_at dksX5_countFree_0 4 rfl rfl)
theorem dX5_countFree_5 : decode cX5_countFree 5 = .ok (.aload_n 0, 1) := dk_42 (dk_at dksX5_countFree_0 5 rfl rfl)
theorem dX5_countFree_6 : decode cX5_countFree 6 = .ok (.getfield 51, 3) := dk_180 0 51 (dk_at dksX5_countFree_0 6 rfl rfl)
theorem dX5_countFree_9 : decode cX5_countFree 9 = .ok (.iconst 4, 1) := dk_7 (dk_at dksX5_countFree_0 9 rfl rfl)
theorem dX5_countFree_10 : decode cX5_countFree 10 = .ok (.iaload, 1) := dk_46 (dk_at dksX5_countFree_0 10 rfl rfl)
theorem dX5_countFree_11 : decode cX5_countFree 11 = .ok (.if_icmp .ge 27, 3) := dk_162 0 27 (dk_at dksX5_countFree_0 11 rfl rfl)
theorem dX5_countFree_14 : decode cX5_countFree 14 = .ok (.iload_n 1, 1) := dk_27 (dk_at dksX5_countFree_0 14 rfl rfl)
theorem dX5_countFree_15 : decode cX5_countFree 15 = .ok (.aload_n 0, 1) := dk_42 (dk_at dksX5_countFree_0 15 rfl rfl)
theorem dX5_countFree_16 : decode cX5_countFree 16 = .ok (.iload_n 2, 1) := dk_28 (dk_at dksX5_countFree_0 16 rfl rfl)
theorem dX5_countFree_17 : decode cX5_countFree 17 = .ok (.iconst 1, 1) := dk_4 (dk_at dksX5_countFree_0 17 rfl rfl)
theorem dX5_countFree_18 : decode cX5_countFree 18 = .ok (.invokevirtual 127, 3) := dk_182 0 127 (dk_at dksX5_countFree_0 18 rfl rfl)
theorem dX5_countFree_21 : decode cX5_countFree 21 = .ok (.iconst (-1), 1) := dk_2 (dk_at dksX5_countFree_0 21 rfl rfl)
theorem dX5_countFree_22 : decode cX5_countFree 22 = .ok (.if_icmp .ne 7, 3) := dk_160 0 7 (dk_at dksX5_countFree_1 0 rfl rfl)
theorem dX5_countFree_25 : decode cX5_countFree 25 = .ok (.iconst 1, 1) := dk_4 (dk_at dksX5_countFree_1 3 rfl rfl)
theorem dX5_countFree_26 : decode cX5_countFree 26 = .ok (.goto 4, 3) := dk_167 0 4 (dk_at dksX5_countFree_1 4 rfl rfl)
theorem dX5_countFree_29 : decode cX5_countFree 29 = .ok (.iconst 0, 1) := dk_3 (dk_at dksX5_countFree_1 7 rfl rfl)
theorem dX5_countFree_30 : decode cX5_countFree 30 = .ok (.iadd, 1) := dk_96 (dk_at dksX5_countFree_1 8 rfl rfl)
theorem dX5_countFree_31 : decode cX5_countFree 31 = .ok (.istore_n 1, 1) := dk_60 (dk_at dksX5_countFree_1 9 rfl rfl)
theorem dX5_countFree_32 : decode cX5_countFree 32 = .ok (.iinc 2 1, 3) := dk_132 2 1 (dk_at dksX5_countFree_1 10 rfl rfl)
theorem dX5_countFree_35 : decode cX5_countFree 35 = .ok (.goto (-31), 3) := dk_167 255 225 (dk_at dksX5_countFree_1 13 rfl rfl)
theorem dX5_countFree_38 : decode cX5_countFree 38 = .ok (.iload_n 1, 1) := dk_27 (dk_at dksX5_countFree_1 16 rfl rfl)
theorem dX5_countFree_39 : decode cX5_countFree 39 = .ok (.ireturn, 1) := dk_172 (dk_at dksX5_countFree_1 17 rfl rfl)
abbrev cX5_ofFinder : ByteArray := prog_21_method_9_code
def yX5_ofFinder : MethodName := ⟨RX5, "ofFinder", "(II)I"⟩
def dkwX5_ofFinder_0 : List UInt8 := [42, 180, 0, 51, 16, 20, 5, 27, 104, 96, 28, 96, 46, 172]
abbrev dktX5_ofFinder_0 : List UInt8 := dkwX5_ofFinder_0 ++ []
theorem dksX5_ofFinder_0 : cX5_ofFinder.data.toList.drop 0 = dktX5_ofFinder_0 := by decide +kernel
theorem dX5_ofFinder_0 : decode cX5_ofFinder 0 = .ok (.aload_n 0, 1) := dk_42 (dk_at dksX5_ofFinder_0 0 rfl rfl)
theorem dX5_ofFinder_1 : decode cX5_ofFinder 1 = .ok (.getfield 51, 3) := dk_180 0 51 (dk_at dksX5_ofFinder_0 1 rfl rfl)
theorem dX5_ofFinder_4 : decode cX5_ofFinder 4 = .ok (.bipush 20, 2) := dk_16 20 (dk_at dksX5_ofFinder_0 4 rfl rfl)
theorem dX5_ofFinder_6 : decode cX5_ofFinder 6 = .ok (.iconst 2, 1) := dk_5 (dk_at dksX5_ofFinder_0 6 rfl rfl)
theorem dX5_ofFinder_7 : decode cX5_ofFinder 7 = .ok (.iload_n 1, 1) := dk_27 (dk_at dksX5_ofFinder_0 7 rfl rfl)
theorem dX5_ofFinder_8 : decode cX5_ofFinder 8 = .ok (.imul, 1) := dk_104 (dk_at dksX5_ofFinder_0 8 rfl rfl)
theorem dX5_ofFinder_9 : decode cX5_ofFinder 9 = .ok (.iadd, 1) := dk_96 (dk_at dksX5_ofFinder_0 9 rfl rfl)
theorem dX5_ofFinder_10 : decode cX5_ofFinder 10 = .ok (.iload_n 2, 1) := dk_28 (dk_at dksX5_ofFinder_0 10 rfl rfl)
theorem dX5_ofFinder_11 : decode cX5_ofFinder 11 = .ok (.iadd, 1) := dk_96 (dk_at dksX5_ofFinder_0 11 rfl rfl)
theorem dX5_ofFinder_12 : decode cX5_ofFinder 12 = .ok (.iaload, 1) := dk_46 (dk_at dksX5_ofFinder_0 12 rfl rfl)
theorem dX5_ofFinder_13 : decode cX5_ofFinder 13 = .ok (.ireturn, 1) := dk_172 (dk_at dksX5_ofFinder_0 13 rfl rfl)
abbrev cX5_countDryNow : ByteArray := prog_21_method_44_code
def yX5_countDryNow : MethodName := ⟨RX5, "countDryNow", "()I"⟩
def dkwX5_countDryNow_2 : List UInt8 := [167, 255, 212, 27, 172]
abbrev dktX5_countDryNow_2 : List UInt8 := dkwX5_countDryNow_2 ++ []
def dkwX5_countDryNow_1 : List UInt8 := [42, 28, 42, 180, 0, 51, 3, 46, 182, 0, 114, 153, 0, 7, 4, 167, 0, 4, 3, 96, 60, 132, 2, 1]
abbrev dktX5_countDryNow_1 : List UInt8 := dkwX5_countDryNow_1 ++ dktX5_countDryNow_2
def dkwX5_countDryNow_0 : List UInt8 := [3, 60, 3, 61, 28, 42, 180, 0, 51, 8, 46, 162, 0, 40, 27, 42, 28, 3, 182, 0, 118, 153, 0, 21]
abbrev dktX5_countDryNow_0 : List UInt8 := dkwX5_countDryNow_0 ++ dktX5_countDryNow_1
theorem dksX5_countDryNow_0 : cX5_countDryNow.data.toList.drop 0 = dktX5_countDryNow_0 := by decide +kernel
theorem dksX5_countDryNow_1 : cX5_countDryNow.data.toList.drop 24 = dktX5_countDryNow_1 := dk_seg dksX5_countDryNow_0 24 rfl rfl
theorem dksX5_countDryNow_2 : cX5_countDryNow.data.toList.drop 48 = dktX5_countDryNow_2 := dk_seg dksX5_countDryNow_1 24 rfl rfl
theorem dX5_countDryNow_0 : decode cX5_countDryNow 0 = .ok (.iconst 0, 1) := dk_3 (dk_at dksX5_countDryNow_0 0 rfl rfl)
theorem dX5_countDryNow_1 : decode cX5_countDryNow 1 = .ok (.istore_n 1, 1) := dk_60 (dk_at dksX5_countDryNow_0 1 rfl rfl)
theorem dX5_countDryNow_2 : decode cX5_countDryNow 2 = .ok (.iconst 0, 1) := dk_3 (dk_at dksX5_countDryNow_0 2 rfl rfl)
theorem dX5_countDryNow_3 : decode cX5_countDryNow 3 = .ok (.istore_n 2, 1) := dk_61 (dk_at dksX5_countDryNow_0 3 rfl rfl)
theorem dX5_countDryNow_4 : decode cX5_countDryNow 4 = .ok (.iload_n 2, 1) := dk_28 (dk_at dksX5_countDryNow_0 4 rfl rfl)
theorem dX5_countDryNow_5 : decode cX5_countDryNow 5 = .ok (.aload_n 0, 1) := dk_42 (dk_at dksX5_countDryNow_0 5 rfl rfl)
theorem dX5_countDryNow_6 : decode cX5_countDryNow 6 = .ok (.getfield 51, 3) := dk_180 0 51 (dk_at dksX5_countDryNow_0 6 rfl rfl)
theorem dX5_countDryNow_9 : decode cX5_countDryNow 9 = .ok (.iconst 5, 1) := dk_8 (dk_at dksX5_countDryNow_0 9 rfl rfl)
theorem dX5_countDryNow_10 : decode cX5_countDryNow 10 = .ok (.iaload, 1) := dk_46 (dk_at dksX5_countDryNow_0 10 rfl rfl)
theorem dX5_countDryNow_11 : decode cX5_countDryNow 11 = .ok (.if_icmp .ge 40, 3) := dk_162 0 40 (dk_at dksX5_countDryNow_0 11 rfl rfl)
theorem dX5_countDryNow_14 : decode cX5_countDryNow 14 = .ok (.iload_n 1, 1) := dk_27 (dk_at dksX5_countDryNow_0 14 rfl rfl)
theorem dX5_countDryNow_15 : decode cX5_countDryNow 15 = .ok (.aload_n 0, 1) := dk_42 (dk_at dksX5_countDryNow_0 15 rfl rfl)
theorem dX5_countDryNow_16 : decode cX5_countDryNow 16 = .ok (.iload_n 2, 1) := dk_28 (dk_at dksX5_countDryNow_0 16 rfl rfl)
theorem dX5_countDryNow_17 : decode cX5_countDryNow 17 = .ok (.iconst 0, 1) := dk_3 (dk_at dksX5_countDryNow_0 17 rfl rfl)
theorem dX5_countDryNow_18 : decode cX5_countDryNow 18 = .ok (.invokevirtual 118, 3) := dk_182 0 118 (dk_at dksX5_countDryNow_0 18 rfl rfl)
theorem dX5_countDryNow_21 : decode cX5_countDryNow 21 = .ok (.ifCond .eq 21, 3) := dk_153 0 21 (dk_at dksX5_countDryNow_0 21 rfl rfl)
theorem dX5_countDryNow_24 : decode cX5_countDryNow 24 = .ok (.aload_n 0, 1) := dk_42 (dk_at dksX5_countDryNow_1 0 rfl rfl)
theorem dX5_countDryNow_25 : decode cX5_countDryNow 25 = .ok (.iload_n 2, 1) := dk_28 (dk_at dksX5_countDryNow_1 1 rfl rfl)
theorem dX5_countDryNow_26 : decode cX5_countDryNow 26 = .ok (.aload_n 0, 1) := dk_42 (dk_at dksX5_countDryNow_1 2 rfl rfl)
theorem dX5_countDryNow_27 : decode cX5_countDryNow 27 = .ok (.getfield 51, 3) := dk_180 0 51 (dk_at dksX5_countDryNow_1 3 rfl rfl)
theorem dX5_countDryNow_30 : decode cX5_countDryNow 30 = .ok (.iconst 0, 1) := dk_3 (dk_at dksX5_countDryNow_1 6 rfl rfl)
theorem dX5_countDryNow_31 : decode cX5_countDryNow 31 = .ok (.iaload, 1) := dk_46 (dk_at dksX5_countDryNow_1 7 rfl rfl)
theorem dX5_countDryNow_32 : decode cX5_countDryNow 32 = .ok (.invokevirtual 114, 3) := dk_182 0 114 (dk_at dksX5_countDryNow_1 8 rfl rfl)
theorem dX5_countDryNow_35 : decode cX5_countDryNow 35 = .ok (.ifCond .eq 7, 3) := dk_153 0 7 (dk_at dksX5_countDryNow_1 11 rfl rfl)
theorem dX5_countDryNow_38 : decode cX5_countDryNow 38 = .ok (.iconst 1, 1) := dk_4 (dk_at dksX5_countDryNow_1 14 rfl rfl)
theorem dX5_countDryNow_39 : decode cX5_countDryNow 39 = .ok (.goto 4, 3) := dk_167 0 4 (dk_at dksX5_countDryNow_1 15 rfl rfl)
theorem dX5_countDryNow_42 : decode cX5_countDryNow 42 = .ok (.iconst 0, 1) := dk_3 (dk_at dksX5_countDryNow_1 18 rfl rfl)
theorem dX5_countDryNow_43 : decode cX5_countDryNow 43 = .ok (.iadd, 1) := dk_96 (dk_at dksX5_countDryNow_1 19 rfl rfl)
theorem dX5_countDryNow_44 : decode cX5_countDryNow 44 = .ok (.istore_n 1, 1) := dk_60 (dk_at dksX5_countDryNow_1 20 rfl rfl)
theorem dX5_countDryNow_45 : decode cX5_countDryNow 45 = .ok (.iinc 2 1, 3) := dk_132 2 1 (dk_at dksX5_countDryNow_1 21 rfl rfl)
theorem dX5_countDryNow_48 : decode cX5_countDryNow 48 = .ok (.goto (-44), 3) := dk_167 255 212 (dk_at dksX5_countDryNow_2 0 rfl rfl)
theorem dX5_countDryNow_51 : decode cX5_countDryNow 51 = .ok (.iload_n 1, 1) := dk_27 (dk_at dksX5_countDryNow_2 3 rfl rfl)
theorem dX5_countDryNow_52 : decode cX5_countDryNow 52 = .ok (.ireturn, 1) := dk_172 (dk_at dksX5_countDryNow_2 4 rfl rfl)
abbrev cX5_isDry : ByteArray := prog_21_method_18_code
def yX5_isDry : MethodName := ⟨RX5, "isDry", "(II)Z"⟩
def dkwX5_isDry_0 : List UInt8 := [42, 28, 182, 0, 110, 42, 27, 6, 182, 0, 106, 163, 0, 7, 4, 167, 0, 4, 3, 172]
abbrev dktX5_isDry_0 : List UInt8 := dkwX5_isDry_0 ++ []
theorem dksX5_isDry_0 : cX5_isDry.data.toList.drop 0 = dktX5_isDry_0 := by decide +kernel
theorem dX5_isDry_0 : decode cX5_isDry 0 = .ok (.aload_n 0, 1) := dk_42 (dk_at dksX5_isDry_0 0 rfl rfl)
theorem dX5_isDry_1 : decode cX5_isDry 1 = .ok (.iload_n 2, 1) := dk_28 (dk_at dksX5_isDry_0 1 rfl rfl)
theorem dX5_isDry_2 : decode cX5_isDry 2 = .ok (.invokevirtual 110, 3) := dk_182 0 110 (dk_at dksX5_isDry_0 2 rfl rfl)
theorem dX5_isDry_5 : decode cX5_isDry 5 = .ok (.aload_n 0, 1) := dk_42 (dk_at dksX5_isDry_0 5 rfl rfl)
theorem dX5_isDry_6 : decode cX5_isDry 6 = .ok (.iload_n 1, 1) := dk_27 (dk_at dksX5_isDry_0 6 rfl rfl)
theorem dX5_isDry_7 : decode cX5_isDry 7 = .ok (.iconst 3, 1) := dk_6 (dk_at dksX5_isDry_0 7 rfl rfl)
theorem dX5_isDry_8 : decode cX5_isDry 8 = .ok (.invokevirtual 106, 3) := dk_182 0 106 (dk_at dksX5_isDry_0 8 rfl rfl)
theorem dX5_isDry_11 : decode cX5_isDry 11 = .ok (.if_icmp .gt 7, 3) := dk_163 0 7 (dk_at dksX5_isDry_0 11 rfl rfl)
theorem dX5_isDry_14 : decode cX5_isDry 14 = .ok (.iconst 1, 1) := dk_4 (dk_at dksX5_isDry_0 14 rfl rfl)
theorem dX5_isDry_15 : decode cX5_isDry 15 = .ok (.goto 4, 3) := dk_167 0 4 (dk_at dksX5_isDry_0 15 rfl rfl)
theorem dX5_isDry_18 : decode cX5_isDry 18 = .ok (.iconst 0, 1) := dk_3 (dk_at dksX5_isDry_0 18 rfl rfl)
theorem dX5_isDry_19 : decode cX5_isDry 19 = .ok (.ireturn, 1) := dk_172 (dk_at dksX5_isDry_0 19 rfl rfl)
abbrev cX5_account : ByteArray := prog_21_method_46_code
def yX5_account : MethodName := ⟨RX5, "account", "(I)I"⟩
def dkwX5_account_1 : List UInt8 := [180, 0, 25, 27, 46, 167, 0, 8, 42, 27, 182, 0, 187, 172]
abbrev dktX5_account_1 : List UInt8 := dkwX5_account_1 ++ []
def dkwX5_account_0 : List UInt8 := [42, 27, 3, 16, 10, 184, 0, 102, 182, 0, 173, 153, 0, 5, 3, 172, 27, 6, 162, 0, 12, 42]
abbrev dktX5_account_0 : List UInt8 := dkwX5_account_0 ++ dktX5_account_1
theorem dksX5_account_0 : cX5_account.data.toList.drop 0 = dktX5_account_0 := by decide +kernel
theorem dksX5_account_1 : cX5_account.data.toList.drop 22 = dktX5_account_1 := dk_seg dksX5_account_0 22 rfl rfl
theorem dX5_account_0 : decode cX5_account 0 = .ok (.aload_n 0, 1) := dk_42 (dk_at dksX5_account_0 0 rfl rfl)
theorem dX5_account_1 : decode cX5_account 1 = .ok (.iload_n 1, 1) := dk_27 (dk_at dksX5_account_0 1 rfl rfl)
theorem dX5_account_2 : decode cX5_account 2 = .ok (.iconst 0, 1) := dk_3 (dk_at dksX5_account_0 2 rfl rfl)
theorem dX5_account_3 : decode cX5_account 3 = .ok (.bipush 10, 2) := dk_16 10 (dk_at dksX5_account_0 3 rfl rfl)
theorem dX5_account_5 : decode cX5_account 5 = .ok (.invokestatic 102, 3) := dk_184 0 102 (dk_at dksX5_account_0 5 rfl rfl)
theorem dX5_account_8 : decode cX5_account 8 = .ok (.invokevirtual 173, 3) := dk_182 0 173 (dk_at dksX5_account_0 8 rfl rfl)
theorem dX5_account_11 : decode cX5_account 11 = .ok (.ifCond .eq 5, 3) := dk_153 0 5 (dk_at dksX5_account_0 11 rfl rfl)
theorem dX5_account_14 : decode cX5_account 14 = .ok (.iconst 0, 1) := dk_3 (dk_at dksX5_account_0 14 rfl rfl)
theorem dX5_account_15 : decode cX5_account 15 = .ok (.ireturn, 1) := dk_172 (dk_at dksX5_account_0 15 rfl rfl)
theorem dX5_account_16 : decode cX5_account 16 = .ok (.iload_n 1, 1) := dk_27 (dk_at dksX5_account_0 16 rfl rfl)
theorem dX5_account_17 : decode cX5_account 17 = .ok (.iconst 3, 1) := dk_6 (dk_at dksX5_account_0 17 rfl rfl)
theorem dX5_account_18 : decode cX5_account 18 = .ok (.if_icmp .ge 12, 3) := dk_162 0 12 (dk_at dksX5_account_0 18 rfl rfl)
theorem dX5_account_21 : decode cX5_account 21 = .ok (.aload_n 0, 1) := dk_42 (dk_at dksX5_account_0 21 rfl rfl)
theorem dX5_account_22 : decode cX5_account 22 = .ok (.getfield 25, 3) := dk_180 0 25 (dk_at dksX5_account_1 0 rfl rfl)
theorem dX5_account_25 : decode cX5_account 25 = .ok (.iload_n 1, 1) := dk_27 (dk_at dksX5_account_1 3 rfl rfl)
theorem dX5_account_26 : decode cX5_account 26 = .ok (.iaload, 1) := dk_46 (dk_at dksX5_account_1 4 rfl rfl)
theorem dX5_account_27 : decode cX5_account 27 = .ok (.goto 8, 3) := dk_167 0 8 (dk_at dksX5_account_1 5 rfl rfl)
theorem dX5_account_30 : decode cX5_account 30 = .ok (.aload_n 0, 1) := dk_42 (dk_at dksX5_account_1 8 rfl rfl)
theorem dX5_account_31 : decode cX5_account 31 = .ok (.iload_n 1, 1) := dk_27 (dk_at dksX5_account_1 9 rfl rfl)
theorem dX5_account_32 : decode cX5_account 32 = .ok (.invokevirtual 187, 3) := dk_182 0 187 (dk_at dksX5_account_1 10 rfl rfl)
theorem dX5_account_35 : decode cX5_account 35 = .ok (.ireturn, 1) := dk_172 (dk_at dksX5_account_1 13 rfl rfl)
abbrev cX5_tallied : ByteArray := prog_21_method_8_code
def yX5_tallied : MethodName := ⟨RX5, "tallied", "(I)I"⟩
def dkwX5_tallied_0 : List UInt8 := [42, 180, 0, 51, 16, 7, 27, 96, 6, 100, 46, 172]
abbrev dktX5_tallied_0 : List UInt8 := dkwX5_tallied_0 ++ []
theorem dksX5_tallied_0 : cX5_tallied.data.toList.drop 0 = dktX5_tallied_0 := by decide +kernel
theorem dX5_tallied_0 : decode cX5_tallied 0 = .ok (.aload_n 0, 1) := dk_42 (dk_at dksX5_tallied_0 0 rfl rfl)
theorem dX5_tallied_1 : decode cX5_tallied 1 = .ok (.getfield 51, 3) := dk_180 0 51 (dk_at dksX5_tallied_0 1 rfl rfl)
theorem dX5_tallied_4 : decode cX5_tallied 4 = .ok (.bipush 7, 2) := dk_16 7 (dk_at dksX5_tallied_0 4 rfl rfl)
theorem dX5_tallied_6 : decode cX5_tallied 6 = .ok (.iload_n 1, 1) := dk_27 (dk_at dksX5_tallied_0 6 rfl rfl)
theorem dX5_tallied_7 : decode cX5_tallied 7 = .ok (.iadd, 1) := dk_96 (dk_at dksX5_tallied_0 7 rfl rfl)
theorem dX5_tallied_8 : decode cX5_tallied 8 = .ok (.iconst 3, 1) := dk_6 (dk_at dksX5_tallied_0 8 rfl rfl)
theorem dX5_tallied_9 : decode cX5_tallied 9 = .ok (.isub, 1) := dk_100 (dk_at dksX5_tallied_0 9 rfl rfl)
theorem dX5_tallied_10 : decode cX5_tallied 10 = .ok (.iaload, 1) := dk_46 (dk_at dksX5_tallied_0 10 rfl rfl)
theorem dX5_tallied_11 : decode cX5_tallied 11 = .ok (.ireturn, 1) := dk_172 (dk_at dksX5_tallied_0 11 rfl rfl)
abbrev cX5_good : ByteArray := prog_21_method_47_code
def yX5_good : MethodName := ⟨RX5, "good", "(II)I"⟩
def dkwX5_good_5 : List UInt8 := [182, 0, 106, 172, 42, 27, 28, 182, 0, 106, 172]
abbrev dktX5_good_5 : List UInt8 := dkwX5_good_5 ++ []
def dkwX5_good_4 : List UInt8 := [182, 0, 118, 153, 0, 7, 3, 167, 0, 10, 42, 27, 16, 9, 182, 0, 106, 172, 42, 27, 16, 8]
abbrev dktX5_good_4 : List UInt8 := dkwX5_good_4 ++ dktX5_good_5
def dkwX5_good_3 : List UInt8 := [42, 27, 3, 182, 0, 118, 153, 0, 13, 42, 27, 16, 9, 182, 0, 106, 167, 0, 4, 3, 172, 42, 27, 3]
abbrev dktX5_good_3 : List UInt8 := dkwX5_good_3 ++ dktX5_good_4
def dkwX5_good_2 : List UInt8 := [170, 0, 0, 0, 75, 0, 0, 0, 8, 0, 0, 0, 10, 0, 0, 0, 25, 0, 0, 0, 46, 0, 0, 0, 67]
abbrev dktX5_good_2 : List UInt8 := dkwX5_good_2 ++ dktX5_good_3
def dkwX5_good_1 : List UInt8 := [42, 5, 182, 0, 193, 172, 28]
abbrev dktX5_good_1 : List UInt8 := dkwX5_good_1 ++ dktX5_good_2
def dkwX5_good_0 : List UInt8 := [42, 42, 27, 182, 0, 190, 182, 0, 173, 153, 0, 5, 3, 172, 28, 3, 16, 10, 184, 0, 102, 154, 0, 9]
abbrev dktX5_good_0 : List UInt8 := dkwX5_good_0 ++ dktX5_good_1
theorem dksX5_good_0 : cX5_good.data.toList.drop 0 = dktX5_good_0 := by decide +kernel
theorem dksX5_good_1 : cX5_good.data.toList.drop 24 = dktX5_good_1 := dk_seg dksX5_good_0 24 rfl rfl
theorem dksX5_good_2 : cX5_good.data.toList.drop 31 = dktX5_good_2 := dk_seg dksX5_good_1 7 rfl rfl
theorem dksX5_good_3 : cX5_good.data.toList.drop 56 = dktX5_good_3 := dk_seg dksX5_good_2 25 rfl rfl
theorem dksX5_good_4 : cX5_good.data.toList.drop 80 = dktX5_good_4 := dk_seg dksX5_good_3 24 rfl rfl
theorem dksX5_good_5 : cX5_good.data.toList.drop 102 = dktX5_good_5 := dk_seg dksX5_good_4 22 rfl rfl
theorem dX5_good_0 : decode cX5_good 0 = .ok (.aload_n 0, 1) := dk_42 (dk_at dksX5_good_0 0 rfl rfl)
theorem dX5_good_1 : decode cX5_good 1 = .ok (.aload_n 0, 1) := dk_42 (dk_at dksX5_good_0 1 rfl rfl)
theorem dX5_good_2 : decode cX5_good 2 = .ok (.iload_n 1, 1) := dk_27 (dk_at dksX5_good_0 2 rfl rfl)
theorem dX5_good_3 : decode cX5_good 3 = .ok (.invokevirtual 190, 3) := dk_182 0 190 (dk_at dksX5_good_0 3 rfl rfl)
theorem dX5_good_6 : decode cX5_good 6 = .ok (.invokevirtual 173, 3) := dk_182 0 173 (dk_at dksX5_good_0 6 rfl rfl)
theorem dX5_good_9 : decode cX5_good 9 = .ok (.ifCond .eq 5, 3) := dk_153 0 5 (dk_at dksX5_good_0 9 rfl rfl)
theorem dX5_good_12 : decode cX5_good 12 = .ok (.iconst 0, 1) := dk_3 (dk_at dksX5_good_0 12 rfl rfl)
theorem dX5_good_13 : decode cX5_good 13 = .ok (.ireturn, 1) := dk_172 (dk_at dksX5_good_0 13 rfl rfl)
theorem dX5_good_14 : decode cX5_good 14 = .ok (.iload_n 2, 1) := dk_28 (dk_at dksX5_good_0 14 rfl rfl)
theorem dX5_good_15 : decode cX5_good 15 = .ok (.iconst 0, 1) := dk_3 (dk_at dksX5_good_0 15 rfl rfl)
theorem dX5_good_16 : decode cX5_good 16 = .ok (.bipush 10, 2) := dk_16 10 (dk_at dksX5_good_0 16 rfl rfl)
theorem dX5_good_18 : decode cX5_good 18 = .ok (.invokestatic 102, 3) := dk_184 0 102 (dk_at dksX5_good_0 18 rfl rfl)
theorem dX5_good_21 : decode cX5_good 21 = .ok (.ifCond .ne 9, 3) := dk_154 0 9 (dk_at dksX5_good_0 21 rfl rfl)
theorem dX5_good_24 : decode cX5_good 24 = .ok (.aload_n 0, 1) := dk_42 (dk_at dksX5_good_1 0 rfl rfl)
theorem dX5_good_25 : decode cX5_good 25 = .ok (.iconst 2, 1) := dk_5 (dk_at dksX5_good_1 1 rfl rfl)
theorem dX5_good_26 : decode cX5_good 26 = .ok (.invokevirtual 193, 3) := dk_182 0 193 (dk_at dksX5_good_1 2 rfl rfl)
theorem dX5_good_29 : decode cX5_good 29 = .ok (.ireturn, 1) := dk_172 (dk_at dksX5_good_1 5 rfl rfl)
theorem dX5_good_30 : decode cX5_good 30 = .ok (.iload_n 2, 1) := dk_28 (dk_at dksX5_good_1 6 rfl rfl)
theorem dX5_good_31 : decode cX5_good 31 = .ok (.tableswitch 75 8 10 #[25, 46, 67], 25) := by decide +kernel
theorem dX5_good_56 : decode cX5_good 56 = .ok (.aload_n 0, 1) := dk_42 (dk_at dksX5_good_3 0 rfl rfl)
theorem dX5_good_57 : decode cX5_good 57 = .ok (.iload_n 1, 1) := dk_27 (dk_at dksX5_good_3 1 rfl rfl)
theorem dX5_good_58 : decode cX5_good 58 = .ok (.iconst 0, 1) := dk_3 (dk_at dksX5_good_3 2 rfl rfl)
theorem dX5_good_59 : decode cX5_good 59 = .ok (.invokevirtual 118, 3) := dk_182 0 118 (dk_at dksX5_good_3 3 rfl rfl)
theorem dX5_good_62 : decode cX5_good 62 = .ok (.ifCond .eq 13, 3) := dk_153 0 13 (dk_at dksX5_good_3 6 rfl rfl)
theorem dX5_good_65 : decode cX5_good 65 = .ok (.aload_n 0, 1) := dk_42 (dk_at dksX5_good_3 9 rfl rfl)
theorem dX5_good_66 : decode cX5_good 66 = .ok (.iload_n 1, 1) := dk_27 (dk_at dksX5_good_3 10 rfl rfl)
theorem dX5_good_67 : decode cX5_good 67 = .ok (.bipush 9, 2) := dk_16 9 (dk_at dksX5_good_3 11 rfl rfl)
theorem dX5_good_69 : decode cX5_good 69 = .ok (.invokevirtual 106, 3) := dk_182 0 106 (dk_at dksX5_good_3 13 rfl rfl)
theorem dX5_good_72 : decode cX5_good 72 = .ok (.goto 4, 3) := dk_167 0 4 (dk_at dksX5_good_3 16 rfl rfl)
theorem dX5_good_75 : decode cX5_good 75 = .ok (.iconst 0, 1) := dk_3 (dk_at dksX5_good_3 19 rfl rfl)
theorem dX5_good_76 : decode cX5_good 76 = .ok (.ireturn, 1) := dk_172 (dk_at dksX5_good_3 20 rfl rfl)
theorem dX5_good_77 : decode cX5_good 77 = .ok (.aload_n 0, 1) := dk_42 (dk_at dksX5_good_3 21 rfl rfl)
theorem dX5_good_78 : decode cX5_good 78 = .ok (.iload_n 1, 1) := dk_27 (dk_at dksX5_good_3 22 rfl rfl)
theorem dX5_good_79 : decode cX5_good 79 = .ok (.iconst 0, 1) := dk_3 (dk_at dksX5_good_3 23 rfl rfl)
theorem dX5_good_80 : decode cX5_good 80 = .ok (.invokevirtual 118, 3) := dk_182 0 118 (dk_at dksX5_good_4 0 rfl rfl)
theorem dX5_good_83 : decode cX5_good 83 = .ok (.ifCond .eq 7, 3) := dk_153 0 7 (dk_at dksX5_good_4 3 rfl rfl)
theorem dX5_good_86 : decode cX5_good 86 = .ok (.iconst 0, 1) := dk_3 (dk_at dksX5_good_4 6 rfl rfl)
theorem dX5_good_87 : decode cX5_good 87 = .ok (.goto 10, 3) := dk_167 0 10 (dk_at dksX5_good_4 7 rfl rfl)
theorem dX5_good_90 : decode cX5_good 90 = .ok (.aload_n 0, 1) := dk_42 (dk_at dksX5_good_4 10 rfl rfl)
theorem dX5_good_91 : decode cX5_good 91 = .ok (.iload_n 1, 1) := dk_27 (dk_at dksX5_good_4 11 rfl rfl)
theorem dX5_good_92 : decode cX5_good 92 = .ok (.bipush 9, 2) := dk_16 9 (dk_at dksX5_good_4 12 rfl rfl)
theorem dX5_good_94 : decode cX5_good 94 = .ok (.invokevirtual 106, 3) := dk_182 0 106 (dk_at dksX5_good_4 14 rfl rfl)
theorem dX5_good_97 : decode cX5_good 97 = .ok (.ireturn, 1) := dk_172 (dk_at dksX5_good_4 17 rfl rfl)
theorem dX5_good_98 : decode cX5_good 98 = .ok (.aload_n 0, 1) := dk_42 (dk_at dksX5_good_4 18 rfl rfl)
theorem dX5_good_99 : decode cX5_good 99 = .ok (.iload_n 1, 1) := dk_27 (dk_at dksX5_good_4 19 rfl rfl)
theorem dX5_good_100 : decode cX5_good 100 = .ok (.bipush 8, 2) := dk_16 8 (dk_at dksX5_good_4 20 rfl rfl)
theorem dX5_good_102 : decode cX5_good 102 = .ok (.invokevirtual 106, 3) := dk_182 0 106 (dk_at dksX5_good_5 0 rfl rfl)
theorem dX5_good_105 : decode cX5_good 105 = .ok (.ireturn, 1) := dk_172 (dk_at dksX5_good_5 3 rfl rfl)
theorem dX5_good_106 : decode cX5_good 106 = .ok (.aload_n 0, 1) := dk_42 (dk_at dksX5_good_5 4 rfl rfl)
theorem dX5_good_107 : decode cX5_good 107 = .ok (.iload_n 1, 1) := dk_27 (dk_at dksX5_good_5 5 rfl rfl)
theorem dX5_good_108 : decode cX5_good 108 = .ok (.iload_n 2, 1) := dk_28 (dk_at dksX5_good_5 6 rfl rfl)
theorem dX5_good_109 : decode cX5_good 109 = .ok (.invokevirtual 106, 3) := dk_182 0 106 (dk_at dksX5_good_5 7 rfl rfl)
theorem dX5_good_112 : decode cX5_good 112 = .ok (.ireturn, 1) := dk_172 (dk_at dksX5_good_5 10 rfl rfl)
abbrev cX5_isGood : ByteArray := prog_21_method_14_code
def yX5_isGood : MethodName := ⟨RX5, "isGood", "(I)Z"⟩
def dkwX5_isGood_0 : List UInt8 := [27, 3, 42, 180, 0, 51, 8, 46, 4, 100, 184, 0, 102, 172]
abbrev dktX5_isGood_0 : List UInt8 := dkwX5_isGood_0 ++ []
theorem dksX5_isGood_0 : cX5_isGood.data.toList.drop 0 = dktX5_isGood_0 := by decide +kernel
theorem dX5_isGood_0 : decode cX5_isGood 0 = .ok (.iload_n 1, 1) := dk_27 (dk_at dksX5_isGood_0 0 rfl rfl)
theorem dX5_isGood_1 : decode cX5_isGood 1 = .ok (.iconst 0, 1) := dk_3 (dk_at dksX5_isGood_0 1 rfl rfl)
theorem dX5_isGood_2 : decode cX5_isGood 2 = .ok (.aload_n 0, 1) := dk_42 (dk_at dksX5_isGood_0 2 rfl rfl)
theorem dX5_isGood_3 : decode cX5_isGood 3 = .ok (.getfield 51, 3) := dk_180 0 51 (dk_at dksX5_isGood_0 3 rfl rfl)
theorem dX5_isGood_6 : decode cX5_isGood 6 = .ok (.iconst 5, 1) := dk_8 (dk_at dksX5_isGood_0 6 rfl rfl)
theorem dX5_isGood_7 : decode cX5_isGood 7 = .ok (.iaload, 1) := dk_46 (dk_at dksX5_isGood_0 7 rfl rfl)
theorem dX5_isGood_8 : decode cX5_isGood 8 = .ok (.iconst 1, 1) := dk_4 (dk_at dksX5_isGood_0 8 rfl rfl)
theorem dX5_isGood_9 : decode cX5_isGood 9 = .ok (.isub, 1) := dk_100 (dk_at dksX5_isGood_0 9 rfl rfl)
theorem dX5_isGood_10 : decode cX5_isGood 10 = .ok (.invokestatic 102, 3) := dk_184 0 102 (dk_at dksX5_isGood_0 10 rfl rfl)
theorem dX5_isGood_13 : decode cX5_isGood 13 = .ok (.ireturn, 1) := dk_172 (dk_at dksX5_isGood_0 13 rfl rfl)
abbrev cX5_raise : ByteArray := prog_21_method_3_code
def yX5_raise : MethodName := ⟨RX5, "raise", "(I)I"⟩
def dkwX5_raise_0 : List UInt8 := [42, 27, 181, 0, 92, 3, 172]
abbrev dktX5_raise_0 : List UInt8 := dkwX5_raise_0 ++ []
theorem dksX5_raise_0 : cX5_raise.data.toList.drop 0 = dktX5_raise_0 := by decide +kernel
theorem dX5_raise_0 : decode cX5_raise 0 = .ok (.aload_n 0, 1) := dk_42 (dk_at dksX5_raise_0 0 rfl rfl)
theorem dX5_raise_1 : decode cX5_raise 1 = .ok (.iload_n 1, 1) := dk_27 (dk_at dksX5_raise_0 1 rfl rfl)
theorem dX5_raise_2 : decode cX5_raise 2 = .ok (.putfield 92, 3) := dk_181 0 92 (dk_at dksX5_raise_0 2 rfl rfl)
theorem dX5_raise_5 : decode cX5_raise 5 = .ok (.iconst 0, 1) := dk_3 (dk_at dksX5_raise_0 5 rfl rfl)
theorem dX5_raise_6 : decode cX5_raise 6 = .ok (.ireturn, 1) := dk_172 (dk_at dksX5_raise_0 6 rfl rfl)
abbrev cX5_finder : ByteArray := prog_21_method_49_code
def yX5_finder : MethodName := ⟨RX5, "finder", "(II)I"⟩
def dkwX5_finder_3 : List UInt8 := [172, 42, 27, 182, 0, 199, 172, 42, 5, 182, 0, 193, 172]
abbrev dktX5_finder_3 : List UInt8 := dkwX5_finder_3 ++ []
def dkwX5_finder_2 : List UInt8 := [42, 27, 3, 182, 0, 127, 172, 29, 172, 29, 2, 160, 0, 7, 2, 167, 0, 9, 42, 29, 27, 182, 0, 130]
abbrev dktX5_finder_2 : List UInt8 := dkwX5_finder_2 ++ dktX5_finder_3
def dkwX5_finder_1 : List UInt8 := [170, 0, 0, 0, 0, 61, 0, 0, 0, 0, 0, 0, 0, 3, 0, 0, 0, 30, 0, 0, 0, 37, 0, 0, 0, 39, 0, 0, 0, 55]
abbrev dktX5_finder_1 : List UInt8 := dkwX5_finder_1 ++ dktX5_finder_2
def dkwX5_finder_0 : List UInt8 := [42, 42, 27, 182, 0, 196, 182, 0, 173, 153, 0, 5, 3, 172, 42, 27, 4, 182, 0, 127, 62, 28]
abbrev dktX5_finder_0 : List UInt8 := dkwX5_finder_0 ++ dktX5_finder_1
theorem dksX5_finder_0 : cX5_finder.data.toList.drop 0 = dktX5_finder_0 := by decide +kernel
theorem dksX5_finder_1 : cX5_finder.data.toList.drop 22 = dktX5_finder_1 := dk_seg dksX5_finder_0 22 rfl rfl
theorem dksX5_finder_2 : cX5_finder.data.toList.drop 52 = dktX5_finder_2 := dk_seg dksX5_finder_1 30 rfl rfl
theorem dksX5_finder_3 : cX5_finder.data.toList.drop 76 = dktX5_finder_3 := dk_seg dksX5_finder_2 24 rfl rfl
theorem dX5_finder_0 : decode cX5_finder 0 = .ok (.aload_n 0, 1) := dk_42 (dk_at dksX5_finder_0 0 rfl rfl)
theorem dX5_finder_1 : decode cX5_finder 1 = .ok (.aload_n 0, 1) := dk_42 (dk_at dksX5_finder_0 1 rfl rfl)
theorem dX5_finder_2 : decode cX5_finder 2 = .ok (.iload_n 1, 1) := dk_27 (dk_at dksX5_finder_0 2 rfl rfl)
theorem dX5_finder_3 : decode cX5_finder 3 = .ok (.invokevirtual 196, 3) := dk_182 0 196 (dk_at dksX5_finder_0 3 rfl rfl)
theorem dX5_finder_6 : decode cX5_finder 6 = .ok (.invokevirtual 173, 3) := dk_182 0 173 (dk_at dksX5_finder_0 6 rfl rfl)
theorem dX5_finder_9 : decode cX5_finder 9 = .ok (.ifCond .eq 5, 3) := dk_153 0 5 (dk_at dksX5_finder_0 9 rfl rfl)
theorem dX5_finder_12 : decode cX5_finder 12 = .ok (.iconst 0, 1) := dk_3 (dk_at dksX5_finder_0 12 rfl rfl)
theorem dX5_finder_13 : decode cX5_finder 13 = .ok (.ireturn, 1) := dk_172 (dk_at dksX5_finder_0 13 rfl rfl)
theorem dX5_finder_14 : decode cX5_finder 14 = .ok (.aload_n 0, 1) := dk_42 (dk_at dksX5_finder_0 14 rfl rfl)
theorem dX5_finder_15 : decode cX5_finder 15 = .ok (.iload_n 1, 1) := dk_27 (dk_at dksX5_finder_0 15 rfl rfl)
theorem dX5_finder_16 : decode cX5_finder 16 = .ok (.iconst 1, 1) := dk_4 (dk_at dksX5_finder_0 16 rfl rfl)
theorem dX5_finder_17 : decode cX5_finder 17 = .ok (.invokevirtual 127, 3) := dk_182 0 127 (dk_at dksX5_finder_0 17 rfl rfl)
theorem dX5_finder_20 : decode cX5_finder 20 = .ok (.istore_n 3, 1) := dk_62 (dk_at dksX5_finder_0 20 rfl rfl)
theorem dX5_finder_21 : decode cX5_finder 21 = .ok (.iload_n 2, 1) := dk_28 (dk_at dksX5_finder_0 21 rfl rfl)
theorem dX5_finder_22 : decode cX5_finder 22 = .ok (.tableswitch 61 0 3 #[30, 37, 39, 55], 30) := by decide +kernel
theorem dX5_finder_52 : decode cX5_finder 52 = .ok (.aload_n 0, 1) := dk_42 (dk_at dksX5_finder_2 0 rfl rfl)
theorem dX5_finder_53 : decode cX5_finder 53 = .ok (.iload_n 1, 1) := dk_27 (dk_at dksX5_finder_2 1 rfl rfl)
theorem dX5_finder_54 : decode cX5_finder 54 = .ok (.iconst 0, 1) := dk_3 (dk_at dksX5_finder_2 2 rfl rfl)
theorem dX5_finder_55 : decode cX5_finder 55 = .ok (.invokevirtual 127, 3) := dk_182 0 127 (dk_at dksX5_finder_2 3 rfl rfl)
theorem dX5_finder_58 : decode cX5_finder 58 = .ok (.ireturn, 1) := dk_172 (dk_at dksX5_finder_2 6 rfl rfl)
theorem dX5_finder_59 : decode cX5_finder 59 = .ok (.iload_n 3, 1) := dk_29 (dk_at dksX5_finder_2 7 rfl rfl)
theorem dX5_finder_60 : decode cX5_finder 60 = .ok (.ireturn, 1) := dk_172 (dk_at dksX5_finder_2 8 rfl rfl)
theorem dX5_finder_61 : decode cX5_finder 61 = .ok (.iload_n 3, 1) := dk_29 (dk_at dksX5_finder_2 9 rfl rfl)
theorem dX5_finder_62 : decode cX5_finder 62 = .ok (.iconst (-1), 1) := dk_2 (dk_at dksX5_finder_2 10 rfl rfl)
theorem dX5_finder_63 : decode cX5_finder 63 = .ok (.if_icmp .ne 7, 3) := dk_160 0 7 (dk_at dksX5_finder_2 11 rfl rfl)
theorem dX5_finder_66 : decode cX5_finder 66 = .ok (.iconst (-1), 1) := dk_2 (dk_at dksX5_finder_2 14 rfl rfl)
theorem dX5_finder_67 : decode cX5_finder 67 = .ok (.goto 9, 3) := dk_167 0 9 (dk_at dksX5_finder_2 15 rfl rfl)
theorem dX5_finder_70 : decode cX5_finder 70 = .ok (.aload_n 0, 1) := dk_42 (dk_at dksX5_finder_2 18 rfl rfl)
theorem dX5_finder_71 : decode cX5_finder 71 = .ok (.iload_n 3, 1) := dk_29 (dk_at dksX5_finder_2 19 rfl rfl)
theorem dX5_finder_72 : decode cX5_finder 72 = .ok (.iload_n 1, 1) := dk_27 (dk_at dksX5_finder_2 20 rfl rfl)
theorem dX5_finder_73 : decode cX5_finder 73 = .ok (.invokevirtual 130, 3) := dk_182 0 130 (dk_at dksX5_finder_2 21 rfl rfl)
theorem dX5_finder_76 : decode cX5_finder 76 = .ok (.ireturn, 1) := dk_172 (dk_at dksX5_finder_3 0 rfl rfl)
theorem dX5_finder_77 : decode cX5_finder 77 = .ok (.aload_n 0, 1) := dk_42 (dk_at dksX5_finder_3 1 rfl rfl)
theorem dX5_finder_78 : decode cX5_finder 78 = .ok (.iload_n 1, 1) := dk_27 (dk_at dksX5_finder_3 2 rfl rfl)
theorem dX5_finder_79 : decode cX5_finder 79 = .ok (.invokevirtual 199, 3) := dk_182 0 199 (dk_at dksX5_finder_3 3 rfl rfl)
theorem dX5_finder_82 : decode cX5_finder 82 = .ok (.ireturn, 1) := dk_172 (dk_at dksX5_finder_3 6 rfl rfl)
theorem dX5_finder_83 : decode cX5_finder 83 = .ok (.aload_n 0, 1) := dk_42 (dk_at dksX5_finder_3 7 rfl rfl)
theorem dX5_finder_84 : decode cX5_finder 84 = .ok (.iconst 2, 1) := dk_5 (dk_at dksX5_finder_3 8 rfl rfl)
theorem dX5_finder_85 : decode cX5_finder 85 = .ok (.invokevirtual 193, 3) := dk_182 0 193 (dk_at dksX5_finder_3 9 rfl rfl)
theorem dX5_finder_88 : decode cX5_finder 88 = .ok (.ireturn, 1) := dk_172 (dk_at dksX5_finder_3 12 rfl rfl)
abbrev cX5_isFinder : ByteArray := prog_21_method_15_code
def yX5_isFinder : MethodName := ⟨RX5, "isFinder", "(I)Z"⟩
def dkwX5_isFinder_0 : List UInt8 := [27, 3, 42, 180, 0, 51, 7, 46, 4, 100, 184, 0, 102, 172]
abbrev dktX5_isFinder_0 : List UInt8 := dkwX5_isFinder_0 ++ []
theorem dksX5_isFinder_0 : cX5_isFinder.data.toList.drop 0 = dktX5_isFinder_0 := by decide +kernel
theorem dX5_isFinder_0 : decode cX5_isFinder 0 = .ok (.iload_n 1, 1) := dk_27 (dk_at dksX5_isFinder_0 0 rfl rfl)
theorem dX5_isFinder_1 : decode cX5_isFinder 1 = .ok (.iconst 0, 1) := dk_3 (dk_at dksX5_isFinder_0 1 rfl rfl)
theorem dX5_isFinder_2 : decode cX5_isFinder 2 = .ok (.aload_n 0, 1) := dk_42 (dk_at dksX5_isFinder_0 2 rfl rfl)
theorem dX5_isFinder_3 : decode cX5_isFinder 3 = .ok (.getfield 51, 3) := dk_180 0 51 (dk_at dksX5_isFinder_0 3 rfl rfl)
theorem dX5_isFinder_6 : decode cX5_isFinder 6 = .ok (.iconst 4, 1) := dk_7 (dk_at dksX5_isFinder_0 6 rfl rfl)
theorem dX5_isFinder_7 : decode cX5_isFinder 7 = .ok (.iaload, 1) := dk_46 (dk_at dksX5_isFinder_0 7 rfl rfl)
theorem dX5_isFinder_8 : decode cX5_isFinder 8 = .ok (.iconst 1, 1) := dk_4 (dk_at dksX5_isFinder_0 8 rfl rfl)
theorem dX5_isFinder_9 : decode cX5_isFinder 9 = .ok (.isub, 1) := dk_100 (dk_at dksX5_isFinder_0 9 rfl rfl)
theorem dX5_isFinder_10 : decode cX5_isFinder 10 = .ok (.invokestatic 102, 3) := dk_184 0 102 (dk_at dksX5_isFinder_0 10 rfl rfl)
theorem dX5_isFinder_13 : decode cX5_isFinder 13 = .ok (.ireturn, 1) := dk_172 (dk_at dksX5_isFinder_0 13 rfl rfl)
abbrev cX5_placeOf : ByteArray := prog_21_method_23_code
def yX5_placeOf : MethodName := ⟨RX5, "placeOf", "(II)I"⟩
def dkwX5_placeOf_1 : List UInt8 := [172, 132, 3, 1, 167, 255, 230, 2, 172]
abbrev dktX5_placeOf_1 : List UInt8 := dkwX5_placeOf_1 ++ []
def dkwX5_placeOf_0 : List UInt8 := [3, 62, 29, 42, 27, 16, 9, 182, 0, 106, 162, 0, 21, 42, 27, 29, 182, 0, 124, 28, 160, 0, 5, 29]
abbrev dktX5_placeOf_0 : List UInt8 := dkwX5_placeOf_0 ++ dktX5_placeOf_1
theorem dksX5_placeOf_0 : cX5_placeOf.data.toList.drop 0 = dktX5_placeOf_0 := by decide +kernel
theorem dksX5_placeOf_1 : cX5_placeOf.data.toList.drop 24 = dktX5_placeOf_1 := dk_seg dksX5_placeOf_0 24 rfl rfl
theorem dX5_placeOf_0 : decode cX5_placeOf 0 = .ok (.iconst 0, 1) := dk_3 (dk_at dksX5_placeOf_0 0 rfl rfl)
theorem dX5_placeOf_1 : decode cX5_placeOf 1 = .ok (.istore_n 3, 1) := dk_62 (dk_at dksX5_placeOf_0 1 rfl rfl)
theorem dX5_placeOf_2 : decode cX5_placeOf 2 = .ok (.iload_n 3, 1) := dk_29 (dk_at dksX5_placeOf_0 2 rfl rfl)
theorem dX5_placeOf_3 : decode cX5_placeOf 3 = .ok (.aload_n 0, 1) := dk_42 (dk_at dksX5_placeOf_0 3 rfl rfl)
theorem dX5_placeOf_4 : decode cX5_placeOf 4 = .ok (.iload_n 1, 1) := dk_27 (dk_at dksX5_placeOf_0 4 rfl rfl)
theorem dX5_placeOf_5 : decode cX5_placeOf 5 = .ok (.bipush 9, 2) := dk_16 9 (dk_at dksX5_placeOf_0 5 rfl rfl)
theorem dX5_placeOf_7 : decode cX5_placeOf 7 = .ok (.invokevirtual 106, 3) := dk_182 0 106 (dk_at dksX5_placeOf_0 7 rfl rfl)
theorem dX5_placeOf_10 : decode cX5_placeOf 10 = .ok (.if_icmp .ge 21, 3) := dk_162 0 21 (dk_at dksX5_placeOf_0 10 rfl rfl)
theorem dX5_placeOf_13 : decode cX5_placeOf 13 = .ok (.aload_n 0, 1) := dk_42 (dk_at dksX5_placeOf_0 13 rfl rfl)
theorem dX5_placeOf_14 : decode cX5_placeOf 14 = .ok (.iload_n 1, 1) := dk_27 (dk_at dksX5_placeOf_0 14 rfl rfl)
theorem dX5_placeOf_15 : decode cX5_placeOf 15 = .ok (.iload_n 3, 1) := dk_29 (dk_at dksX5_placeOf_0 15 rfl rfl)
theorem dX5_placeOf_16 : decode cX5_placeOf 16 = .ok (.invokevirtual 124, 3) := dk_182 0 124 (dk_at dksX5_placeOf_0 16 rfl rfl)
theorem dX5_placeOf_19 : decode cX5_placeOf 19 = .ok (.iload_n 2, 1) := dk_28 (dk_at dksX5_placeOf_0 19 rfl rfl)
theorem dX5_placeOf_20 : decode cX5_placeOf 20 = .ok (.if_icmp .ne 5, 3) := dk_160 0 5 (dk_at dksX5_placeOf_0 20 rfl rfl)
theorem dX5_placeOf_23 : decode cX5_placeOf 23 = .ok (.iload_n 3, 1) := dk_29 (dk_at dksX5_placeOf_0 23 rfl rfl)
theorem dX5_placeOf_24 : decode cX5_placeOf 24 = .ok (.ireturn, 1) := dk_172 (dk_at dksX5_placeOf_1 0 rfl rfl)
theorem dX5_placeOf_25 : decode cX5_placeOf 25 = .ok (.iinc 3 1, 3) := dk_132 3 1 (dk_at dksX5_placeOf_1 1 rfl rfl)
theorem dX5_placeOf_28 : decode cX5_placeOf 28 = .ok (.goto (-26), 3) := dk_167 255 230 (dk_at dksX5_placeOf_1 4 rfl rfl)
theorem dX5_placeOf_31 : decode cX5_placeOf 31 = .ok (.iconst (-1), 1) := dk_2 (dk_at dksX5_placeOf_1 7 rfl rfl)
theorem dX5_placeOf_32 : decode cX5_placeOf 32 = .ok (.ireturn, 1) := dk_172 (dk_at dksX5_placeOf_1 8 rfl rfl)
abbrev cX5_handOf : ByteArray := prog_21_method_22_code
def yX5_handOf : MethodName := ⟨RX5, "handOf", "(II)I"⟩
def dkwX5_handOf_0 : List UInt8 := [42, 27, 16, 10, 28, 96, 182, 0, 106, 172]
abbrev dktX5_handOf_0 : List UInt8 := dkwX5_handOf_0 ++ []
theorem dksX5_handOf_0 : cX5_handOf.data.toList.drop 0 = dktX5_handOf_0 := by decide +kernel
theorem dX5_handOf_0 : decode cX5_handOf 0 = .ok (.aload_n 0, 1) := dk_42 (dk_at dksX5_handOf_0 0 rfl rfl)
theorem dX5_handOf_1 : decode cX5_handOf 1 = .ok (.iload_n 1, 1) := dk_27 (dk_at dksX5_handOf_0 1 rfl rfl)
theorem dX5_handOf_2 : decode cX5_handOf 2 = .ok (.bipush 10, 2) := dk_16 10 (dk_at dksX5_handOf_0 2 rfl rfl)
theorem dX5_handOf_4 : decode cX5_handOf 4 = .ok (.iload_n 2, 1) := dk_28 (dk_at dksX5_handOf_0 4 rfl rfl)
theorem dX5_handOf_5 : decode cX5_handOf 5 = .ok (.iadd, 1) := dk_96 (dk_at dksX5_handOf_0 5 rfl rfl)
theorem dX5_handOf_6 : decode cX5_handOf 6 = .ok (.invokevirtual 106, 3) := dk_182 0 106 (dk_at dksX5_handOf_0 6 rfl rfl)
theorem dX5_handOf_9 : decode cX5_handOf 9 = .ok (.ireturn, 1) := dk_172 (dk_at dksX5_handOf_0 9 rfl rfl)
abbrev cX5_crewsWith : ByteArray := prog_21_method_48_code
def yX5_crewsWith : MethodName := ⟨RX5, "crewsWith", "(I)I"⟩
def dkwX5_crewsWith_2 : List UInt8 := [172]
abbrev dktX5_crewsWith_2 : List UInt8 := dkwX5_crewsWith_2 ++ []
def dkwX5_crewsWith_1 : List UInt8 := [42, 29, 27, 182, 0, 130, 2, 159, 0, 7, 4, 167, 0, 4, 3, 96, 61, 132, 3, 1, 167, 255, 216, 28]
abbrev dktX5_crewsWith_1 : List UInt8 := dkwX5_crewsWith_1 ++ dktX5_crewsWith_2
def dkwX5_crewsWith_0 : List UInt8 := [3, 61, 3, 62, 29, 42, 180, 0, 51, 8, 46, 162, 0, 36, 28, 42, 29, 3, 182, 0, 118, 154, 0, 17]
abbrev dktX5_crewsWith_0 : List UInt8 := dkwX5_crewsWith_0 ++ dktX5_crewsWith_1
theorem dksX5_crewsWith_0 : cX5_crewsWith.data.toList.drop 0 = dktX5_crewsWith_0 := by decide +kernel
theorem dksX5_crewsWith_1 : cX5_crewsWith.data.toList.drop 24 = dktX5_crewsWith_1 := dk_seg dksX5_crewsWith_0 24 rfl rfl
theorem dksX5_crewsWith_2 : cX5_crewsWith.data.toList.drop 48 = dktX5_crewsWith_2 := dk_seg dksX5_crewsWith_1 24 rfl rfl
theorem dX5_crewsWith_0 : decode cX5_crewsWith 0 = .ok (.iconst 0, 1) := dk_3 (dk_at dksX5_crewsWith_0 0 rfl rfl)
theorem dX5_crewsWith_1 : decode cX5_crewsWith 1 = .ok (.istore_n 2, 1) := dk_61 (dk_at dksX5_crewsWith_0 1 rfl rfl)
theorem dX5_crewsWith_2 : decode cX5_crewsWith 2 = .ok (.iconst 0, 1) := dk_3 (dk_at dksX5_crewsWith_0 2 rfl rfl)
theorem dX5_crewsWith_3 : decode cX5_crewsWith 3 = .ok (.istore_n 3, 1) := dk_62 (dk_at dksX5_crewsWith_0 3 rfl rfl)
theorem dX5_crewsWith_4 : decode cX5_crewsWith 4 = .ok (.iload_n 3, 1) := dk_29 (dk_at dksX5_crewsWith_0 4 rfl rfl)
theorem dX5_crewsWith_5 : decode cX5_crewsWith 5 = .ok (.aload_n 0, 1) := dk_42 (dk_at dksX5_crewsWith_0 5 rfl rfl)
theorem dX5_crewsWith_6 : decode cX5_crewsWith 6 = .ok (.getfield 51, 3) := dk_180 0 51 (dk_at dksX5_crewsWith_0 6 rfl rfl)
theorem dX5_crewsWith_9 : decode cX5_crewsWith 9 = .ok (.iconst 5, 1) := dk_8 (dk_at dksX5_crewsWith_0 9 rfl rfl)
theorem dX5_crewsWith_10 : decode cX5_crewsWith 10 = .ok (.iaload, 1) := dk_46 (dk_at dksX5_crewsWith_0 10 rfl rfl)
theorem dX5_crewsWith_11 : decode cX5_crewsWith 11 = .ok (.if_icmp .ge 36, 3) := dk_162 0 36 (dk_at dksX5_crewsWith_0 11 rfl rfl)
theorem dX5_crewsWith_14 : decode cX5_crewsWith 14 = .ok (.iload_n 2, 1) := dk_28 (dk_at dksX5_crewsWith_0 14 rfl rfl)
theorem dX5_crewsWith_15 : decode cX5_crewsWith 15 = .ok (.aload_n 0, 1) := dk_42 (dk_at dksX5_crewsWith_0 15 rfl rfl)
theorem dX5_crewsWith_16 : decode cX5_crewsWith 16 = .ok (.iload_n 3, 1) := dk_29 (dk_at dksX5_crewsWith_0 16 rfl rfl)
theorem dX5_crewsWith_17 : decode cX5_crewsWith 17 = .ok (.iconst 0, 1) := dk_3 (dk_at dksX5_crewsWith_0 17 rfl rfl)
theorem dX5_crewsWith_18 : decode cX5_crewsWith 18 = .ok (.invokevirtual 118, 3) := dk_182 0 118 (dk_at dksX5_crewsWith_0 18 rfl rfl)
theorem dX5_crewsWith_21 : decode cX5_crewsWith 21 = .ok (.ifCond .ne 17, 3) := dk_154 0 17 (dk_at dksX5_crewsWith_0 21 rfl rfl)
theorem dX5_crewsWith_24 : decode cX5_crewsWith 24 = .ok (.aload_n 0, 1) := dk_42 (dk_at dksX5_crewsWith_1 0 rfl rfl)
theorem dX5_crewsWith_25 : decode cX5_crewsWith 25 = .ok (.iload_n 3, 1) := dk_29 (dk_at dksX5_crewsWith_1 1 rfl rfl)
theorem dX5_crewsWith_26 : decode cX5_crewsWith 26 = .ok (.iload_n 1, 1) := dk_27 (dk_at dksX5_crewsWith_1 2 rfl rfl)
theorem dX5_crewsWith_27 : decode cX5_crewsWith 27 = .ok (.invokevirtual 130, 3) := dk_182 0 130 (dk_at dksX5_crewsWith_1 3 rfl rfl)
theorem dX5_crewsWith_30 : decode cX5_crewsWith 30 = .ok (.iconst (-1), 1) := dk_2 (dk_at dksX5_crewsWith_1 6 rfl rfl)
theorem dX5_crewsWith_31 : decode cX5_crewsWith 31 = .ok (.if_icmp .eq 7, 3) := dk_159 0 7 (dk_at dksX5_crewsWith_1 7 rfl rfl)
theorem dX5_crewsWith_34 : decode cX5_crewsWith 34 = .ok (.iconst 1, 1) := dk_4 (dk_at dksX5_crewsWith_1 10 rfl rfl)
theorem dX5_crewsWith_35 : decode cX5_crewsWith 35 = .ok (.goto 4, 3) := dk_167 0 4 (dk_at dksX5_crewsWith_1 11 rfl rfl)
theorem dX5_crewsWith_38 : decode cX5_crewsWith 38 = .ok (.iconst 0, 1) := dk_3 (dk_at dksX5_crewsWith_1 14 rfl rfl)
theorem dX5_crewsWith_39 : decode cX5_crewsWith 39 = .ok (.iadd, 1) := dk_96 (dk_at dksX5_crewsWith_1 15 rfl rfl)
theorem dX5_crewsWith_40 : decode cX5_crewsWith 40 = .ok (.istore_n 2, 1) := dk_61 (dk_at dksX5_crewsWith_1 16 rfl rfl)
theorem dX5_crewsWith_41 : decode cX5_crewsWith 41 = .ok (.iinc 3 1, 3) := dk_132 3 1 (dk_at dksX5_crewsWith_1 17 rfl rfl)
theorem dX5_crewsWith_44 : decode cX5_crewsWith 44 = .ok (.goto (-40), 3) := dk_167 255 216 (dk_at dksX5_crewsWith_1 20 rfl rfl)
theorem dX5_crewsWith_47 : decode cX5_crewsWith 47 = .ok (.iload_n 2, 1) := dk_28 (dk_at dksX5_crewsWith_1 23 rfl rfl)
theorem dX5_crewsWith_48 : decode cX5_crewsWith 48 = .ok (.ireturn, 1) := dk_172 (dk_at dksX5_crewsWith_2 0 rfl rfl)
abbrev cX5_owner : ByteArray := prog_21_method_51_code
def yX5_owner : MethodName := ⟨RX5, "owner", "(I)I"⟩
def dkwX5_owner_1 : List UInt8 := [100, 46, 172]
abbrev dktX5_owner_1 : List UInt8 := dkwX5_owner_1 ++ []
def dkwX5_owner_0 : List UInt8 := [42, 27, 184, 0, 202, 182, 0, 173, 153, 0, 7, 3, 167, 0, 14, 42, 180, 0, 51, 16, 15, 27, 96, 4]
abbrev dktX5_owner_0 : List UInt8 := dkwX5_owner_0 ++ dktX5_owner_1
theorem dksX5_owner_0 : cX5_owner.data.toList.drop 0 = dktX5_owner_0 := by decide +kernel
theorem dksX5_owner_1 : cX5_owner.data.toList.drop 24 = dktX5_owner_1 := dk_seg dksX5_owner_0 24 rfl rfl
theorem dX5_owner_0 : decode cX5_owner 0 = .ok (.aload_n 0, 1) := dk_42 (dk_at dksX5_owner_0 0 rfl rfl)
theorem dX5_owner_1 : decode cX5_owner 1 = .ok (.iload_n 1, 1) := dk_27 (dk_at dksX5_owner_0 1 rfl rfl)
theorem dX5_owner_2 : decode cX5_owner 2 = .ok (.invokestatic 202, 3) := dk_184 0 202 (dk_at dksX5_owner_0 2 rfl rfl)
theorem dX5_owner_5 : decode cX5_owner 5 = .ok (.invokevirtual 173, 3) := dk_182 0 173 (dk_at dksX5_owner_0 5 rfl rfl)
theorem dX5_owner_8 : decode cX5_owner 8 = .ok (.ifCond .eq 7, 3) := dk_153 0 7 (dk_at dksX5_owner_0 8 rfl rfl)
theorem dX5_owner_11 : decode cX5_owner 11 = .ok (.iconst 0, 1) := dk_3 (dk_at dksX5_owner_0 11 rfl rfl)
theorem dX5_owner_12 : decode cX5_owner 12 = .ok (.goto 14, 3) := dk_167 0 14 (dk_at dksX5_owner_0 12 rfl rfl)
theorem dX5_owner_15 : decode cX5_owner 15 = .ok (.aload_n 0, 1) := dk_42 (dk_at dksX5_owner_0 15 rfl rfl)
theorem dX5_owner_16 : decode cX5_owner 16 = .ok (.getfield 51, 3) := dk_180 0 51 (dk_at dksX5_owner_0 16 rfl rfl)
theorem dX5_owner_19 : decode cX5_owner 19 = .ok (.bipush 15, 2) := dk_16 15 (dk_at dksX5_owner_0 19 rfl rfl)
theorem dX5_owner_21 : decode cX5_owner 21 = .ok (.iload_n 1, 1) := dk_27 (dk_at dksX5_owner_0 21 rfl rfl)
theorem dX5_owner_22 : decode cX5_owner 22 = .ok (.iadd, 1) := dk_96 (dk_at dksX5_owner_0 22 rfl rfl)
theorem dX5_owner_23 : decode cX5_owner 23 = .ok (.iconst 1, 1) := dk_4 (dk_at dksX5_owner_0 23 rfl rfl)
theorem dX5_owner_24 : decode cX5_owner 24 = .ok (.isub, 1) := dk_100 (dk_at dksX5_owner_1 0 rfl rfl)
theorem dX5_owner_25 : decode cX5_owner 25 = .ok (.iaload, 1) := dk_46 (dk_at dksX5_owner_1 1 rfl rfl)
theorem dX5_owner_26 : decode cX5_owner 26 = .ok (.ireturn, 1) := dk_172 (dk_at dksX5_owner_1 2 rfl rfl)
abbrev cX5_isOwner : ByteArray := prog_21_method_50_code
def yX5_isOwner : MethodName := ⟨RX5, "isOwner", "(I)Z"⟩
def dkwX5_isOwner_0 : List UInt8 := [26, 4, 8, 184, 0, 102, 172]
abbrev dktX5_isOwner_0 : List UInt8 := dkwX5_isOwner_0 ++ []
theorem dksX5_isOwner_0 : cX5_isOwner.data.toList.drop 0 = dktX5_isOwner_0 := by decide +kernel
theorem dX5_isOwner_0 : decode cX5_isOwner 0 = .ok (.iload_n 0, 1) := dk_26 (dk_at dksX5_isOwner_0 0 rfl rfl)
theorem dX5_isOwner_1 : decode cX5_isOwner 1 = .ok (.iconst 1, 1) := dk_4 (dk_at dksX5_isOwner_0 1 rfl rfl)
theorem dX5_isOwner_2 : decode cX5_isOwner 2 = .ok (.iconst 5, 1) := dk_8 (dk_at dksX5_isOwner_0 2 rfl rfl)
theorem dX5_isOwner_3 : decode cX5_isOwner 3 = .ok (.invokestatic 102, 3) := dk_184 0 102 (dk_at dksX5_isOwner_0 3 rfl rfl)
theorem dX5_isOwner_6 : decode cX5_isOwner 6 = .ok (.ireturn, 1) := dk_172 (dk_at dksX5_isOwner_0 6 rfl rfl)
abbrev cX5_hand : ByteArray := prog_21_method_52_code
def yX5_hand : MethodName := ⟨RX5, "hand", "(IIZ)I"⟩
def dkwX5_hand_2 : List UInt8 := [21, 4, 153, 0, 12, 42, 27, 28, 182, 0, 124, 167, 0, 4, 2, 172]
abbrev dktX5_hand_2 : List UInt8 := dkwX5_hand_2 ++ []
def dkwX5_hand_1 : List UInt8 := [28, 3, 42, 27, 16, 9, 182, 0, 106, 4, 100, 184, 0, 102, 153, 0, 7, 4, 167, 0, 4, 3, 54, 4]
abbrev dktX5_hand_1 : List UInt8 := dkwX5_hand_1 ++ dktX5_hand_2
def dkwX5_hand_0 : List UInt8 := [42, 42, 27, 182, 0, 190, 182, 0, 173, 153, 0, 5, 3, 172, 42, 27, 3, 182, 0, 118, 29, 159, 0, 24]
abbrev dktX5_hand_0 : List UInt8 := dkwX5_hand_0 ++ dktX5_hand_1
theorem dksX5_hand_0 : cX5_hand.data.toList.drop 0 = dktX5_hand_0 := by decide +kernel
theorem dksX5_hand_1 : cX5_hand.data.toList.drop 24 = dktX5_hand_1 := dk_seg dksX5_hand_0 24 rfl rfl
theorem dksX5_hand_2 : cX5_hand.data.toList.drop 48 = dktX5_hand_2 := dk_seg dksX5_hand_1 24 rfl rfl
theorem dX5_hand_0 : decode cX5_hand 0 = .ok (.aload_n 0, 1) := dk_42 (dk_at dksX5_hand_0 0 rfl rfl)
theorem dX5_hand_1 : decode cX5_hand 1 = .ok (.aload_n 0, 1) := dk_42 (dk_at dksX5_hand_0 1 rfl rfl)
theorem dX5_hand_2 : decode cX5_hand 2 = .ok (.iload_n 1, 1) := dk_27 (dk_at dksX5_hand_0 2 rfl rfl)
theorem dX5_hand_3 : decode cX5_hand 3 = .ok (.invokevirtual 190, 3) := dk_182 0 190 (dk_at dksX5_hand_0 3 rfl rfl)
theorem dX5_hand_6 : decode cX5_hand 6 = .ok (.invokevirtual 173, 3) := dk_182 0 173 (dk_at dksX5_hand_0 6 rfl rfl)
theorem dX5_hand_9 : decode cX5_hand 9 = .ok (.ifCond .eq 5, 3) := dk_153 0 5 (dk_at dksX5_hand_0 9 rfl rfl)
theorem dX5_hand_12 : decode cX5_hand 12 = .ok (.iconst 0, 1) := dk_3 (dk_at dksX5_hand_0 12 rfl rfl)
theorem dX5_hand_13 : decode cX5_hand 13 = .ok (.ireturn, 1) := dk_172 (dk_at dksX5_hand_0 13 rfl rfl)
theorem dX5_hand_14 : decode cX5_hand 14 = .ok (.aload_n 0, 1) := dk_42 (dk_at dksX5_hand_0 14 rfl rfl)
theorem dX5_hand_15 : decode cX5_hand 15 = .ok (.iload_n 1, 1) := dk_27 (dk_at dksX5_hand_0 15 rfl rfl)
theorem dX5_hand_16 : decode cX5_hand 16 = .ok (.iconst 0, 1) := dk_3 (dk_at dksX5_hand_0 16 rfl rfl)
theorem dX5_hand_17 : decode cX5_hand 17 = .ok (.invokevirtual 118, 3) := dk_182 0 118 (dk_at dksX5_hand_0 17 rfl rfl)
theorem dX5_hand_20 : decode cX5_hand 20 = .ok (.iload_n 3, 1) := dk_29 (dk_at dksX5_hand_0 20 rfl rfl)
theorem dX5_hand_21 : decode cX5_hand 21 = .ok (.if_icmp .eq 24, 3) := dk_159 0 24 (dk_at dksX5_hand_0 21 rfl rfl)
theorem dX5_hand_24 : decode cX5_hand 24 = .ok (.iload_n 2, 1) := dk_28 (dk_at dksX5_hand_1 0 rfl rfl)
theorem dX5_hand_25 : decode cX5_hand 25 = .ok (.iconst 0, 1) := dk_3 (dk_at dksX5_hand_1 1 rfl rfl)
theorem dX5_hand_26 : decode cX5_hand 26 = .ok (.aload_n 0, 1) := dk_42 (dk_at dksX5_hand_1 2 rfl rfl)
theorem dX5_hand_27 : decode cX5_hand 27 = .ok (.iload_n 1, 1) := dk_27 (dk_at dksX5_hand_1 3 rfl rfl)
theorem dX5_hand_28 : decode cX5_hand 28 = .ok (.bipush 9, 2) := dk_16 9 (dk_at dksX5_hand_1 4 rfl rfl)
theorem dX5_hand_30 : decode cX5_hand 30 = .ok (.invokevirtual 106, 3) := dk_182 0 106 (dk_at dksX5_hand_1 6 rfl rfl)
theorem dX5_hand_33 : decode cX5_hand 33 = .ok (.iconst 1, 1) := dk_4 (dk_at dksX5_hand_1 9 rfl rfl)
theorem dX5_hand_34 : decode cX5_hand 34 = .ok (.isub, 1) := dk_100 (dk_at dksX5_hand_1 10 rfl rfl)
theorem dX5_hand_35 : decode cX5_hand 35 = .ok (.invokestatic 102, 3) := dk_184 0 102 (dk_at dksX5_hand_1 11 rfl rfl)
theorem dX5_hand_38 : decode cX5_hand 38 = .ok (.ifCond .eq 7, 3) := dk_153 0 7 (dk_at dksX5_hand_1 14 rfl rfl)
theorem dX5_hand_41 : decode cX5_hand 41 = .ok (.iconst 1, 1) := dk_4 (dk_at dksX5_hand_1 17 rfl rfl)
theorem dX5_hand_42 : decode cX5_hand 42 = .ok (.goto 4, 3) := dk_167 0 4 (dk_at dksX5_hand_1 18 rfl rfl)
theorem dX5_hand_45 : decode cX5_hand 45 = .ok (.iconst 0, 1) := dk_3 (dk_at dksX5_hand_1 21 rfl rfl)
theorem dX5_hand_46 : decode cX5_hand 46 = .ok (.istore 4, 2) := dk_54 4 (dk_at dksX5_hand_1 22 rfl rfl)
theorem dX5_hand_48 : decode cX5_hand 48 = .ok (.iload 4, 2) := dk_21 4 (dk_at dksX5_hand_2 0 rfl rfl)
theorem dX5_hand_50 : decode cX5_hand 50 = .ok (.ifCond .eq 12, 3) := dk_153 0 12 (dk_at dksX5_hand_2 2 rfl rfl)
theorem dX5_hand_53 : decode cX5_hand 53 = .ok (.aload_n 0, 1) := dk_42 (dk_at dksX5_hand_2 5 rfl rfl)
theorem dX5_hand_54 : decode cX5_hand 54 = .ok (.iload_n 1, 1) := dk_27 (dk_at dksX5_hand_2 6 rfl rfl)
theorem dX5_hand_55 : decode cX5_hand 55 = .ok (.iload_n 2, 1) := dk_28 (dk_at dksX5_hand_2 7 rfl rfl)
theorem dX5_hand_56 : decode cX5_hand 56 = .ok (.invokevirtual 124, 3) := dk_182 0 124 (dk_at dksX5_hand_2 8 rfl rfl)
theorem dX5_hand_59 : decode cX5_hand 59 = .ok (.goto 4, 3) := dk_167 0 4 (dk_at dksX5_hand_2 11 rfl rfl)
theorem dX5_hand_62 : decode cX5_hand 62 = .ok (.iconst (-1), 1) := dk_2 (dk_at dksX5_hand_2 14 rfl rfl)
theorem dX5_hand_63 : decode cX5_hand 63 = .ok (.ireturn, 1) := dk_172 (dk_at dksX5_hand_2 15 rfl rfl)
abbrev cX5_count : ByteArray := prog_21_method_53_code
def yX5_count : MethodName := ⟨RX5, "count", "(II)I"⟩
def dkwX5_count_3 : List UInt8 := [167, 0, 4, 3, 96, 62, 132, 4, 1, 167, 255, 213, 29, 172]
abbrev dktX5_count_3 : List UInt8 := dkwX5_count_3 ++ []
def dkwX5_count_2 : List UInt8 := [29, 42, 21, 4, 3, 182, 0, 106, 27, 160, 0, 17, 42, 21, 4, 28, 182, 0, 118, 153, 0, 7, 4]
abbrev dktX5_count_2 : List UInt8 := dkwX5_count_2 ++ dktX5_count_3
def dkwX5_count_1 : List UInt8 := [182, 0, 173, 153, 0, 5, 3, 172, 3, 62, 3, 54, 4, 21, 4, 42, 180, 0, 51, 8, 46, 162, 0, 38]
abbrev dktX5_count_1 : List UInt8 := dkwX5_count_1 ++ dktX5_count_2
def dkwX5_count_0 : List UInt8 := [42, 27, 3, 6, 184, 0, 102, 153, 0, 16, 28, 3, 6, 184, 0, 102, 153, 0, 7, 4, 167, 0, 4, 3]
abbrev dktX5_count_0 : List UInt8 := dkwX5_count_0 ++ dktX5_count_1
theorem dksX5_count_0 : cX5_count.data.toList.drop 0 = dktX5_count_0 := by decide +kernel
theorem dksX5_count_1 : cX5_count.data.toList.drop 24 = dktX5_count_1 := dk_seg dksX5_count_0 24 rfl rfl
theorem dksX5_count_2 : cX5_count.data.toList.drop 48 = dktX5_count_2 := dk_seg dksX5_count_1 24 rfl rfl
theorem dksX5_count_3 : cX5_count.data.toList.drop 71 = dktX5_count_3 := dk_seg dksX5_count_2 23 rfl rfl
theorem dX5_count_0 : decode cX5_count 0 = .ok (.aload_n 0, 1) := dk_42 (dk_at dksX5_count_0 0 rfl rfl)
theorem dX5_count_1 : decode cX5_count 1 = .ok (.iload_n 1, 1) := dk_27 (dk_at dksX5_count_0 1 rfl rfl)
theorem dX5_count_2 : decode cX5_count 2 = .ok (.iconst 0, 1) := dk_3 (dk_at dksX5_count_0 2 rfl rfl)
theorem dX5_count_3 : decode cX5_count 3 = .ok (.iconst 3, 1) := dk_6 (dk_at dksX5_count_0 3 rfl rfl)
theorem dX5_count_4 : decode cX5_count 4 = .ok (.invokestatic 102, 3) := dk_184 0 102 (dk_at dksX5_count_0 4 rfl rfl)
theorem dX5_count_7 : decode cX5_count 7 = .ok (.ifCond .eq 16, 3) := dk_153 0 16 (dk_at dksX5_count_0 7 rfl rfl)
theorem dX5_count_10 : decode cX5_count 10 = .ok (.iload_n 2, 1) := dk_28 (dk_at dksX5_count_0 10 rfl rfl)
theorem dX5_count_11 : decode cX5_count 11 = .ok (.iconst 0, 1) := dk_3 (dk_at dksX5_count_0 11 rfl rfl)
theorem dX5_count_12 : decode cX5_count 12 = .ok (.iconst 3, 1) := dk_6 (dk_at dksX5_count_0 12 rfl rfl)
theorem dX5_count_13 : decode cX5_count 13 = .ok (.invokestatic 102, 3) := dk_184 0 102 (dk_at dksX5_count_0 13 rfl rfl)
theorem dX5_count_16 : decode cX5_count 16 = .ok (.ifCond .eq 7, 3) := dk_153 0 7 (dk_at dksX5_count_0 16 rfl rfl)
theorem dX5_count_19 : decode cX5_count 19 = .ok (.iconst 1, 1) := dk_4 (dk_at dksX5_count_0 19 rfl rfl)
theorem dX5_count_20 : decode cX5_count 20 = .ok (.goto 4, 3) := dk_167 0 4 (dk_at dksX5_count_0 20 rfl rfl)
theorem dX5_count_23 : decode cX5_count 23 = .ok (.iconst 0, 1) := dk_3 (dk_at dksX5_count_0 23 rfl rfl)
theorem dX5_count_24 : decode cX5_count 24 = .ok (.invokevirtual 173, 3) := dk_182 0 173 (dk_at dksX5_count_1 0 rfl rfl)
theorem dX5_count_27 : decode cX5_count 27 = .ok (.ifCond .eq 5, 3) := dk_153 0 5 (dk_at dksX5_count_1 3 rfl rfl)
theorem dX5_count_30 : decode cX5_count 30 = .ok (.iconst 0, 1) := dk_3 (dk_at dksX5_count_1 6 rfl rfl)
theorem dX5_count_31 : decode cX5_count 31 = .ok (.ireturn, 1) := dk_172 (dk_at dksX5_count_1 7 rfl rfl)
theorem dX5_count_32 : decode cX5_count 32 = .ok (.iconst 0, 1) := dk_3 (dk_at dksX5_count_1 8 rfl rfl)
theorem dX5_count_33 : decode cX5_count 33 = .ok (.istore_n 3, 1) := dk_62 (dk_at dksX5_count_1 9 rfl rfl)
theorem dX5_count_34 : decode cX5_count 34 = .ok (.iconst 0, 1) := dk_3 (dk_at dksX5_count_1 10 rfl rfl)
theorem dX5_count_35 : decode cX5_count 35 = .ok (.istore 4, 2) := dk_54 4 (dk_at dksX5_count_1 11 rfl rfl)
theorem dX5_count_37 : decode cX5_count 37 = .ok (.iload 4, 2) := dk_21 4 (dk_at dksX5_count_1 13 rfl rfl)
theorem dX5_count_39 : decode cX5_count 39 = .ok (.aload_n 0, 1) := dk_42 (dk_at dksX5_count_1 15 rfl rfl)
theorem dX5_count_40 : decode cX5_count 40 = .ok (.getfield 51, 3) := dk_180 0 51 (dk_at dksX5_count_1 16 rfl rfl)
theorem dX5_count_43 : decode cX5_count 43 = .ok (.iconst 5, 1) := dk_8 (dk_at dksX5_count_1 19 rfl rfl)
theorem dX5_count_44 : decode cX5_count 44 = .ok (.iaload, 1) := dk_46 (dk_at dksX5_count_1 20 rfl rfl)
theorem dX5_count_45 : decode cX5_count 45 = .ok (.if_icmp .ge 38, 3) := dk_162 0 38 (dk_at dksX5_count_1 21 rfl rfl)
theorem dX5_count_48 : decode cX5_count 48 = .ok (.iload_n 3, 1) := dk_29 (dk_at dksX5_count_2 0 rfl rfl)
theorem dX5_count_49 : decode cX5_count 49 = .ok (.aload_n 0, 1) := dk_42 (dk_at dksX5_count_2 1 rfl rfl)
theorem dX5_count_50 : decode cX5_count 50 = .ok (.iload 4, 2) := dk_21 4 (dk_at dksX5_count_2 2 rfl rfl)
theorem dX5_count_52 : decode cX5_count 52 = .ok (.iconst 0, 1) := dk_3 (dk_at dksX5_count_2 4 rfl rfl)
theorem dX5_count_53 : decode cX5_count 53 = .ok (.invokevirtual 106, 3) := dk_182 0 106 (dk_at dksX5_count_2 5 rfl rfl)
theorem dX5_count_56 : decode cX5_count 56 = .ok (.iload_n 1, 1) := dk_27 (dk_at dksX5_count_2 8 rfl rfl)
theorem dX5_count_57 : decode cX5_count 57 = .ok (.if_icmp .ne 17, 3) := dk_160 0 17 (dk_at dksX5_count_2 9 rfl rfl)
theorem dX5_count_60 : decode cX5_count 60 = .ok (.aload_n 0, 1) := dk_42 (dk_at dksX5_count_2 12 rfl rfl)
theorem dX5_count_61 : decode cX5_count 61 = .ok (.iload 4, 2) := dk_21 4 (dk_at dksX5_count_2 13 rfl rfl)
theorem dX5_count_63 : decode cX5_count 63 = .ok (.iload_n 2, 1) := dk_28 (dk_at dksX5_count_2 15 rfl rfl)
theorem dX5_count_64 : decode cX5_count 64 = .ok (.invokevirtual 118, 3) := dk_182 0 118 (dk_at dksX5_count_2 16 rfl rfl)
theorem dX5_count_67 : decode cX5_count 67 = .ok (.ifCond .eq 7, 3) := dk_153 0 7 (dk_at dksX5_count_2 19 rfl rfl)
theorem dX5_count_70 : decode cX5_count 70 = .ok (.iconst 1, 1) := dk_4 (dk_at dksX5_count_2 22 rfl rfl)
theorem dX5_count_71 : decode cX5_count 71 = .ok (.goto 4, 3) := dk_167 0 4 (dk_at dksX5_count_3 0 rfl rfl)
theorem dX5_count_74 : decode cX5_count 74 = .ok (.iconst 0, 1) := dk_3 (dk_at dksX5_count_3 3 rfl rfl)
theorem dX5_count_75 : decode cX5_count 75 = .ok (.iadd, 1) := dk_96 (dk_at dksX5_count_3 4 rfl rfl)
theorem dX5_count_76 : decode cX5_count 76 = .ok (.istore_n 3, 1) := dk_62 (dk_at dksX5_count_3 5 rfl rfl)
theorem dX5_count_77 : decode cX5_count 77 = .ok (.iinc 4 1, 3) := dk_132 4 1 (dk_at dksX5_count_3 6 rfl rfl)
theorem dX5_count_80 : decode cX5_count 80 = .ok (.goto (-43), 3) := dk_167 255 213 (dk_at dksX5_count_3 9 rfl rfl)
theorem dX5_count_83 : decode cX5_count 83 = .ok (.iload_n 3, 1) := dk_29 (dk_at dksX5_count_3 12 rfl rfl)
theorem dX5_count_84 : decode cX5_count 84 = .ok (.ireturn, 1) := dk_172 (dk_at dksX5_count_3 13 rfl rfl)
abbrev cX5_marked : ByteArray := prog_21_method_54_code
def yX5_marked : MethodName := ⟨RX5, "marked", "(II)I"⟩
def dkwX5_marked_3 : List UInt8 := [21, 4, 4, 182, 0, 106, 167, 0, 4, 3, 96, 62, 132, 4, 1, 167, 255, 207, 29, 172]
abbrev dktX5_marked_3 : List UInt8 := dkwX5_marked_3 ++ []
def dkwX5_marked_2 : List UInt8 := [29, 42, 21, 4, 5, 182, 0, 106, 27, 160, 0, 23, 42, 21, 4, 28, 182, 0, 118, 153, 0, 13, 42]
abbrev dktX5_marked_2 : List UInt8 := dkwX5_marked_2 ++ dktX5_marked_3
def dkwX5_marked_1 : List UInt8 := [182, 0, 173, 153, 0, 5, 3, 172, 3, 62, 3, 54, 4, 21, 4, 42, 180, 0, 51, 8, 46, 162, 0, 44]
abbrev dktX5_marked_1 : List UInt8 := dkwX5_marked_1 ++ dktX5_marked_2
def dkwX5_marked_0 : List UInt8 := [42, 27, 184, 0, 202, 153, 0, 16, 28, 3, 6, 184, 0, 102, 153, 0, 7, 4, 167, 0, 4, 3]
abbrev dktX5_marked_0 : List UInt8 := dkwX5_marked_0 ++ dktX5_marked_1
theorem dksX5_marked_0 : cX5_marked.data.toList.drop 0 = dktX5_marked_0 := by decide +kernel
theorem dksX5_marked_1 : cX5_marked.data.toList.drop 22 = dktX5_marked_1 := dk_seg dksX5_marked_0 22 rfl rfl
theorem dksX5_marked_2 : cX5_marked.data.toList.drop 46 = dktX5_marked_2 := dk_seg dksX5_marked_1 24 rfl rfl
theorem dksX5_marked_3 : cX5_marked.data.toList.drop 69 = dktX5_marked_3 := dk_seg dksX5_marked_2 23 rfl rfl
theorem dX5_marked_0 : decode cX5_marked 0 = .ok (.aload_n 0, 1) := dk_42 (dk_at dksX5_marked_0 0 rfl rfl)
theorem dX5_marked_1 : decode cX5_marked 1 = .ok (.iload_n 1, 1) := dk_27 (dk_at dksX5_marked_0 1 rfl rfl)
theorem dX5_marked_2 : decode cX5_marked 2 = .ok (.invokestatic 202, 3) := dk_184 0 202 (dk_at dksX5_marked_0 2 rfl rfl)
theorem dX5_marked_5 : decode cX5_marked 5 = .ok (.ifCond .eq 16, 3) := dk_153 0 16 (dk_at dksX5_marked_0 5 rfl rfl)
theorem dX5_marked_8 : decode cX5_marked 8 = .ok (.iload_n 2, 1) := dk_28 (dk_at dksX5_marked_0 8 rfl rfl)
theorem dX5_marked_9 : decode cX5_marked 9 = .ok (.iconst 0, 1) := dk_3 (dk_at dksX5_marked_0 9 rfl rfl)
theorem dX5_marked_10 : decode cX5_marked 10 = .ok (.iconst 3, 1) := dk_6 (dk_at dksX5_marked_0 10 rfl rfl)
theorem dX5_marked_11 : decode cX5_marked 11 = .ok (.invokestatic 102, 3) := dk_184 0 102 (dk_at dksX5_marked_0 11 rfl rfl)
theorem dX5_marked_14 : decode cX5_marked 14 = .ok (.ifCond .eq 7, 3) := dk_153 0 7 (dk_at dksX5_marked_0 14 rfl rfl)
theorem dX5_marked_17 : decode cX5_marked 17 = .ok (.iconst 1, 1) := dk_4 (dk_at dksX5_marked_0 17 rfl rfl)
theorem dX5_marked_18 : decode cX5_marked 18 = .ok (.goto 4, 3) := dk_167 0 4 (dk_at dksX5_marked_0 18 rfl rfl)
theorem dX5_marked_21 : decode cX5_marked 21 = .ok (.iconst 0, 1) := dk_3 (dk_at dksX5_marked_0 21 rfl rfl)
theorem dX5_marked_22 : decode cX5_marked 22 = .ok (.invokevirtual 173, 3) := dk_182 0 173 (dk_at dksX5_marked_1 0 rfl rfl)
theorem dX5_marked_25 : decode cX5_marked 25 = .ok (.ifCond .eq 5, 3) := dk_153 0 5 (dk_at dksX5_marked_1 3 rfl rfl)
theorem dX5_marked_28 : decode cX5_marked 28 = .ok (.iconst 0, 1) := dk_3 (dk_at dksX5_marked_1 6 rfl rfl)
theorem dX5_marked_29 : decode cX5_marked 29 = .ok (.ireturn, 1) := dk_172 (dk_at dksX5_marked_1 7 rfl rfl)
theorem dX5_marked_30 : decode cX5_marked 30 = .ok (.iconst 0, 1) := dk_3 (dk_at dksX5_marked_1 8 rfl rfl)
theorem dX5_marked_31 : decode cX5_marked 31 = .ok (.istore_n 3, 1) := dk_62 (dk_at dksX5_marked_1 9 rfl rfl)
theorem dX5_marked_32 : decode cX5_marked 32 = .ok (.iconst 0, 1) := dk_3 (dk_at dksX5_marked_1 10 rfl rfl)
theorem dX5_marked_33 : decode cX5_marked 33 = .ok (.istore 4, 2) := dk_54 4 (dk_at dksX5_marked_1 11 rfl rfl)
theorem dX5_marked_35 : decode cX5_marked 35 = .ok (.iload 4, 2) := dk_21 4 (dk_at dksX5_marked_1 13 rfl rfl)
theorem dX5_marked_37 : decode cX5_marked 37 = .ok (.aload_n 0, 1) := dk_42 (dk_at dksX5_marked_1 15 rfl rfl)
theorem dX5_marked_38 : decode cX5_marked 38 = .ok (.getfield 51, 3) := dk_180 0 51 (dk_at dksX5_marked_1 16 rfl rfl)
theorem dX5_marked_41 : decode cX5_marked 41 = .ok (.iconst 5, 1) := dk_8 (dk_at dksX5_marked_1 19 rfl rfl)
theorem dX5_marked_42 : decode cX5_marked 42 = .ok (.iaload, 1) := dk_46 (dk_at dksX5_marked_1 20 rfl rfl)
theorem dX5_marked_43 : decode cX5_marked 43 = .ok (.if_icmp .ge 44, 3) := dk_162 0 44 (dk_at dksX5_marked_1 21 rfl rfl)
theorem dX5_marked_46 : decode cX5_marked 46 = .ok (.iload_n 3, 1) := dk_29 (dk_at dksX5_marked_2 0 rfl rfl)
theorem dX5_marked_47 : decode cX5_marked 47 = .ok (.aload_n 0, 1) := dk_42 (dk_at dksX5_marked_2 1 rfl rfl)
theorem dX5_marked_48 : decode cX5_marked 48 = .ok (.iload 4, 2) := dk_21 4 (dk_at dksX5_marked_2 2 rfl rfl)
theorem dX5_marked_50 : decode cX5_marked 50 = .ok (.iconst 2, 1) := dk_5 (dk_at dksX5_marked_2 4 rfl rfl)
theorem dX5_marked_51 : decode cX5_marked 51 = .ok (.invokevirtual 106, 3) := dk_182 0 106 (dk_at dksX5_marked_2 5 rfl rfl)
theorem dX5_marked_54 : decode cX5_marked 54 = .ok (.iload_n 1, 1) := dk_27 (dk_at dksX5_marked_2 8 rfl rfl)
theorem dX5_marked_55 : decode cX5_marked 55 = .ok (.if_icmp .ne 23, 3) := dk_160 0 23 (dk_at dksX5_marked_2 9 rfl rfl)
theorem dX5_marked_58 : decode cX5_marked 58 = .ok (.aload_n 0, 1) := dk_42 (dk_at dksX5_marked_2 12 rfl rfl)
theorem dX5_marked_59 : decode cX5_marked 59 = .ok (.iload 4, 2) := dk_21 4 (dk_at dksX5_marked_2 13 rfl rfl)
theorem dX5_marked_61 : decode cX5_marked 61 = .ok (.iload_n 2, 1) := dk_28 (dk_at dksX5_marked_2 15 rfl rfl)
theorem dX5_marked_62 : decode cX5_marked 62 = .ok (.invokevirtual 118, 3) := dk_182 0 118 (dk_at dksX5_marked_2 16 rfl rfl)
theorem dX5_marked_65 : decode cX5_marked 65 = .ok (.ifCond .eq 13, 3) := dk_153 0 13 (dk_at dksX5_marked_2 19 rfl rfl)
theorem dX5_marked_68 : decode cX5_marked 68 = .ok (.aload_n 0, 1) := dk_42 (dk_at dksX5_marked_2 22 rfl rfl)
theorem dX5_marked_69 : decode cX5_marked 69 = .ok (.iload 4, 2) := dk_21 4 (dk_at dksX5_marked_3 0 rfl rfl)
theorem dX5_marked_71 : decode cX5_marked 71 = .ok (.iconst 1, 1) := dk_4 (dk_at dksX5_marked_3 2 rfl rfl)
theorem dX5_marked_72 : decode cX5_marked 72 = .ok (.invokevirtual 106, 3) := dk_182 0 106 (dk_at dksX5_marked_3 3 rfl rfl)
theorem dX5_marked_75 : decode cX5_marked 75 = .ok (.goto 4, 3) := dk_167 0 4 (dk_at dksX5_marked_3 6 rfl rfl)
theorem dX5_marked_78 : decode cX5_marked 78 = .ok (.iconst 0, 1) := dk_3 (dk_at dksX5_marked_3 9 rfl rfl)
theorem dX5_marked_79 : decode cX5_marked 79 = .ok (.iadd, 1) := dk_96 (dk_at dksX5_marked_3 10 rfl rfl)
theorem dX5_marked_80 : decode cX5_marked 80 = .ok (.istore_n 3, 1) := dk_62 (dk_at dksX5_marked_3 11 rfl rfl)
theorem dX5_marked_81 : decode cX5_marked 81 = .ok (.iinc 4 1, 3) := dk_132 4 1 (dk_at dksX5_marked_3 12 rfl rfl)
theorem dX5_marked_84 : decode cX5_marked 84 = .ok (.goto (-49), 3) := dk_167 255 207 (dk_at dksX5_marked_3 15 rfl rfl)
theorem dX5_marked_87 : decode cX5_marked 87 = .ok (.iload_n 3, 1) := dk_29 (dk_at dksX5_marked_3 18 rfl rfl)
theorem dX5_marked_88 : decode cX5_marked 88 = .ok (.ireturn, 1) := dk_172 (dk_at dksX5_marked_3 19 rfl rfl)
abbrev cX5_ranked : ByteArray := prog_21_method_56_code
def yX5_ranked : MethodName := ⟨RX5, "ranked", "(I)I"⟩
def dkwX5_ranked_1 : List UInt8 := [160, 0, 5, 28, 172, 132, 2, 1, 167, 255, 232, 2, 172]
abbrev dktX5_ranked_1 : List UInt8 := dkwX5_ranked_1 ++ []
def dkwX5_ranked_0 : List UInt8 := [42, 3, 181, 0, 92, 3, 61, 28, 42, 180, 0, 51, 7, 46, 162, 0, 20, 42, 28, 182, 0, 205, 27]
abbrev dktX5_ranked_0 : List UInt8 := dkwX5_ranked_0 ++ dktX5_ranked_1
theorem dksX5_ranked_0 : cX5_ranked.data.toList.drop 0 = dktX5_ranked_0 := by decide +kernel
theorem dksX5_ranked_1 : cX5_ranked.data.toList.drop 23 = dktX5_ranked_1 := dk_seg dksX5_ranked_0 23 rfl rfl
theorem dX5_ranked_0 : decode cX5_ranked 0 = .ok (.aload_n 0, 1) := dk_42 (dk_at dksX5_ranked_0 0 rfl rfl)
theorem dX5_ranked_1 : decode cX5_ranked 1 = .ok (.iconst 0, 1) := dk_3 (dk_at dksX5_ranked_0 1 rfl rfl)
theorem dX5_ranked_2 : decode cX5_ranked 2 = .ok (.putfield 92, 3) := dk_181 0 92 (dk_at dksX5_ranked_0 2 rfl rfl)
theorem dX5_ranked_5 : decode cX5_ranked 5 = .ok (.iconst 0, 1) := dk_3 (dk_at dksX5_ranked_0 5 rfl rfl)
theorem dX5_ranked_6 : decode cX5_ranked 6 = .ok (.istore_n 2, 1) := dk_61 (dk_at dksX5_ranked_0 6 rfl rfl)
theorem dX5_ranked_7 : decode cX5_ranked 7 = .ok (.iload_n 2, 1) := dk_28 (dk_at dksX5_ranked_0 7 rfl rfl)
theorem dX5_ranked_8 : decode cX5_ranked 8 = .ok (.aload_n 0, 1) := dk_42 (dk_at dksX5_ranked_0 8 rfl rfl)
theorem dX5_ranked_9 : decode cX5_ranked 9 = .ok (.getfield 51, 3) := dk_180 0 51 (dk_at dksX5_ranked_0 9 rfl rfl)
theorem dX5_ranked_12 : decode cX5_ranked 12 = .ok (.iconst 4, 1) := dk_7 (dk_at dksX5_ranked_0 12 rfl rfl)
theorem dX5_ranked_13 : decode cX5_ranked 13 = .ok (.iaload, 1) := dk_46 (dk_at dksX5_ranked_0 13 rfl rfl)
theorem dX5_ranked_14 : decode cX5_ranked 14 = .ok (.if_icmp .ge 20, 3) := dk_162 0 20 (dk_at dksX5_ranked_0 14 rfl rfl)
theorem dX5_ranked_17 : decode cX5_ranked 17 = .ok (.aload_n 0, 1) := dk_42 (dk_at dksX5_ranked_0 17 rfl rfl)
theorem dX5_ranked_18 : decode cX5_ranked 18 = .ok (.iload_n 2, 1) := dk_28 (dk_at dksX5_ranked_0 18 rfl rfl)
theorem dX5_ranked_19 : decode cX5_ranked 19 = .ok (.invokevirtual 205, 3) := dk_182 0 205 (dk_at dksX5_ranked_0 19 rfl rfl)
theorem dX5_ranked_22 : decode cX5_ranked 22 = .ok (.iload_n 1, 1) := dk_27 (dk_at dksX5_ranked_0 22 rfl rfl)
theorem dX5_ranked_23 : decode cX5_ranked 23 = .ok (.if_icmp .ne 5, 3) := dk_160 0 5 (dk_at dksX5_ranked_1 0 rfl rfl)
theorem dX5_ranked_26 : decode cX5_ranked 26 = .ok (.iload_n 2, 1) := dk_28 (dk_at dksX5_ranked_1 3 rfl rfl)
theorem dX5_ranked_27 : decode cX5_ranked 27 = .ok (.ireturn, 1) := dk_172 (dk_at dksX5_ranked_1 4 rfl rfl)
theorem dX5_ranked_28 : decode cX5_ranked 28 = .ok (.iinc 2 1, 3) := dk_132 2 1 (dk_at dksX5_ranked_1 5 rfl rfl)
theorem dX5_ranked_31 : decode cX5_ranked 31 = .ok (.goto (-24), 3) := dk_167 255 232 (dk_at dksX5_ranked_1 8 rfl rfl)
theorem dX5_ranked_34 : decode cX5_ranked 34 = .ok (.iconst (-1), 1) := dk_2 (dk_at dksX5_ranked_1 11 rfl rfl)
theorem dX5_ranked_35 : decode cX5_ranked 35 = .ok (.ireturn, 1) := dk_172 (dk_at dksX5_ranked_1 12 rfl rfl)
abbrev cX5_rankOf : ByteArray := prog_21_method_55_code
def yX5_rankOf : MethodName := ⟨RX5, "rankOf", "(I)I"⟩
def dkwX5_rankOf_2 : List UInt8 := [167, 0, 4, 3, 96, 61, 132, 3, 1, 167, 255, 205, 28, 172]
abbrev dktX5_rankOf_2 : List UInt8 := dkwX5_rankOf_2 ++ []
def dkwX5_rankOf_1 : List UInt8 := [182, 0, 127, 100, 54, 4, 28, 21, 4, 157, 0, 13, 21, 4, 154, 0, 12, 29, 27, 162, 0, 7, 4]
abbrev dktX5_rankOf_1 : List UInt8 := dkwX5_rankOf_1 ++ dktX5_rankOf_2
def dkwX5_rankOf_0 : List UInt8 := [3, 61, 3, 62, 29, 42, 180, 0, 51, 7, 46, 162, 0, 47, 42, 29, 3, 182, 0, 127, 42, 27, 3]
abbrev dktX5_rankOf_0 : List UInt8 := dkwX5_rankOf_0 ++ dktX5_rankOf_1
theorem dksX5_rankOf_0 : cX5_rankOf.data.toList.drop 0 = dktX5_rankOf_0 := by decide +kernel
theorem dksX5_rankOf_1 : cX5_rankOf.data.toList.drop 23 = dktX5_rankOf_1 := dk_seg dksX5_rankOf_0 23 rfl rfl
theorem dksX5_rankOf_2 : cX5_rankOf.data.toList.drop 46 = dktX5_rankOf_2 := dk_seg dksX5_rankOf_1 23 rfl rfl
theorem dX5_rankOf_0 : decode cX5_rankOf 0 = .ok (.iconst 0, 1) := dk_3 (dk_at dksX5_rankOf_0 0 rfl rfl)
theorem dX5_rankOf_1 : decode cX5_rankOf 1 = .ok (.istore_n 2, 1) := dk_61 (dk_at dksX5_rankOf_0 1 rfl rfl)
theorem dX5_rankOf_2 : decode cX5_rankOf 2 = .ok (.iconst 0, 1) := dk_3 (dk_at dksX5_rankOf_0 2 rfl rfl)
theorem dX5_rankOf_3 : decode cX5_rankOf 3 = .ok (.istore_n 3, 1) := dk_62 (dk_at dksX5_rankOf_0 3 rfl rfl)
theorem dX5_rankOf_4 : decode cX5_rankOf 4 = .ok (.iload_n 3, 1) := dk_29 (dk_at dksX5_rankOf_0 4 rfl rfl)
theorem dX5_rankOf_5 : decode cX5_rankOf 5 = .ok (.aload_n 0, 1) := dk_42 (dk_at dksX5_rankOf_0 5 rfl rfl)
theorem dX5_rankOf_6 : decode cX5_rankOf 6 = .ok (.getfield 51, 3) := dk_180 0 51 (dk_at dksX5_rankOf_0 6 rfl rfl)
theorem dX5_rankOf_9 : decode cX5_rankOf 9 = .ok (.iconst 4, 1) := dk_7 (dk_at dksX5_rankOf_0 9 rfl rfl)
theorem dX5_rankOf_10 : decode cX5_rankOf 10 = .ok (.iaload, 1) := dk_46 (dk_at dksX5_rankOf_0 10 rfl rfl)
theorem dX5_rankOf_11 : decode cX5_rankOf 11 = .ok (.if_icmp .ge 47, 3) := dk_162 0 47 (dk_at dksX5_rankOf_0 11 rfl rfl)
theorem dX5_rankOf_14 : decode cX5_rankOf 14 = .ok (.aload_n 0, 1) := dk_42 (dk_at dksX5_rankOf_0 14 rfl rfl)
theorem dX5_rankOf_15 : decode cX5_rankOf 15 = .ok (.iload_n 3, 1) := dk_29 (dk_at dksX5_rankOf_0 15 rfl rfl)
theorem dX5_rankOf_16 : decode cX5_rankOf 16 = .ok (.iconst 0, 1) := dk_3 (dk_at dksX5_rankOf_0 16 rfl rfl)
theorem dX5_rankOf_17 : decode cX5_rankOf 17 = .ok (.invokevirtual 127, 3) := dk_182 0 127 (dk_at dksX5_rankOf_0 17 rfl rfl)
theorem dX5_rankOf_20 : decode cX5_rankOf 20 = .ok (.aload_n 0, 1) := dk_42 (dk_at dksX5_rankOf_0 20 rfl rfl)
theorem dX5_rankOf_21 : decode cX5_rankOf 21 = .ok (.iload_n 1, 1) := dk_27 (dk_at dksX5_rankOf_0 21 rfl rfl)
theorem dX5_rankOf_22 : decode cX5_rankOf 22 = .ok (.iconst 0, 1) := dk_3 (dk_at dksX5_rankOf_0 22 rfl rfl)
theorem dX5_rankOf_23 : decode cX5_rankOf 23 = .ok (.invokevirtual 127, 3) := dk_182 0 127 (dk_at dksX5_rankOf_1 0 rfl rfl)
theorem dX5_rankOf_26 : decode cX5_rankOf 26 = .ok (.isub, 1) := dk_100 (dk_at dksX5_rankOf_1 3 rfl rfl)
theorem dX5_rankOf_27 : decode cX5_rankOf 27 = .ok (.istore 4, 2) := dk_54 4 (dk_at dksX5_rankOf_1 4 rfl rfl)
theorem dX5_rankOf_29 : decode cX5_rankOf 29 = .ok (.iload_n 2, 1) := dk_28 (dk_at dksX5_rankOf_1 6 rfl rfl)
theorem dX5_rankOf_30 : decode cX5_rankOf 30 = .ok (.iload 4, 2) := dk_21 4 (dk_at dksX5_rankOf_1 7 rfl rfl)
theorem dX5_rankOf_32 : decode cX5_rankOf 32 = .ok (.ifCond .gt 13, 3) := dk_157 0 13 (dk_at dksX5_rankOf_1 9 rfl rfl)
theorem dX5_rankOf_35 : decode cX5_rankOf 35 = .ok (.iload 4, 2) := dk_21 4 (dk_at dksX5_rankOf_1 12 rfl rfl)
theorem dX5_rankOf_37 : decode cX5_rankOf 37 = .ok (.ifCond .ne 12, 3) := dk_154 0 12 (dk_at dksX5_rankOf_1 14 rfl rfl)
theorem dX5_rankOf_40 : decode cX5_rankOf 40 = .ok (.iload_n 3, 1) := dk_29 (dk_at dksX5_rankOf_1 17 rfl rfl)
theorem dX5_rankOf_41 : decode cX5_rankOf 41 = .ok (.iload_n 1, 1) := dk_27 (dk_at dksX5_rankOf_1 18 rfl rfl)
theorem dX5_rankOf_42 : decode cX5_rankOf 42 = .ok (.if_icmp .ge 7, 3) := dk_162 0 7 (dk_at dksX5_rankOf_1 19 rfl rfl)
theorem dX5_rankOf_45 : decode cX5_rankOf 45 = .ok (.iconst 1, 1) := dk_4 (dk_at dksX5_rankOf_1 22 rfl rfl)
theorem dX5_rankOf_46 : decode cX5_rankOf 46 = .ok (.goto 4, 3) := dk_167 0 4 (dk_at dksX5_rankOf_2 0 rfl rfl)
theorem dX5_rankOf_49 : decode cX5_rankOf 49 = .ok (.iconst 0, 1) := dk_3 (dk_at dksX5_rankOf_2 3 rfl rfl)
theorem dX5_rankOf_50 : decode cX5_rankOf 50 = .ok (.iadd, 1) := dk_96 (dk_at dksX5_rankOf_2 4 rfl rfl)
theorem dX5_rankOf_51 : decode cX5_rankOf 51 = .ok (.istore_n 2, 1) := dk_61 (dk_at dksX5_rankOf_2 5 rfl rfl)
theorem dX5_rankOf_52 : decode cX5_rankOf 52 = .ok (.iinc 3 1, 3) := dk_132 3 1 (dk_at dksX5_rankOf_2 6 rfl rfl)
theorem dX5_rankOf_55 : decode cX5_rankOf 55 = .ok (.goto (-51), 3) := dk_167 255 205 (dk_at dksX5_rankOf_2 9 rfl rfl)
theorem dX5_rankOf_58 : decode cX5_rankOf 58 = .ok (.iload_n 2, 1) := dk_28 (dk_at dksX5_rankOf_2 12 rfl rfl)
theorem dX5_rankOf_59 : decode cX5_rankOf 59 = .ok (.ireturn, 1) := dk_172 (dk_at dksX5_rankOf_2 13 rfl rfl)
abbrev cX5_earned : ByteArray := prog_21_method_57_code
def yX5_earned : MethodName := ⟨RX5, "earned", "(I)I"⟩
def dkwX5_earned_2 : List UInt8 := [96, 61, 132, 3, 1, 167, 255, 221, 28, 172]
abbrev dktX5_earned_2 : List UInt8 := dkwX5_earned_2 ++ []
def dkwX5_earned_1 : List UInt8 := [46, 162, 0, 31, 28, 42, 29, 5, 182, 0, 118, 153, 0, 12, 42, 29, 27, 182, 0, 208, 167, 0, 4, 3]
abbrev dktX5_earned_1 : List UInt8 := dkwX5_earned_1 ++ dktX5_earned_2
def dkwX5_earned_0 : List UInt8 := [42, 42, 27, 182, 0, 196, 182, 0, 173, 153, 0, 5, 3, 172, 3, 61, 3, 62, 29, 42, 180, 0, 51, 8]
abbrev dktX5_earned_0 : List UInt8 := dkwX5_earned_0 ++ dktX5_earned_1
theorem dksX5_earned_0 : cX5_earned.data.toList.drop 0 = dktX5_earned_0 := by decide +kernel
theorem dksX5_earned_1 : cX5_earned.data.toList.drop 24 = dktX5_earned_1 := dk_seg dksX5_earned_0 24 rfl rfl
theorem dksX5_earned_2 : cX5_earned.data.toList.drop 48 = dktX5_earned_2 := dk_seg dksX5_earned_1 24 rfl rfl
theorem dX5_earned_0 : decode cX5_earned 0 = .ok (.aload_n 0, 1) := dk_42 (dk_at dksX5_earned_0 0 rfl rfl)
theorem dX5_earned_1 : decode cX5_earned 1 = .ok (.aload_n 0, 1) := dk_42 (dk_at dksX5_earned_0 1 rfl rfl)
theorem dX5_earned_2 : decode cX5_earned 2 = .ok (.iload_n 1, 1) := dk_27 (dk_at dksX5_earned_0 2 rfl rfl)
theorem dX5_earned_3 : decode cX5_earned 3 = .ok (.invokevirtual 196, 3) := dk_182 0 196 (dk_at dksX5_earned_0 3 rfl rfl)
theorem dX5_earned_6 : decode cX5_earned 6 = .ok (.invokevirtual 173, 3) := dk_182 0 173 (dk_at dksX5_earned_0 6 rfl rfl)
theorem dX5_earned_9 : decode cX5_earned 9 = .ok (.ifCond .eq 5, 3) := dk_153 0 5 (dk_at dksX5_earned_0 9 rfl rfl)
theorem dX5_earned_12 : decode cX5_earned 12 = .ok (.iconst 0, 1) := dk_3 (dk_at dksX5_earned_0 12 rfl rfl)
theorem dX5_earned_13 : decode cX5_earned 13 = .ok (.ireturn, 1) := dk_172 (dk_at dksX5_earned_0 13 rfl rfl)
theorem dX5_earned_14 : decode cX5_earned 14 = .ok (.iconst 0, 1) := dk_3 (dk_at dksX5_earned_0 14 rfl rfl)
theorem dX5_earned_15 : decode cX5_earned 15 = .ok (.istore_n 2, 1) := dk_61 (dk_at dksX5_earned_0 15 rfl rfl)
theorem dX5_earned_16 : decode cX5_earned 16 = .ok (.iconst 0, 1) := dk_3 (dk_at dksX5_earned_0 16 rfl rfl)
theorem dX5_earned_17 : decode cX5_earned 17 = .ok (.istore_n 3, 1) := dk_62 (dk_at dksX5_earned_0 17 rfl rfl)
theorem dX5_earned_18 : decode cX5_earned 18 = .ok (.iload_n 3, 1) := dk_29 (dk_at dksX5_earned_0 18 rfl rfl)
theorem dX5_earned_19 : decode cX5_earned 19 = .ok (.aload_n 0, 1) := dk_42 (dk_at dksX5_earned_0 19 rfl rfl)
theorem dX5_earned_20 : decode cX5_earned 20 = .ok (.getfield 51, 3) := dk_180 0 51 (dk_at dksX5_earned_0 20 rfl rfl)
theorem dX5_earned_23 : decode cX5_earned 23 = .ok (.iconst 5, 1) := dk_8 (dk_at dksX5_earned_0 23 rfl rfl)
theorem dX5_earned_24 : decode cX5_earned 24 = .ok (.iaload, 1) := dk_46 (dk_at dksX5_earned_1 0 rfl rfl)
theorem dX5_earned_25 : decode cX5_earned 25 = .ok (.if_icmp .ge 31, 3) := dk_162 0 31 (dk_at dksX5_earned_1 1 rfl rfl)
theorem dX5_earned_28 : decode cX5_earned 28 = .ok (.iload_n 2, 1) := dk_28 (dk_at dksX5_earned_1 4 rfl rfl)
theorem dX5_earned_29 : decode cX5_earned 29 = .ok (.aload_n 0, 1) := dk_42 (dk_at dksX5_earned_1 5 rfl rfl)
theorem dX5_earned_30 : decode cX5_earned 30 = .ok (.iload_n 3, 1) := dk_29 (dk_at dksX5_earned_1 6 rfl rfl)
theorem dX5_earned_31 : decode cX5_earned 31 = .ok (.iconst 2, 1) := dk_5 (dk_at dksX5_earned_1 7 rfl rfl)
theorem dX5_earned_32 : decode cX5_earned 32 = .ok (.invokevirtual 118, 3) := dk_182 0 118 (dk_at dksX5_earned_1 8 rfl rfl)
theorem dX5_earned_35 : decode cX5_earned 35 = .ok (.ifCond .eq 12, 3) := dk_153 0 12 (dk_at dksX5_earned_1 11 rfl rfl)
theorem dX5_earned_38 : decode cX5_earned 38 = .ok (.aload_n 0, 1) := dk_42 (dk_at dksX5_earned_1 14 rfl rfl)
theorem dX5_earned_39 : decode cX5_earned 39 = .ok (.iload_n 3, 1) := dk_29 (dk_at dksX5_earned_1 15 rfl rfl)
theorem dX5_earned_40 : decode cX5_earned 40 = .ok (.iload_n 1, 1) := dk_27 (dk_at dksX5_earned_1 16 rfl rfl)
theorem dX5_earned_41 : decode cX5_earned 41 = .ok (.invokevirtual 208, 3) := dk_182 0 208 (dk_at dksX5_earned_1 17 rfl rfl)
theorem dX5_earned_44 : decode cX5_earned 44 = .ok (.goto 4, 3) := dk_167 0 4 (dk_at dksX5_earned_1 20 rfl rfl)
theorem dX5_earned_47 : decode cX5_earned 47 = .ok (.iconst 0, 1) := dk_3 (dk_at dksX5_earned_1 23 rfl rfl)
theorem dX5_earned_48 : decode cX5_earned 48 = .ok (.iadd, 1) := dk_96 (dk_at dksX5_earned_2 0 rfl rfl)
theorem dX5_earned_49 : decode cX5_earned 49 = .ok (.istore_n 2, 1) := dk_61 (dk_at dksX5_earned_2 1 rfl rfl)
theorem dX5_earned_50 : decode cX5_earned 50 = .ok (.iinc 3 1, 3) := dk_132 3 1 (dk_at dksX5_earned_2 2 rfl rfl)
theorem dX5_earned_53 : decode cX5_earned 53 = .ok (.goto (-35), 3) := dk_167 255 221 (dk_at dksX5_earned_2 5 rfl rfl)
theorem dX5_earned_56 : decode cX5_earned 56 = .ok (.iload_n 2, 1) := dk_28 (dk_at dksX5_earned_2 8 rfl rfl)
theorem dX5_earned_57 : decode cX5_earned 57 = .ok (.ireturn, 1) := dk_172 (dk_at dksX5_earned_2 9 rfl rfl)
abbrev cX5_shareOf : ByteArray := prog_21_method_36_code
def yX5_shareOf : MethodName := ⟨RX5, "shareOf", "(II)I"⟩
def dkwX5_shareOf_1 : List UInt8 := [167, 0, 9, 42, 27, 29, 182, 0, 156, 172]
abbrev dktX5_shareOf_1 : List UInt8 := dkwX5_shareOf_1 ++ []
def dkwX5_shareOf_0 : List UInt8 := [42, 27, 28, 182, 0, 130, 62, 29, 2, 159, 0, 12, 42, 27, 6, 182, 0, 118, 153, 0, 7, 3]
abbrev dktX5_shareOf_0 : List UInt8 := dkwX5_shareOf_0 ++ dktX5_shareOf_1
theorem dksX5_shareOf_0 : cX5_shareOf.data.toList.drop 0 = dktX5_shareOf_0 := by decide +kernel
theorem dksX5_shareOf_1 : cX5_shareOf.data.toList.drop 22 = dktX5_shareOf_1 := dk_seg dksX5_shareOf_0 22 rfl rfl
theorem dX5_shareOf_0 : decode cX5_shareOf 0 = .ok (.aload_n 0, 1) := dk_42 (dk_at dksX5_shareOf_0 0 rfl rfl)
theorem dX5_shareOf_1 : decode cX5_shareOf 1 = .ok (.iload_n 1, 1) := dk_27 (dk_at dksX5_shareOf_0 1 rfl rfl)
theorem dX5_shareOf_2 : decode cX5_shareOf 2 = .ok (.iload_n 2, 1) := dk_28 (dk_at dksX5_shareOf_0 2 rfl rfl)
theorem dX5_shareOf_3 : decode cX5_shareOf 3 = .ok (.invokevirtual 130, 3) := dk_182 0 130 (dk_at dksX5_shareOf_0 3 rfl rfl)
theorem dX5_shareOf_6 : decode cX5_shareOf 6 = .ok (.istore_n 3, 1) := dk_62 (dk_at dksX5_shareOf_0 6 rfl rfl)
theorem dX5_shareOf_7 : decode cX5_shareOf 7 = .ok (.iload_n 3, 1) := dk_29 (dk_at dksX5_shareOf_0 7 rfl rfl)
theorem dX5_shareOf_8 : decode cX5_shareOf 8 = .ok (.iconst (-1), 1) := dk_2 (dk_at dksX5_shareOf_0 8 rfl rfl)
theorem dX5_shareOf_9 : decode cX5_shareOf 9 = .ok (.if_icmp .eq 12, 3) := dk_159 0 12 (dk_at dksX5_shareOf_0 9 rfl rfl)
theorem dX5_shareOf_12 : decode cX5_shareOf 12 = .ok (.aload_n 0, 1) := dk_42 (dk_at dksX5_shareOf_0 12 rfl rfl)
theorem dX5_shareOf_13 : decode cX5_shareOf 13 = .ok (.iload_n 1, 1) := dk_27 (dk_at dksX5_shareOf_0 13 rfl rfl)
theorem dX5_shareOf_14 : decode cX5_shareOf 14 = .ok (.iconst 3, 1) := dk_6 (dk_at dksX5_shareOf_0 14 rfl rfl)
theorem dX5_shareOf_15 : decode cX5_shareOf 15 = .ok (.invokevirtual 118, 3) := dk_182 0 118 (dk_at dksX5_shareOf_0 15 rfl rfl)
theorem dX5_shareOf_18 : decode cX5_shareOf 18 = .ok (.ifCond .eq 7, 3) := dk_153 0 7 (dk_at dksX5_shareOf_0 18 rfl rfl)
theorem dX5_shareOf_21 : decode cX5_shareOf 21 = .ok (.iconst 0, 1) := dk_3 (dk_at dksX5_shareOf_0 21 rfl rfl)
theorem dX5_shareOf_22 : decode cX5_shareOf 22 = .ok (.goto 9, 3) := dk_167 0 9 (dk_at dksX5_shareOf_1 0 rfl rfl)
theorem dX5_shareOf_25 : decode cX5_shareOf 25 = .ok (.aload_n 0, 1) := dk_42 (dk_at dksX5_shareOf_1 3 rfl rfl)
theorem dX5_shareOf_26 : decode cX5_shareOf 26 = .ok (.iload_n 1, 1) := dk_27 (dk_at dksX5_shareOf_1 4 rfl rfl)
theorem dX5_shareOf_27 : decode cX5_shareOf 27 = .ok (.iload_n 3, 1) := dk_29 (dk_at dksX5_shareOf_1 5 rfl rfl)
theorem dX5_shareOf_28 : decode cX5_shareOf 28 = .ok (.invokevirtual 156, 3) := dk_182 0 156 (dk_at dksX5_shareOf_1 6 rfl rfl)
theorem dX5_shareOf_31 : decode cX5_shareOf 31 = .ok (.ireturn, 1) := dk_172 (dk_at dksX5_shareOf_1 9 rfl rfl)
abbrev cX5_shareAt : ByteArray := prog_21_method_35_code
def yX5_shareAt : MethodName := ⟨RX5, "shareAt", "(II)I"⟩
def dkwX5_shareAt_0 : List UInt8 := [42, 27, 28, 182, 0, 150, 28, 42, 27, 182, 0, 153, 162, 0, 7, 4, 167, 0, 4, 3, 96, 172]
abbrev dktX5_shareAt_0 : List UInt8 := dkwX5_shareAt_0 ++ []
theorem dksX5_shareAt_0 : cX5_shareAt.data.toList.drop 0 = dktX5_shareAt_0 := by decide +kernel
theorem dX5_shareAt_0 : decode cX5_shareAt 0 = .ok (.aload_n 0, 1) := dk_42 (dk_at dksX5_shareAt_0 0 rfl rfl)
theorem dX5_shareAt_1 : decode cX5_shareAt 1 = .ok (.iload_n 1, 1) := dk_27 (dk_at dksX5_shareAt_0 1 rfl rfl)
theorem dX5_shareAt_2 : decode cX5_shareAt 2 = .ok (.iload_n 2, 1) := dk_28 (dk_at dksX5_shareAt_0 2 rfl rfl)
theorem dX5_shareAt_3 : decode cX5_shareAt 3 = .ok (.invokevirtual 150, 3) := dk_182 0 150 (dk_at dksX5_shareAt_0 3 rfl rfl)
theorem dX5_shareAt_6 : decode cX5_shareAt 6 = .ok (.iload_n 2, 1) := dk_28 (dk_at dksX5_shareAt_0 6 rfl rfl)
theorem dX5_shareAt_7 : decode cX5_shareAt 7 = .ok (.aload_n 0, 1) := dk_42 (dk_at dksX5_shareAt_0 7 rfl rfl)
theorem dX5_shareAt_8 : decode cX5_shareAt 8 = .ok (.iload_n 1, 1) := dk_27 (dk_at dksX5_shareAt_0 8 rfl rfl)
theorem dX5_shareAt_9 : decode cX5_shareAt 9 = .ok (.invokevirtual 153, 3) := dk_182 0 153 (dk_at dksX5_shareAt_0 9 rfl rfl)
theorem dX5_shareAt_12 : decode cX5_shareAt 12 = .ok (.if_icmp .ge 7, 3) := dk_162 0 7 (dk_at dksX5_shareAt_0 12 rfl rfl)
theorem dX5_shareAt_15 : decode cX5_shareAt 15 = .ok (.iconst 1, 1) := dk_4 (dk_at dksX5_shareAt_0 15 rfl rfl)
theorem dX5_shareAt_16 : decode cX5_shareAt 16 = .ok (.goto 4, 3) := dk_167 0 4 (dk_at dksX5_shareAt_0 16 rfl rfl)
theorem dX5_shareAt_19 : decode cX5_shareAt 19 = .ok (.iconst 0, 1) := dk_3 (dk_at dksX5_shareAt_0 19 rfl rfl)
theorem dX5_shareAt_20 : decode cX5_shareAt 20 = .ok (.iadd, 1) := dk_96 (dk_at dksX5_shareAt_0 20 rfl rfl)
theorem dX5_shareAt_21 : decode cX5_shareAt 21 = .ok (.ireturn, 1) := dk_172 (dk_at dksX5_shareAt_0 21 rfl rfl)
abbrev cX5_partOf : ByteArray := prog_21_method_33_code
def yX5_partOf : MethodName := ⟨RX5, "partOf", "(II)I"⟩
def dkwX5_partOf_1 : List UInt8 := [16, 9, 182, 0, 106, 4, 96, 108, 172]
abbrev dktX5_partOf_1 : List UInt8 := dkwX5_partOf_1 ++ []
def dkwX5_partOf_0 : List UInt8 := [28, 154, 0, 7, 5, 167, 0, 4, 4, 62, 42, 27, 42, 27, 182, 0, 143, 182, 0, 147, 29, 104, 42, 27]
abbrev dktX5_partOf_0 : List UInt8 := dkwX5_partOf_0 ++ dktX5_partOf_1
theorem dksX5_partOf_0 : cX5_partOf.data.toList.drop 0 = dktX5_partOf_0 := by decide +kernel
theorem dksX5_partOf_1 : cX5_partOf.data.toList.drop 24 = dktX5_partOf_1 := dk_seg dksX5_partOf_0 24 rfl rfl
theorem dX5_partOf_0 : decode cX5_partOf 0 = .ok (.iload_n 2, 1) := dk_28 (dk_at dksX5_partOf_0 0 rfl rfl)
theorem dX5_partOf_1 : decode cX5_partOf 1 = .ok (.ifCond .ne 7, 3) := dk_154 0 7 (dk_at dksX5_partOf_0 1 rfl rfl)
theorem dX5_partOf_4 : decode cX5_partOf 4 = .ok (.iconst 2, 1) := dk_5 (dk_at dksX5_partOf_0 4 rfl rfl)
theorem dX5_partOf_5 : decode cX5_partOf 5 = .ok (.goto 4, 3) := dk_167 0 4 (dk_at dksX5_partOf_0 5 rfl rfl)
theorem dX5_partOf_8 : decode cX5_partOf 8 = .ok (.iconst 1, 1) := dk_4 (dk_at dksX5_partOf_0 8 rfl rfl)
theorem dX5_partOf_9 : decode cX5_partOf 9 = .ok (.istore_n 3, 1) := dk_62 (dk_at dksX5_partOf_0 9 rfl rfl)
theorem dX5_partOf_10 : decode cX5_partOf 10 = .ok (.aload_n 0, 1) := dk_42 (dk_at dksX5_partOf_0 10 rfl rfl)
theorem dX5_partOf_11 : decode cX5_partOf 11 = .ok (.iload_n 1, 1) := dk_27 (dk_at dksX5_partOf_0 11 rfl rfl)
theorem dX5_partOf_12 : decode cX5_partOf 12 = .ok (.aload_n 0, 1) := dk_42 (dk_at dksX5_partOf_0 12 rfl rfl)
theorem dX5_partOf_13 : decode cX5_partOf 13 = .ok (.iload_n 1, 1) := dk_27 (dk_at dksX5_partOf_0 13 rfl rfl)
theorem dX5_partOf_14 : decode cX5_partOf 14 = .ok (.invokevirtual 143, 3) := dk_182 0 143 (dk_at dksX5_partOf_0 14 rfl rfl)
theorem dX5_partOf_17 : decode cX5_partOf 17 = .ok (.invokevirtual 147, 3) := dk_182 0 147 (dk_at dksX5_partOf_0 17 rfl rfl)
theorem dX5_partOf_20 : decode cX5_partOf 20 = .ok (.iload_n 3, 1) := dk_29 (dk_at dksX5_partOf_0 20 rfl rfl)
theorem dX5_partOf_21 : decode cX5_partOf 21 = .ok (.imul, 1) := dk_104 (dk_at dksX5_partOf_0 21 rfl rfl)
theorem dX5_partOf_22 : decode cX5_partOf 22 = .ok (.aload_n 0, 1) := dk_42 (dk_at dksX5_partOf_0 22 rfl rfl)
theorem dX5_partOf_23 : decode cX5_partOf 23 = .ok (.iload_n 1, 1) := dk_27 (dk_at dksX5_partOf_0 23 rfl rfl)
theorem dX5_partOf_24 : decode cX5_partOf 24 = .ok (.bipush 9, 2) := dk_16 9 (dk_at dksX5_partOf_1 0 rfl rfl)
theorem dX5_partOf_26 : decode cX5_partOf 26 = .ok (.invokevirtual 106, 3) := dk_182 0 106 (dk_at dksX5_partOf_1 2 rfl rfl)
theorem dX5_partOf_29 : decode cX5_partOf 29 = .ok (.iconst 1, 1) := dk_4 (dk_at dksX5_partOf_1 5 rfl rfl)
theorem dX5_partOf_30 : decode cX5_partOf 30 = .ok (.iadd, 1) := dk_96 (dk_at dksX5_partOf_1 6 rfl rfl)
theorem dX5_partOf_31 : decode cX5_partOf 31 = .ok (.idiv, 1) := dk_108 (dk_at dksX5_partOf_1 7 rfl rfl)
theorem dX5_partOf_32 : decode cX5_partOf 32 = .ok (.ireturn, 1) := dk_172 (dk_at dksX5_partOf_1 8 rfl rfl)
abbrev cX5_isClaimed : ByteArray := prog_21_method_32_code
def yX5_isClaimed : MethodName := ⟨RX5, "isClaimed", "(I)Z"⟩
def dkwX5_isClaimed_0 : List UInt8 := [42, 27, 16, 8, 182, 0, 106, 4, 160, 0, 7, 4, 167, 0, 4, 3, 172]
abbrev dktX5_isClaimed_0 : List UInt8 := dkwX5_isClaimed_0 ++ []
theorem dksX5_isClaimed_0 : cX5_isClaimed.data.toList.drop 0 = dktX5_isClaimed_0 := by decide +kernel
theorem dX5_isClaimed_0 : decode cX5_isClaimed 0 = .ok (.aload_n 0, 1) := dk_42 (dk_at dksX5_isClaimed_0 0 rfl rfl)
theorem dX5_isClaimed_1 : decode cX5_isClaimed 1 = .ok (.iload_n 1, 1) := dk_27 (dk_at dksX5_isClaimed_0 1 rfl rfl)
theorem dX5_isClaimed_2 : decode cX5_isClaimed 2 = .ok (.bipush 8, 2) := dk_16 8 (dk_at dksX5_isClaimed_0 2 rfl rfl)
theorem dX5_isClaimed_4 : decode cX5_isClaimed 4 = .ok (.invokevirtual 106, 3) := dk_182 0 106 (dk_at dksX5_isClaimed_0 4 rfl rfl)
theorem dX5_isClaimed_7 : decode cX5_isClaimed 7 = .ok (.iconst 1, 1) := dk_4 (dk_at dksX5_isClaimed_0 7 rfl rfl)
theorem dX5_isClaimed_8 : decode cX5_isClaimed 8 = .ok (.if_icmp .ne 7, 3) := dk_160 0 7 (dk_at dksX5_isClaimed_0 8 rfl rfl)
theorem dX5_isClaimed_11 : decode cX5_isClaimed 11 = .ok (.iconst 1, 1) := dk_4 (dk_at dksX5_isClaimed_0 11 rfl rfl)
theorem dX5_isClaimed_12 : decode cX5_isClaimed 12 = .ok (.goto 4, 3) := dk_167 0 4 (dk_at dksX5_isClaimed_0 12 rfl rfl)
theorem dX5_isClaimed_15 : decode cX5_isClaimed 15 = .ok (.iconst 0, 1) := dk_3 (dk_at dksX5_isClaimed_0 15 rfl rfl)
theorem dX5_isClaimed_16 : decode cX5_isClaimed 16 = .ok (.ireturn, 1) := dk_172 (dk_at dksX5_isClaimed_0 16 rfl rfl)
abbrev cX5_crewOf : ByteArray := prog_21_method_31_code
def yX5_crewOf : MethodName := ⟨RX5, "crewOf", "(IZ)I"⟩
def dkwX5_crewOf_0 : List UInt8 := [42, 27, 4, 182, 0, 106, 42, 27, 28, 182, 0, 136, 100, 42, 27, 28, 182, 0, 140, 100, 172]
abbrev dktX5_crewOf_0 : List UInt8 := dkwX5_crewOf_0 ++ []
theorem dksX5_crewOf_0 : cX5_crewOf.data.toList.drop 0 = dktX5_crewOf_0 := by decide +kernel
theorem dX5_crewOf_0 : decode cX5_crewOf 0 = .ok (.aload_n 0, 1) := dk_42 (dk_at dksX5_crewOf_0 0 rfl rfl)
theorem dX5_crewOf_1 : decode cX5_crewOf 1 = .ok (.iload_n 1, 1) := dk_27 (dk_at dksX5_crewOf_0 1 rfl rfl)
theorem dX5_crewOf_2 : decode cX5_crewOf 2 = .ok (.iconst 1, 1) := dk_4 (dk_at dksX5_crewOf_0 2 rfl rfl)
theorem dX5_crewOf_3 : decode cX5_crewOf 3 = .ok (.invokevirtual 106, 3) := dk_182 0 106 (dk_at dksX5_crewOf_0 3 rfl rfl)
theorem dX5_crewOf_6 : decode cX5_crewOf 6 = .ok (.aload_n 0, 1) := dk_42 (dk_at dksX5_crewOf_0 6 rfl rfl)
theorem dX5_crewOf_7 : decode cX5_crewOf 7 = .ok (.iload_n 1, 1) := dk_27 (dk_at dksX5_crewOf_0 7 rfl rfl)
theorem dX5_crewOf_8 : decode cX5_crewOf 8 = .ok (.iload_n 2, 1) := dk_28 (dk_at dksX5_crewOf_0 8 rfl rfl)
theorem dX5_crewOf_9 : decode cX5_crewOf 9 = .ok (.invokevirtual 136, 3) := dk_182 0 136 (dk_at dksX5_crewOf_0 9 rfl rfl)
theorem dX5_crewOf_12 : decode cX5_crewOf 12 = .ok (.isub, 1) := dk_100 (dk_at dksX5_crewOf_0 12 rfl rfl)
theorem dX5_crewOf_13 : decode cX5_crewOf 13 = .ok (.aload_n 0, 1) := dk_42 (dk_at dksX5_crewOf_0 13 rfl rfl)
theorem dX5_crewOf_14 : decode cX5_crewOf 14 = .ok (.iload_n 1, 1) := dk_27 (dk_at dksX5_crewOf_0 14 rfl rfl)
theorem dX5_crewOf_15 : decode cX5_crewOf 15 = .ok (.iload_n 2, 1) := dk_28 (dk_at dksX5_crewOf_0 15 rfl rfl)
theorem dX5_crewOf_16 : decode cX5_crewOf 16 = .ok (.invokevirtual 140, 3) := dk_182 0 140 (dk_at dksX5_crewOf_0 16 rfl rfl)
theorem dX5_crewOf_19 : decode cX5_crewOf 19 = .ok (.isub, 1) := dk_100 (dk_at dksX5_crewOf_0 19 rfl rfl)
theorem dX5_crewOf_20 : decode cX5_crewOf 20 = .ok (.ireturn, 1) := dk_172 (dk_at dksX5_crewOf_0 20 rfl rfl)
abbrev cX5_ownerOf : ByteArray := prog_21_method_30_code
def yX5_ownerOf : MethodName := ⟨RX5, "ownerOf", "(IZ)I"⟩
def dkwX5_ownerOf_0 : List UInt8 := [28, 153, 0, 18, 42, 27, 4, 182, 0, 106, 42, 27, 182, 0, 133, 100, 167, 0, 4, 3, 172]
abbrev dktX5_ownerOf_0 : List UInt8 := dkwX5_ownerOf_0 ++ []
theorem dksX5_ownerOf_0 : cX5_ownerOf.data.toList.drop 0 = dktX5_ownerOf_0 := by decide +kernel
theorem dX5_ownerOf_0 : decode cX5_ownerOf 0 = .ok (.iload_n 2, 1) := dk_28 (dk_at dksX5_ownerOf_0 0 rfl rfl)
theorem dX5_ownerOf_1 : decode cX5_ownerOf 1 = .ok (.ifCond .eq 18, 3) := dk_153 0 18 (dk_at dksX5_ownerOf_0 1 rfl rfl)
theorem dX5_ownerOf_4 : decode cX5_ownerOf 4 = .ok (.aload_n 0, 1) := dk_42 (dk_at dksX5_ownerOf_0 4 rfl rfl)
theorem dX5_ownerOf_5 : decode cX5_ownerOf 5 = .ok (.iload_n 1, 1) := dk_27 (dk_at dksX5_ownerOf_0 5 rfl rfl)
theorem dX5_ownerOf_6 : decode cX5_ownerOf 6 = .ok (.iconst 1, 1) := dk_4 (dk_at dksX5_ownerOf_0 6 rfl rfl)
theorem dX5_ownerOf_7 : decode cX5_ownerOf 7 = .ok (.invokevirtual 106, 3) := dk_182 0 106 (dk_at dksX5_ownerOf_0 7 rfl rfl)
theorem dX5_ownerOf_10 : decode cX5_ownerOf 10 = .ok (.aload_n 0, 1) := dk_42 (dk_at dksX5_ownerOf_0 10 rfl rfl)
theorem dX5_ownerOf_11 : decode cX5_ownerOf 11 = .ok (.iload_n 1, 1) := dk_27 (dk_at dksX5_ownerOf_0 11 rfl rfl)
theorem dX5_ownerOf_12 : decode cX5_ownerOf 12 = .ok (.invokevirtual 133, 3) := dk_182 0 133 (dk_at dksX5_ownerOf_0 12 rfl rfl)
theorem dX5_ownerOf_15 : decode cX5_ownerOf 15 = .ok (.isub, 1) := dk_100 (dk_at dksX5_ownerOf_0 15 rfl rfl)
theorem dX5_ownerOf_16 : decode cX5_ownerOf 16 = .ok (.goto 4, 3) := dk_167 0 4 (dk_at dksX5_ownerOf_0 16 rfl rfl)
theorem dX5_ownerOf_19 : decode cX5_ownerOf 19 = .ok (.iconst 0, 1) := dk_3 (dk_at dksX5_ownerOf_0 19 rfl rfl)
theorem dX5_ownerOf_20 : decode cX5_ownerOf 20 = .ok (.ireturn, 1) := dk_172 (dk_at dksX5_ownerOf_0 20 rfl rfl)
abbrev cX5_salvageOf : ByteArray := prog_21_method_28_code
def yX5_salvageOf : MethodName := ⟨RX5, "salvageOf", "(I)I"⟩
def dkwX5_salvageOf_0 : List UInt8 := [42, 27, 4, 182, 0, 106, 42, 180, 0, 28, 42, 27, 3, 182, 0, 106, 46, 104, 16, 100, 108, 172]
abbrev dktX5_salvageOf_0 : List UInt8 := dkwX5_salvageOf_0 ++ []
theorem dksX5_salvageOf_0 : cX5_salvageOf.data.toList.drop 0 = dktX5_salvageOf_0 := by decide +kernel
theorem dX5_salvageOf_0 : decode cX5_salvageOf 0 = .ok (.aload_n 0, 1) := dk_42 (dk_at dksX5_salvageOf_0 0 rfl rfl)
theorem dX5_salvageOf_1 : decode cX5_salvageOf 1 = .ok (.iload_n 1, 1) := dk_27 (dk_at dksX5_salvageOf_0 1 rfl rfl)
theorem dX5_salvageOf_2 : decode cX5_salvageOf 2 = .ok (.iconst 1, 1) := dk_4 (dk_at dksX5_salvageOf_0 2 rfl rfl)
theorem dX5_salvageOf_3 : decode cX5_salvageOf 3 = .ok (.invokevirtual 106, 3) := dk_182 0 106 (dk_at dksX5_salvageOf_0 3 rfl rfl)
theorem dX5_salvageOf_6 : decode cX5_salvageOf 6 = .ok (.aload_n 0, 1) := dk_42 (dk_at dksX5_salvageOf_0 6 rfl rfl)
theorem dX5_salvageOf_7 : decode cX5_salvageOf 7 = .ok (.getfield 28, 3) := dk_180 0 28 (dk_at dksX5_salvageOf_0 7 rfl rfl)
theorem dX5_salvageOf_10 : decode cX5_salvageOf 10 = .ok (.aload_n 0, 1) := dk_42 (dk_at dksX5_salvageOf_0 10 rfl rfl)
theorem dX5_salvageOf_11 : decode cX5_salvageOf 11 = .ok (.iload_n 1, 1) := dk_27 (dk_at dksX5_salvageOf_0 11 rfl rfl)
theorem dX5_salvageOf_12 : decode cX5_salvageOf 12 = .ok (.iconst 0, 1) := dk_3 (dk_at dksX5_salvageOf_0 12 rfl rfl)
theorem dX5_salvageOf_13 : decode cX5_salvageOf 13 = .ok (.invokevirtual 106, 3) := dk_182 0 106 (dk_at dksX5_salvageOf_0 13 rfl rfl)
theorem dX5_salvageOf_16 : decode cX5_salvageOf 16 = .ok (.iaload, 1) := dk_46 (dk_at dksX5_salvageOf_0 16 rfl rfl)
theorem dX5_salvageOf_17 : decode cX5_salvageOf 17 = .ok (.imul, 1) := dk_104 (dk_at dksX5_salvageOf_0 17 rfl rfl)
theorem dX5_salvageOf_18 : decode cX5_salvageOf 18 = .ok (.bipush 100, 2) := dk_16 100 (dk_at dksX5_salvageOf_0 18 rfl rfl)
theorem dX5_salvageOf_20 : decode cX5_salvageOf 20 = .ok (.idiv, 1) := dk_108 (dk_at dksX5_salvageOf_0 20 rfl rfl)
theorem dX5_salvageOf_21 : decode cX5_salvageOf 21 = .ok (.ireturn, 1) := dk_172 (dk_at dksX5_salvageOf_0 21 rfl rfl)
abbrev cX5_crownOf : ByteArray := prog_21_method_29_code
def yX5_crownOf : MethodName := ⟨RX5, "crownOf", "(IZ)I"⟩
def dkwX5_crownOf_1 : List UInt8 := [16, 10, 108, 172]
abbrev dktX5_crownOf_1 : List UInt8 := dkwX5_crownOf_1 ++ []
def dkwX5_crownOf_0 : List UInt8 := [28, 153, 0, 14, 42, 27, 182, 0, 133, 16, 10, 108, 167, 0, 15, 42, 27, 4, 182, 0, 106, 16, 9, 96]
abbrev dktX5_crownOf_0 : List UInt8 := dkwX5_crownOf_0 ++ dktX5_crownOf_1
theorem dksX5_crownOf_0 : cX5_crownOf.data.toList.drop 0 = dktX5_crownOf_0 := by decide +kernel
theorem dksX5_crownOf_1 : cX5_crownOf.data.toList.drop 24 = dktX5_crownOf_1 := dk_seg dksX5_crownOf_0 24 rfl rfl
theorem dX5_crownOf_0 : decode cX5_crownOf 0 = .ok (.iload_n 2, 1) := dk_28 (dk_at dksX5_crownOf_0 0 rfl rfl)
theorem dX5_crownOf_1 : decode cX5_crownOf 1 = .ok (.ifCond .eq 14, 3) := dk_153 0 14 (dk_at dksX5_crownOf_0 1 rfl rfl)
theorem dX5_crownOf_4 : decode cX5_crownOf 4 = .ok (.aload_n 0, 1) := dk_42 (dk_at dksX5_crownOf_0 4 rfl rfl)
theorem dX5_crownOf_5 : decode cX5_crownOf 5 = .ok (.iload_n 1, 1) := dk_27 (dk_at dksX5_crownOf_0 5 rfl rfl)
theorem dX5_crownOf_6 : decode cX5_crownOf 6 = .ok (.invokevirtual 133, 3) := dk_182 0 133 (dk_at dksX5_crownOf_0 6 rfl rfl)
theorem dX5_crownOf_9 : decode cX5_crownOf 9 = .ok (.bipush 10, 2) := dk_16 10 (dk_at dksX5_crownOf_0 9 rfl rfl)
theorem dX5_crownOf_11 : decode cX5_crownOf 11 = .ok (.idiv, 1) := dk_108 (dk_at dksX5_crownOf_0 11 rfl rfl)
theorem dX5_crownOf_12 : decode cX5_crownOf 12 = .ok (.goto 15, 3) := dk_167 0 15 (dk_at dksX5_crownOf_0 12 rfl rfl)
theorem dX5_crownOf_15 : decode cX5_crownOf 15 = .ok (.aload_n 0, 1) := dk_42 (dk_at dksX5_crownOf_0 15 rfl rfl)
theorem dX5_crownOf_16 : decode cX5_crownOf 16 = .ok (.iload_n 1, 1) := dk_27 (dk_at dksX5_crownOf_0 16 rfl rfl)
theorem dX5_crownOf_17 : decode cX5_crownOf 17 = .ok (.iconst 1, 1) := dk_4 (dk_at dksX5_crownOf_0 17 rfl rfl)
theorem dX5_crownOf_18 : decode cX5_crownOf 18 = .ok (.invokevirtual 106, 3) := dk_182 0 106 (dk_at dksX5_crownOf_0 18 rfl rfl)
theorem dX5_crownOf_21 : decode cX5_crownOf 21 = .ok (.bipush 9, 2) := dk_16 9 (dk_at dksX5_crownOf_0 21 rfl rfl)
theorem dX5_crownOf_23 : decode cX5_crownOf 23 = .ok (.iadd, 1) := dk_96 (dk_at dksX5_crownOf_0 23 rfl rfl)
theorem dX5_crownOf_24 : decode cX5_crownOf 24 = .ok (.bipush 10, 2) := dk_16 10 (dk_at dksX5_crownOf_1 0 rfl rfl)
theorem dX5_crownOf_26 : decode cX5_crownOf 26 = .ok (.idiv, 1) := dk_108 (dk_at dksX5_crownOf_1 2 rfl rfl)
theorem dX5_crownOf_27 : decode cX5_crownOf 27 = .ok (.ireturn, 1) := dk_172 (dk_at dksX5_crownOf_1 3 rfl rfl)
abbrev cX5_restOf : ByteArray := prog_21_method_34_code
def yX5_restOf : MethodName := ⟨RX5, "restOf", "(I)I"⟩
def dkwX5_restOf_1 : List UInt8 := [28, 42, 27, 29, 182, 0, 150, 100, 61, 132, 3, 1, 167, 255, 233, 28, 172]
abbrev dktX5_restOf_1 : List UInt8 := dkwX5_restOf_1 ++ []
def dkwX5_restOf_0 : List UInt8 := [42, 27, 42, 27, 182, 0, 143, 182, 0, 147, 61, 3, 62, 29, 42, 27, 16, 9, 182, 0, 106, 162, 0, 18]
abbrev dktX5_restOf_0 : List UInt8 := dkwX5_restOf_0 ++ dktX5_restOf_1
theorem dksX5_restOf_0 : cX5_restOf.data.toList.drop 0 = dktX5_restOf_0 := by decide +kernel
theorem dksX5_restOf_1 : cX5_restOf.data.toList.drop 24 = dktX5_restOf_1 := dk_seg dksX5_restOf_0 24 rfl rfl
theorem dX5_restOf_0 : decode cX5_restOf 0 = .ok (.aload_n 0, 1) := dk_42 (dk_at dksX5_restOf_0 0 rfl rfl)
theorem dX5_restOf_1 : decode cX5_restOf 1 = .ok (.iload_n 1, 1) := dk_27 (dk_at dksX5_restOf_0 1 rfl rfl)
theorem dX5_restOf_2 : decode cX5_restOf 2 = .ok (.aload_n 0, 1) := dk_42 (dk_at dksX5_restOf_0 2 rfl rfl)
theorem dX5_restOf_3 : decode cX5_restOf 3 = .ok (.iload_n 1, 1) := dk_27 (dk_at dksX5_restOf_0 3 rfl rfl)
theorem dX5_restOf_4 : decode cX5_restOf 4 = .ok (.invokevirtual 143, 3) := dk_182 0 143 (dk_at dksX5_restOf_0 4 rfl rfl)
theorem dX5_restOf_7 : decode cX5_restOf 7 = .ok (.invokevirtual 147, 3) := dk_182 0 147 (dk_at dksX5_restOf_0 7 rfl rfl)
theorem dX5_restOf_10 : decode cX5_restOf 10 = .ok (.istore_n 2, 1) := dk_61 (dk_at dksX5_restOf_0 10 rfl rfl)
theorem dX5_restOf_11 : decode cX5_restOf 11 = .ok (.iconst 0, 1) := dk_3 (dk_at dksX5_restOf_0 11 rfl rfl)
theorem dX5_restOf_12 : decode cX5_restOf 12 = .ok (.istore_n 3, 1) := dk_62 (dk_at dksX5_restOf_0 12 rfl rfl)
theorem dX5_restOf_13 : decode cX5_restOf 13 = .ok (.iload_n 3, 1) := dk_29 (dk_at dksX5_restOf_0 13 rfl rfl)
theorem dX5_restOf_14 : decode cX5_restOf 14 = .ok (.aload_n 0, 1) := dk_42 (dk_at dksX5_restOf_0 14 rfl rfl)
theorem dX5_restOf_15 : decode cX5_restOf 15 = .ok (.iload_n 1, 1) := dk_27 (dk_at dksX5_restOf_0 15 rfl rfl)
theorem dX5_restOf_16 : decode cX5_restOf 16 = .ok (.bipush 9, 2) := dk_16 9 (dk_at dksX5_restOf_0 16 rfl rfl)
theorem dX5_restOf_18 : decode cX5_restOf 18 = .ok (.invokevirtual 106, 3) := dk_182 0 106 (dk_at dksX5_restOf_0 18 rfl rfl)
theorem dX5_restOf_21 : decode cX5_restOf 21 = .ok (.if_icmp .ge 18, 3) := dk_162 0 18 (dk_at dksX5_restOf_0 21 rfl rfl)
theorem dX5_restOf_24 : decode cX5_restOf 24 = .ok (.iload_n 2, 1) := dk_28 (dk_at dksX5_restOf_1 0 rfl rfl)
theorem dX5_restOf_25 : decode cX5_restOf 25 = .ok (.aload_n 0, 1) := dk_42 (dk_at dksX5_restOf_1 1 rfl rfl)
theorem dX5_restOf_26 : decode cX5_restOf 26 = .ok (.iload_n 1, 1) := dk_27 (dk_at dksX5_restOf_1 2 rfl rfl)
theorem dX5_restOf_27 : decode cX5_restOf 27 = .ok (.iload_n 3, 1) := dk_29 (dk_at dksX5_restOf_1 3 rfl rfl)
theorem dX5_restOf_28 : decode cX5_restOf 28 = .ok (.invokevirtual 150, 3) := dk_182 0 150 (dk_at dksX5_restOf_1 4 rfl rfl)
theorem dX5_restOf_31 : decode cX5_restOf 31 = .ok (.isub, 1) := dk_100 (dk_at dksX5_restOf_1 7 rfl rfl)
theorem dX5_restOf_32 : decode cX5_restOf 32 = .ok (.istore_n 2, 1) := dk_61 (dk_at dksX5_restOf_1 8 rfl rfl)
theorem dX5_restOf_33 : decode cX5_restOf 33 = .ok (.iinc 3 1, 3) := dk_132 3 1 (dk_at dksX5_restOf_1 9 rfl rfl)
theorem dX5_restOf_36 : decode cX5_restOf 36 = .ok (.goto (-23), 3) := dk_167 255 233 (dk_at dksX5_restOf_1 12 rfl rfl)
theorem dX5_restOf_39 : decode cX5_restOf 39 = .ok (.iload_n 2, 1) := dk_28 (dk_at dksX5_restOf_1 15 rfl rfl)
theorem dX5_restOf_40 : decode cX5_restOf 40 = .ok (.ireturn, 1) := dk_172 (dk_at dksX5_restOf_1 16 rfl rfl)
abbrev cX5_richest : ByteArray := prog_21_method_58_code
def yX5_richest : MethodName := ⟨RX5, "richest", "()I"⟩
def dkwX5_richest_2 : List UInt8 := [27, 172]
abbrev dktX5_richest_2 : List UInt8 := dkwX5_richest_2 ++ []
def dkwX5_richest_1 : List UInt8 := [182, 0, 127, 42, 27, 3, 182, 0, 127, 164, 0, 7, 28, 167, 0, 4, 27, 60, 132, 2, 1, 167, 255, 222]
abbrev dktX5_richest_1 : List UInt8 := dkwX5_richest_1 ++ dktX5_richest_2
def dkwX5_richest_0 : List UInt8 := [42, 3, 181, 0, 92, 3, 60, 4, 61, 28, 42, 180, 0, 51, 7, 46, 162, 0, 30, 42, 28, 3]
abbrev dktX5_richest_0 : List UInt8 := dkwX5_richest_0 ++ dktX5_richest_1
theorem dksX5_richest_0 : cX5_richest.data.toList.drop 0 = dktX5_richest_0 := by decide +kernel
theorem dksX5_richest_1 : cX5_richest.data.toList.drop 22 = dktX5_richest_1 := dk_seg dksX5_richest_0 22 rfl rfl
theorem dksX5_richest_2 : cX5_richest.data.toList.drop 46 = dktX5_richest_2 := dk_seg dksX5_richest_1 24 rfl rfl
theorem dX5_richest_0 : decode cX5_richest 0 = .ok (.aload_n 0, 1) := dk_42 (dk_at dksX5_richest_0 0 rfl rfl)
theorem dX5_richest_1 : decode cX5_richest 1 = .ok (.iconst 0, 1) := dk_3 (dk_at dksX5_richest_0 1 rfl rfl)
theorem dX5_richest_2 : decode cX5_richest 2 = .ok (.putfield 92, 3) := dk_181 0 92 (dk_at dksX5_richest_0 2 rfl rfl)
theorem dX5_richest_5 : decode cX5_richest 5 = .ok (.iconst 0, 1) := dk_3 (dk_at dksX5_richest_0 5 rfl rfl)
theorem dX5_richest_6 : decode cX5_richest 6 = .ok (.istore_n 1, 1) := dk_60 (dk_at dksX5_richest_0 6 rfl rfl)
theorem dX5_richest_7 : decode cX5_richest 7 = .ok (.iconst 1, 1) := dk_4 (dk_at dksX5_richest_0 7 rfl rfl)
theorem dX5_richest_8 : decode cX5_richest 8 = .ok (.istore_n 2, 1) := dk_61 (dk_at dksX5_richest_0 8 rfl rfl)
theorem dX5_richest_9 : decode cX5_richest 9 = .ok (.iload_n 2, 1) := dk_28 (dk_at dksX5_richest_0 9 rfl rfl)
theorem dX5_richest_10 : decode cX5_richest 10 = .ok (.aload_n 0, 1) := dk_42 (dk_at dksX5_richest_0 10 rfl rfl)
theorem dX5_richest_11 : decode cX5_richest 11 = .ok (.getfield 51, 3) := dk_180 0 51 (dk_at dksX5_richest_0 11 rfl rfl)
theorem dX5_richest_14 : decode cX5_richest 14 = .ok (.iconst 4, 1) := dk_7 (dk_at dksX5_richest_0 14 rfl rfl)
theorem dX5_richest_15 : decode cX5_richest 15 = .ok (.iaload, 1) := dk_46 (dk_at dksX5_richest_0 15 rfl rfl)
theorem dX5_richest_16 : decode cX5_richest 16 = .ok (.if_icmp .ge 30, 3) := dk_162 0 30 (dk_at dksX5_richest_0 16 rfl rfl)
theorem dX5_richest_19 : decode cX5_richest 19 = .ok (.aload_n 0, 1) := dk_42 (dk_at dksX5_richest_0 19 rfl rfl)
theorem dX5_richest_20 : decode cX5_richest 20 = .ok (.iload_n 2, 1) := dk_28 (dk_at dksX5_richest_0 20 rfl rfl)
theorem dX5_richest_21 : decode cX5_richest 21 = .ok (.iconst 0, 1) := dk_3 (dk_at dksX5_richest_0 21 rfl rfl)
theorem dX5_richest_22 : decode cX5_richest 22 = .ok (.invokevirtual 127, 3) := dk_182 0 127 (dk_at dksX5_richest_1 0 rfl rfl)
theorem dX5_richest_25 : decode cX5_richest 25 = .ok (.aload_n 0, 1) := dk_42 (dk_at dksX5_richest_1 3 rfl rfl)
theorem dX5_richest_26 : decode cX5_richest 26 = .ok (.iload_n 1, 1) := dk_27 (dk_at dksX5_richest_1 4 rfl rfl)
theorem dX5_richest_27 : decode cX5_richest 27 = .ok (.iconst 0, 1) := dk_3 (dk_at dksX5_richest_1 5 rfl rfl)
theorem dX5_richest_28 : decode cX5_richest 28 = .ok (.invokevirtual 127, 3) := dk_182 0 127 (dk_at dksX5_richest_1 6 rfl rfl)
theorem dX5_richest_31 : decode cX5_richest 31 = .ok (.if_icmp .le 7, 3) := dk_164 0 7 (dk_at dksX5_richest_1 9 rfl rfl)
theorem dX5_richest_34 : decode cX5_richest 34 = .ok (.iload_n 2, 1) := dk_28 (dk_at dksX5_richest_1 12 rfl rfl)
theorem dX5_richest_35 : decode cX5_richest 35 = .ok (.goto 4, 3) := dk_167 0 4 (dk_at dksX5_richest_1 13 rfl rfl)
theorem dX5_richest_38 : decode cX5_richest 38 = .ok (.iload_n 1, 1) := dk_27 (dk_at dksX5_richest_1 16 rfl rfl)
theorem dX5_richest_39 : decode cX5_richest 39 = .ok (.istore_n 1, 1) := dk_60 (dk_at dksX5_richest_1 17 rfl rfl)
theorem dX5_richest_40 : decode cX5_richest 40 = .ok (.iinc 2 1, 3) := dk_132 2 1 (dk_at dksX5_richest_1 18 rfl rfl)
theorem dX5_richest_43 : decode cX5_richest 43 = .ok (.goto (-34), 3) := dk_167 255 222 (dk_at dksX5_richest_1 21 rfl rfl)
theorem dX5_richest_46 : decode cX5_richest 46 = .ok (.iload_n 1, 1) := dk_27 (dk_at dksX5_richest_2 0 rfl rfl)
theorem dX5_richest_47 : decode cX5_richest 47 = .ok (.ireturn, 1) := dk_172 (dk_at dksX5_richest_2 1 rfl rfl)
abbrev cX5_gap : ByteArray := prog_21_method_60_code
def yX5_gap : MethodName := ⟨RX5, "gap", "()I"⟩
def dkwX5_gap_4 : List UInt8 := [180, 0, 51, 5, 46, 161, 0, 7, 4, 167, 0, 4, 3, 96, 60, 132, 2, 1, 167, 255, 210, 27, 172]
abbrev dktX5_gap_4 : List UInt8 := dkwX5_gap_4 ++ []
def dkwX5_gap_3 : List UInt8 := [46, 162, 0, 42, 27, 42, 28, 3, 182, 0, 118, 153, 0, 23, 42, 28, 16, 6, 182, 0, 106, 42]
abbrev dktX5_gap_3 : List UInt8 := dkwX5_gap_3 ++ dktX5_gap_4
def dkwX5_gap_2 : List UInt8 := [154, 0, 7, 4, 167, 0, 4, 3, 96, 60, 132, 2, 1, 167, 255, 214, 3, 61, 28, 42, 180, 0, 51, 8]
abbrev dktX5_gap_2 : List UInt8 := dkwX5_gap_2 ++ dktX5_gap_3
def dkwX5_gap_1 : List UInt8 := [7, 46, 162, 0, 38, 42, 28, 4, 182, 0, 127, 62, 27, 29, 2, 159, 0, 16, 42, 29, 3, 182, 0, 118]
abbrev dktX5_gap_1 : List UInt8 := dkwX5_gap_1 ++ dktX5_gap_2
def dkwX5_gap_0 : List UInt8 := [42, 3, 181, 0, 92, 42, 182, 0, 211, 42, 16, 6, 182, 0, 187, 100, 60, 3, 61, 28, 42, 180, 0, 51]
abbrev dktX5_gap_0 : List UInt8 := dkwX5_gap_0 ++ dktX5_gap_1
theorem dksX5_gap_0 : cX5_gap.data.toList.drop 0 = dktX5_gap_0 := by decide +kernel
theorem dksX5_gap_1 : cX5_gap.data.toList.drop 24 = dktX5_gap_1 := dk_seg dksX5_gap_0 24 rfl rfl
theorem dksX5_gap_2 : cX5_gap.data.toList.drop 48 = dktX5_gap_2 := dk_seg dksX5_gap_1 24 rfl rfl
theorem dksX5_gap_3 : cX5_gap.data.toList.drop 72 = dktX5_gap_3 := dk_seg dksX5_gap_2 24 rfl rfl
theorem dksX5_gap_4 : cX5_gap.data.toList.drop 94 = dktX5_gap_4 := dk_seg dksX5_gap_3 22 rfl rfl
theorem dX5_gap_0 : decode cX5_gap 0 = .ok (.aload_n 0, 1) := dk_42 (dk_at dksX5_gap_0 0 rfl rfl)
theorem dX5_gap_1 : decode cX5_gap 1 = .ok (.iconst 0, 1) := dk_3 (dk_at dksX5_gap_0 1 rfl rfl)
theorem dX5_gap_2 : decode cX5_gap 2 = .ok (.putfield 92, 3) := dk_181 0 92 (dk_at dksX5_gap_0 2 rfl rfl)
theorem dX5_gap_5 : decode cX5_gap 5 = .ok (.aload_n 0, 1) := dk_42 (dk_at dksX5_gap_0 5 rfl rfl)
theorem dX5_gap_6 : decode cX5_gap 6 = .ok (.invokevirtual 211, 3) := dk_182 0 211 (dk_at dksX5_gap_0 6 rfl rfl)
theorem dX5_gap_9 : decode cX5_gap 9 = .ok (.aload_n 0, 1) := dk_42 (dk_at dksX5_gap_0 9 rfl rfl)
theorem dX5_gap_10 : decode cX5_gap 10 = .ok (.bipush 6, 2) := dk_16 6 (dk_at dksX5_gap_0 10 rfl rfl)
theorem dX5_gap_12 : decode cX5_gap 12 = .ok (.invokevirtual 187, 3) := dk_182 0 187 (dk_at dksX5_gap_0 12 rfl rfl)
theorem dX5_gap_15 : decode cX5_gap 15 = .ok (.isub, 1) := dk_100 (dk_at dksX5_gap_0 15 rfl rfl)
theorem dX5_gap_16 : decode cX5_gap 16 = .ok (.istore_n 1, 1) := dk_60 (dk_at dksX5_gap_0 16 rfl rfl)
theorem dX5_gap_17 : decode cX5_gap 17 = .ok (.iconst 0, 1) := dk_3 (dk_at dksX5_gap_0 17 rfl rfl)
theorem dX5_gap_18 : decode cX5_gap 18 = .ok (.istore_n 2, 1) := dk_61 (dk_at dksX5_gap_0 18 rfl rfl)
theorem dX5_gap_19 : decode cX5_gap 19 = .ok (.iload_n 2, 1) := dk_28 (dk_at dksX5_gap_0 19 rfl rfl)
theorem dX5_gap_20 : decode cX5_gap 20 = .ok (.aload_n 0, 1) := dk_42 (dk_at dksX5_gap_0 20 rfl rfl)
theorem dX5_gap_21 : decode cX5_gap 21 = .ok (.getfield 51, 3) := dk_180 0 51 (dk_at dksX5_gap_0 21 rfl rfl)
theorem dX5_gap_24 : decode cX5_gap 24 = .ok (.iconst 4, 1) := dk_7 (dk_at dksX5_gap_1 0 rfl rfl)
theorem dX5_gap_25 : decode cX5_gap 25 = .ok (.iaload, 1) := dk_46 (dk_at dksX5_gap_1 1 rfl rfl)
theorem dX5_gap_26 : decode cX5_gap 26 = .ok (.if_icmp .ge 38, 3) := dk_162 0 38 (dk_at dksX5_gap_1 2 rfl rfl)
theorem dX5_gap_29 : decode cX5_gap 29 = .ok (.aload_n 0, 1) := dk_42 (dk_at dksX5_gap_1 5 rfl rfl)
theorem dX5_gap_30 : decode cX5_gap 30 = .ok (.iload_n 2, 1) := dk_28 (dk_at dksX5_gap_1 6 rfl rfl)
theorem dX5_gap_31 : decode cX5_gap 31 = .ok (.iconst 1, 1) := dk_4 (dk_at dksX5_gap_1 7 rfl rfl)
theorem dX5_gap_32 : decode cX5_gap 32 = .ok (.invokevirtual 127, 3) := dk_182 0 127 (dk_at dksX5_gap_1 8 rfl rfl)
theorem dX5_gap_35 : decode cX5_gap 35 = .ok (.istore_n 3, 1) := dk_62 (dk_at dksX5_gap_1 11 rfl rfl)
theorem dX5_gap_36 : decode cX5_gap 36 = .ok (.iload_n 1, 1) := dk_27 (dk_at dksX5_gap_1 12 rfl rfl)
theorem dX5_gap_37 : decode cX5_gap 37 = .ok (.iload_n 3, 1) := dk_29 (dk_at dksX5_gap_1 13 rfl rfl)
theorem dX5_gap_38 : decode cX5_gap 38 = .ok (.iconst (-1), 1) := dk_2 (dk_at dksX5_gap_1 14 rfl rfl)
theorem dX5_gap_39 : decode cX5_gap 39 = .ok (.if_icmp .eq 16, 3) := dk_159 0 16 (dk_at dksX5_gap_1 15 rfl rfl)
theorem dX5_gap_42 : decode cX5_gap 42 = .ok (.aload_n 0, 1) := dk_42 (dk_at dksX5_gap_1 18 rfl rfl)
theorem dX5_gap_43 : decode cX5_gap 43 = .ok (.iload_n 3, 1) := dk_29 (dk_at dksX5_gap_1 19 rfl rfl)
theorem dX5_gap_44 : decode cX5_gap 44 = .ok (.iconst 0, 1) := dk_3 (dk_at dksX5_gap_1 20 rfl rfl)
theorem dX5_gap_45 : decode cX5_gap 45 = .ok (.invokevirtual 118, 3) := dk_182 0 118 (dk_at dksX5_gap_1 21 rfl rfl)
theorem dX5_gap_48 : decode cX5_gap 48 = .ok (.ifCond .ne 7, 3) := dk_154 0 7 (dk_at dksX5_gap_2 0 rfl rfl)
theorem dX5_gap_51 : decode cX5_gap 51 = .ok (.iconst 1, 1) := dk_4 (dk_at dksX5_gap_2 3 rfl rfl)
theorem dX5_gap_52 : decode cX5_gap 52 = .ok (.goto 4, 3) := dk_167 0 4 (dk_at dksX5_gap_2 4 rfl rfl)
theorem dX5_gap_55 : decode cX5_gap 55 = .ok (.iconst 0, 1) := dk_3 (dk_at dksX5_gap_2 7 rfl rfl)
theorem dX5_gap_56 : decode cX5_gap 56 = .ok (.iadd, 1) := dk_96 (dk_at dksX5_gap_2 8 rfl rfl)
theorem dX5_gap_57 : decode cX5_gap 57 = .ok (.istore_n 1, 1) := dk_60 (dk_at dksX5_gap_2 9 rfl rfl)
theorem dX5_gap_58 : decode cX5_gap 58 = .ok (.iinc 2 1, 3) := dk_132 2 1 (dk_at dksX5_gap_2 10 rfl rfl)
theorem dX5_gap_61 : decode cX5_gap 61 = .ok (.goto (-42), 3) := dk_167 255 214 (dk_at dksX5_gap_2 13 rfl rfl)
theorem dX5_gap_64 : decode cX5_gap 64 = .ok (.iconst 0, 1) := dk_3 (dk_at dksX5_gap_2 16 rfl rfl)
theorem dX5_gap_65 : decode cX5_gap 65 = .ok (.istore_n 2, 1) := dk_61 (dk_at dksX5_gap_2 17 rfl rfl)
theorem dX5_gap_66 : decode cX5_gap 66 = .ok (.iload_n 2, 1) := dk_28 (dk_at dksX5_gap_2 18 rfl rfl)
theorem dX5_gap_67 : decode cX5_gap 67 = .ok (.aload_n 0, 1) := dk_42 (dk_at dksX5_gap_2 19 rfl rfl)
theorem dX5_gap_68 : decode cX5_gap 68 = .ok (.getfield 51, 3) := dk_180 0 51 (dk_at dksX5_gap_2 20 rfl rfl)
theorem dX5_gap_71 : decode cX5_gap 71 = .ok (.iconst 5, 1) := dk_8 (dk_at dksX5_gap_2 23 rfl rfl)
theorem dX5_gap_72 : decode cX5_gap 72 = .ok (.iaload, 1) := dk_46 (dk_at dksX5_gap_3 0 rfl rfl)
theorem dX5_gap_73 : decode cX5_gap 73 = .ok (.if_icmp .ge 42, 3) := dk_162 0 42 (dk_at dksX5_gap_3 1 rfl rfl)
theorem dX5_gap_76 : decode cX5_gap 76 = .ok (.iload_n 1, 1) := dk_27 (dk_at dksX5_gap_3 4 rfl rfl)
theorem dX5_gap_77 : decode cX5_gap 77 = .ok (.aload_n 0, 1) := dk_42 (dk_at dksX5_gap_3 5 rfl rfl)
theorem dX5_gap_78 : decode cX5_gap 78 = .ok (.iload_n 2, 1) := dk_28 (dk_at dksX5_gap_3 6 rfl rfl)
theorem dX5_gap_79 : decode cX5_gap 79 = .ok (.iconst 0, 1) := dk_3 (dk_at dksX5_gap_3 7 rfl rfl)
theorem dX5_gap_80 : decode cX5_gap 80 = .ok (.invokevirtual 118, 3) := dk_182 0 118 (dk_at dksX5_gap_3 8 rfl rfl)
theorem dX5_gap_83 : decode cX5_gap 83 = .ok (.ifCond .eq 23, 3) := dk_153 0 23 (dk_at dksX5_gap_3 11 rfl rfl)
theorem dX5_gap_86 : decode cX5_gap 86 = .ok (.aload_n 0, 1) := dk_42 (dk_at dksX5_gap_3 14 rfl rfl)
theorem dX5_gap_87 : decode cX5_gap 87 = .ok (.iload_n 2, 1) := dk_28 (dk_at dksX5_gap_3 15 rfl rfl)
theorem dX5_gap_88 : decode cX5_gap 88 = .ok (.bipush 6, 2) := dk_16 6 (dk_at dksX5_gap_3 16 rfl rfl)
theorem dX5_gap_90 : decode cX5_gap 90 = .ok (.invokevirtual 106, 3) := dk_182 0 106 (dk_at dksX5_gap_3 18 rfl rfl)
theorem dX5_gap_93 : decode cX5_gap 93 = .ok (.aload_n 0, 1) := dk_42 (dk_at dksX5_gap_3 21 rfl rfl)
theorem dX5_gap_94 : decode cX5_gap 94 = .ok (.getfield 51, 3) := dk_180 0 51 (dk_at dksX5_gap_4 0 rfl rfl)
theorem dX5_gap_97 : decode cX5_gap 97 = .ok (.iconst 2, 1) := dk_5 (dk_at dksX5_gap_4 3 rfl rfl)
theorem dX5_gap_98 : decode cX5_gap 98 = .ok (.iaload, 1) := dk_46 (dk_at dksX5_gap_4 4 rfl rfl)
theorem dX5_gap_99 : decode cX5_gap 99 = .ok (.if_icmp .lt 7, 3) := dk_161 0 7 (dk_at dksX5_gap_4 5 rfl rfl)
theorem dX5_gap_102 : decode cX5_gap 102 = .ok (.iconst 1, 1) := dk_4 (dk_at dksX5_gap_4 8 rfl rfl)
theorem dX5_gap_103 : decode cX5_gap 103 = .ok (.goto 4, 3) := dk_167 0 4 (dk_at dksX5_gap_4 9 rfl rfl)
theorem dX5_gap_106 : decode cX5_gap 106 = .ok (.iconst 0, 1) := dk_3 (dk_at dksX5_gap_4 12 rfl rfl)
theorem dX5_gap_107 : decode cX5_gap 107 = .ok (.iadd, 1) := dk_96 (dk_at dksX5_gap_4 13 rfl rfl)
theorem dX5_gap_108 : decode cX5_gap 108 = .ok (.istore_n 1, 1) := dk_60 (dk_at dksX5_gap_4 14 rfl rfl)
theorem dX5_gap_109 : decode cX5_gap 109 = .ok (.iinc 2 1, 3) := dk_132 2 1 (dk_at dksX5_gap_4 15 rfl rfl)
theorem dX5_gap_112 : decode cX5_gap 112 = .ok (.goto (-46), 3) := dk_167 255 210 (dk_at dksX5_gap_4 18 rfl rfl)
theorem dX5_gap_115 : decode cX5_gap 115 = .ok (.iload_n 1, 1) := dk_27 (dk_at dksX5_gap_4 21 rfl rfl)
theorem dX5_gap_116 : decode cX5_gap 116 = .ok (.ireturn, 1) := dk_172 (dk_at dksX5_gap_4 22 rfl rfl)
abbrev cX5_allPurses : ByteArray := prog_21_method_59_code
def yX5_allPurses : MethodName := ⟨RX5, "allPurses", "()I"⟩
def dkwX5_allPurses_2 : List UInt8 := [3, 182, 0, 127, 96, 60, 132, 2, 1, 167, 255, 234, 27, 172]
abbrev dktX5_allPurses_2 : List UInt8 := dkwX5_allPurses_2 ++ []
def dkwX5_allPurses_1 : List UInt8 := [46, 96, 60, 132, 2, 1, 167, 255, 236, 3, 61, 28, 42, 180, 0, 51, 7, 46, 162, 0, 18, 27, 42, 28]
abbrev dktX5_allPurses_1 : List UInt8 := dkwX5_allPurses_1 ++ dktX5_allPurses_2
def dkwX5_allPurses_0 : List UInt8 := [42, 180, 0, 51, 16, 6, 46, 60, 3, 61, 28, 8, 162, 0, 21, 27, 42, 180, 0, 51, 16, 15, 28, 96]
abbrev dktX5_allPurses_0 : List UInt8 := dkwX5_allPurses_0 ++ dktX5_allPurses_1
theorem dksX5_allPurses_0 : cX5_allPurses.data.toList.drop 0 = dktX5_allPurses_0 := by decide +kernel
theorem dksX5_allPurses_1 : cX5_allPurses.data.toList.drop 24 = dktX5_allPurses_1 := dk_seg dksX5_allPurses_0 24 rfl rfl
theorem dksX5_allPurses_2 : cX5_allPurses.data.toList.drop 48 = dktX5_allPurses_2 := dk_seg dksX5_allPurses_1 24 rfl rfl
theorem dX5_allPurses_0 : decode cX5_allPurses 0 = .ok (.aload_n 0, 1) := dk_42 (dk_at dksX5_allPurses_0 0 rfl rfl)
theorem dX5_allPurses_1 : decode cX5_allPurses 1 = .ok (.getfield 51, 3) := dk_180 0 51 (dk_at dksX5_allPurses_0 1 rfl rfl)
theorem dX5_allPurses_4 : decode cX5_allPurses 4 = .ok (.bipush 6, 2) := dk_16 6 (dk_at dksX5_allPurses_0 4 rfl rfl)
theorem dX5_allPurses_6 : decode cX5_allPurses 6 = .ok (.iaload, 1) := dk_46 (dk_at dksX5_allPurses_0 6 rfl rfl)
theorem dX5_allPurses_7 : decode cX5_allPurses 7 = .ok (.istore_n 1, 1) := dk_60 (dk_at dksX5_allPurses_0 7 rfl rfl)
theorem dX5_allPurses_8 : decode cX5_allPurses 8 = .ok (.iconst 0, 1) := dk_3 (dk_at dksX5_allPurses_0 8 rfl rfl)
theorem dX5_allPurses_9 : decode cX5_allPurses 9 = .ok (.istore_n 2, 1) := dk_61 (dk_at dksX5_allPurses_0 9 rfl rfl)
theorem dX5_allPurses_10 : decode cX5_allPurses 10 = .ok (.iload_n 2, 1) := dk_28 (dk_at dksX5_allPurses_0 10 rfl rfl)
theorem dX5_allPurses_11 : decode cX5_allPurses 11 = .ok (.iconst 5, 1) := dk_8 (dk_at dksX5_allPurses_0 11 rfl rfl)
theorem dX5_allPurses_12 : decode cX5_allPurses 12 = .ok (.if_icmp .ge 21, 3) := dk_162 0 21 (dk_at dksX5_allPurses_0 12 rfl rfl)
theorem dX5_allPurses_15 : decode cX5_allPurses 15 = .ok (.iload_n 1, 1) := dk_27 (dk_at dksX5_allPurses_0 15 rfl rfl)
theorem dX5_allPurses_16 : decode cX5_allPurses 16 = .ok (.aload_n 0, 1) := dk_42 (dk_at dksX5_allPurses_0 16 rfl rfl)
theorem dX5_allPurses_17 : decode cX5_allPurses 17 = .ok (.getfield 51, 3) := dk_180 0 51 (dk_at dksX5_allPurses_0 17 rfl rfl)
theorem dX5_allPurses_20 : decode cX5_allPurses 20 = .ok (.bipush 15, 2) := dk_16 15 (dk_at dksX5_allPurses_0 20 rfl rfl)
theorem dX5_allPurses_22 : decode cX5_allPurses 22 = .ok (.iload_n 2, 1) := dk_28 (dk_at dksX5_allPurses_0 22 rfl rfl)
theorem dX5_allPurses_23 : decode cX5_allPurses 23 = .ok (.iadd, 1) := dk_96 (dk_at dksX5_allPurses_0 23 rfl rfl)
theorem dX5_allPurses_24 : decode cX5_allPurses 24 = .ok (.iaload, 1) := dk_46 (dk_at dksX5_allPurses_1 0 rfl rfl)
theorem dX5_allPurses_25 : decode cX5_allPurses 25 = .ok (.iadd, 1) := dk_96 (dk_at dksX5_allPurses_1 1 rfl rfl)
theorem dX5_allPurses_26 : decode cX5_allPurses 26 = .ok (.istore_n 1, 1) := dk_60 (dk_at dksX5_allPurses_1 2 rfl rfl)
theorem dX5_allPurses_27 : decode cX5_allPurses 27 = .ok (.iinc 2 1, 3) := dk_132 2 1 (dk_at dksX5_allPurses_1 3 rfl rfl)
theorem dX5_allPurses_30 : decode cX5_allPurses 30 = .ok (.goto (-20), 3) := dk_167 255 236 (dk_at dksX5_allPurses_1 6 rfl rfl)
theorem dX5_allPurses_33 : decode cX5_allPurses 33 = .ok (.iconst 0, 1) := dk_3 (dk_at dksX5_allPurses_1 9 rfl rfl)
theorem dX5_allPurses_34 : decode cX5_allPurses 34 = .ok (.istore_n 2, 1) := dk_61 (dk_at dksX5_allPurses_1 10 rfl rfl)
theorem dX5_allPurses_35 : decode cX5_allPurses 35 = .ok (.iload_n 2, 1) := dk_28 (dk_at dksX5_allPurses_1 11 rfl rfl)
theorem dX5_allPurses_36 : decode cX5_allPurses 36 = .ok (.aload_n 0, 1) := dk_42 (dk_at dksX5_allPurses_1 12 rfl rfl)
theorem dX5_allPurses_37 : decode cX5_allPurses 37 = .ok (.getfield 51, 3) := dk_180 0 51 (dk_at dksX5_allPurses_1 13 rfl rfl)
theorem dX5_allPurses_40 : decode cX5_allPurses 40 = .ok (.iconst 4, 1) := dk_7 (dk_at dksX5_allPurses_1 16 rfl rfl)
theorem dX5_allPurses_41 : decode cX5_allPurses 41 = .ok (.iaload, 1) := dk_46 (dk_at dksX5_allPurses_1 17 rfl rfl)
theorem dX5_allPurses_42 : decode cX5_allPurses 42 = .ok (.if_icmp .ge 18, 3) := dk_162 0 18 (dk_at dksX5_allPurses_1 18 rfl rfl)
theorem dX5_allPurses_45 : decode cX5_allPurses 45 = .ok (.iload_n 1, 1) := dk_27 (dk_at dksX5_allPurses_1 21 rfl rfl)
theorem dX5_allPurses_46 : decode cX5_allPurses 46 = .ok (.aload_n 0, 1) := dk_42 (dk_at dksX5_allPurses_1 22 rfl rfl)
theorem dX5_allPurses_47 : decode cX5_allPurses 47 = .ok (.iload_n 2, 1) := dk_28 (dk_at dksX5_allPurses_1 23 rfl rfl)
theorem dX5_allPurses_48 : decode cX5_allPurses 48 = .ok (.iconst 0, 1) := dk_3 (dk_at dksX5_allPurses_2 0 rfl rfl)
theorem dX5_allPurses_49 : decode cX5_allPurses 49 = .ok (.invokevirtual 127, 3) := dk_182 0 127 (dk_at dksX5_allPurses_2 1 rfl rfl)
theorem dX5_allPurses_52 : decode cX5_allPurses 52 = .ok (.iadd, 1) := dk_96 (dk_at dksX5_allPurses_2 4 rfl rfl)
theorem dX5_allPurses_53 : decode cX5_allPurses 53 = .ok (.istore_n 1, 1) := dk_60 (dk_at dksX5_allPurses_2 5 rfl rfl)
theorem dX5_allPurses_54 : decode cX5_allPurses 54 = .ok (.iinc 2 1, 3) := dk_132 2 1 (dk_at dksX5_allPurses_2 6 rfl rfl)
theorem dX5_allPurses_57 : decode cX5_allPurses 57 = .ok (.goto (-22), 3) := dk_167 255 234 (dk_at dksX5_allPurses_2 9 rfl rfl)
theorem dX5_allPurses_60 : decode cX5_allPurses 60 = .ok (.iload_n 1, 1) := dk_27 (dk_at dksX5_allPurses_2 12 rfl rfl)
theorem dX5_allPurses_61 : decode cX5_allPurses 61 = .ok (.ireturn, 1) := dk_172 (dk_at dksX5_allPurses_2 13 rfl rfl)
abbrev cX5_level : ByteArray := prog_21_method_61_code
def yX5_level : MethodName := ⟨RX5, "level", "(I)I"⟩
def dkwX5_level_0 : List UInt8 := [42, 27, 3, 18, 214, 184, 0, 102, 182, 0, 173, 153, 0, 7, 3, 167, 0, 8, 42, 27, 182, 0, 110, 172]
abbrev dktX5_level_0 : List UInt8 := dkwX5_level_0 ++ []
theorem dksX5_level_0 : cX5_level.data.toList.drop 0 = dktX5_level_0 := by decide +kernel
theorem dX5_level_0 : decode cX5_level 0 = .ok (.aload_n 0, 1) := dk_42 (dk_at dksX5_level_0 0 rfl rfl)
theorem dX5_level_1 : decode cX5_level 1 = .ok (.iload_n 1, 1) := dk_27 (dk_at dksX5_level_0 1 rfl rfl)
theorem dX5_level_2 : decode cX5_level 2 = .ok (.iconst 0, 1) := dk_3 (dk_at dksX5_level_0 2 rfl rfl)
theorem dX5_level_3 : decode cX5_level 3 = .ok (.ldc 214, 2) := dk_18 214 (dk_at dksX5_level_0 3 rfl rfl)
theorem dX5_level_5 : decode cX5_level 5 = .ok (.invokestatic 102, 3) := dk_184 0 102 (dk_at dksX5_level_0 5 rfl rfl)
theorem dX5_level_8 : decode cX5_level 8 = .ok (.invokevirtual 173, 3) := dk_182 0 173 (dk_at dksX5_level_0 8 rfl rfl)
theorem dX5_level_11 : decode cX5_level 11 = .ok (.ifCond .eq 7, 3) := dk_153 0 7 (dk_at dksX5_level_0 11 rfl rfl)
theorem dX5_level_14 : decode cX5_level 14 = .ok (.iconst 0, 1) := dk_3 (dk_at dksX5_level_0 14 rfl rfl)
theorem dX5_level_15 : decode cX5_level 15 = .ok (.goto 8, 3) := dk_167 0 8 (dk_at dksX5_level_0 15 rfl rfl)
theorem dX5_level_18 : decode cX5_level 18 = .ok (.aload_n 0, 1) := dk_42 (dk_at dksX5_level_0 18 rfl rfl)
theorem dX5_level_19 : decode cX5_level 19 = .ok (.iload_n 1, 1) := dk_27 (dk_at dksX5_level_0 19 rfl rfl)
theorem dX5_level_20 : decode cX5_level 20 = .ok (.invokevirtual 110, 3) := dk_182 0 110 (dk_at dksX5_level_0 20 rfl rfl)
theorem dX5_level_23 : decode cX5_level 23 = .ok (.ireturn, 1) := dk_172 (dk_at dksX5_level_0 23 rfl rfl)
abbrev cX5_turnIn : ByteArray := prog_21_method_62_code
def yX5_turnIn : MethodName := ⟨RX5, "turnIn", "(Z)I"⟩
def dkwX5_turnIn_2 : List UInt8 := [28, 172]
abbrev dktX5_turnIn_2 : List UInt8 := dkwX5_turnIn_2 ++ []
def dkwX5_turnIn_1 : List UInt8 := [153, 0, 14, 42, 180, 0, 51, 4, 46, 5, 108, 167, 0, 4, 3, 159, 0, 9, 132, 2, 1, 167, 255, 219]
abbrev dktX5_turnIn_1 : List UInt8 := dkwX5_turnIn_1 ++ dktX5_turnIn_2
def dkwX5_turnIn_0 : List UInt8 := [42, 3, 181, 0, 92, 3, 61, 42, 180, 0, 51, 3, 46, 28, 96, 42, 180, 0, 51, 4, 46, 112, 27]
abbrev dktX5_turnIn_0 : List UInt8 := dkwX5_turnIn_0 ++ dktX5_turnIn_1
theorem dksX5_turnIn_0 : cX5_turnIn.data.toList.drop 0 = dktX5_turnIn_0 := by decide +kernel
theorem dksX5_turnIn_1 : cX5_turnIn.data.toList.drop 23 = dktX5_turnIn_1 := dk_seg dksX5_turnIn_0 23 rfl rfl
theorem dksX5_turnIn_2 : cX5_turnIn.data.toList.drop 47 = dktX5_turnIn_2 := dk_seg dksX5_turnIn_1 24 rfl rfl
theorem dX5_turnIn_0 : decode cX5_turnIn 0 = .ok (.aload_n 0, 1) := dk_42 (dk_at dksX5_turnIn_0 0 rfl rfl)
theorem dX5_turnIn_1 : decode cX5_turnIn 1 = .ok (.iconst 0, 1) := dk_3 (dk_at dksX5_turnIn_0 1 rfl rfl)
theorem dX5_turnIn_2 : decode cX5_turnIn 2 = .ok (.putfield 92, 3) := dk_181 0 92 (dk_at dksX5_turnIn_0 2 rfl rfl)
theorem dX5_turnIn_5 : decode cX5_turnIn 5 = .ok (.iconst 0, 1) := dk_3 (dk_at dksX5_turnIn_0 5 rfl rfl)
theorem dX5_turnIn_6 : decode cX5_turnIn 6 = .ok (.istore_n 2, 1) := dk_61 (dk_at dksX5_turnIn_0 6 rfl rfl)
theorem dX5_turnIn_7 : decode cX5_turnIn 7 = .ok (.aload_n 0, 1) := dk_42 (dk_at dksX5_turnIn_0 7 rfl rfl)
theorem dX5_turnIn_8 : decode cX5_turnIn 8 = .ok (.getfield 51, 3) := dk_180 0 51 (dk_at dksX5_turnIn_0 8 rfl rfl)
theorem dX5_turnIn_11 : decode cX5_turnIn 11 = .ok (.iconst 0, 1) := dk_3 (dk_at dksX5_turnIn_0 11 rfl rfl)
theorem dX5_turnIn_12 : decode cX5_turnIn 12 = .ok (.iaload, 1) := dk_46 (dk_at dksX5_turnIn_0 12 rfl rfl)
theorem dX5_turnIn_13 : decode cX5_turnIn 13 = .ok (.iload_n 2, 1) := dk_28 (dk_at dksX5_turnIn_0 13 rfl rfl)
theorem dX5_turnIn_14 : decode cX5_turnIn 14 = .ok (.iadd, 1) := dk_96 (dk_at dksX5_turnIn_0 14 rfl rfl)
theorem dX5_turnIn_15 : decode cX5_turnIn 15 = .ok (.aload_n 0, 1) := dk_42 (dk_at dksX5_turnIn_0 15 rfl rfl)
theorem dX5_turnIn_16 : decode cX5_turnIn 16 = .ok (.getfield 51, 3) := dk_180 0 51 (dk_at dksX5_turnIn_0 16 rfl rfl)
theorem dX5_turnIn_19 : decode cX5_turnIn 19 = .ok (.iconst 1, 1) := dk_4 (dk_at dksX5_turnIn_0 19 rfl rfl)
theorem dX5_turnIn_20 : decode cX5_turnIn 20 = .ok (.iaload, 1) := dk_46 (dk_at dksX5_turnIn_0 20 rfl rfl)
theorem dX5_turnIn_21 : decode cX5_turnIn 21 = .ok (.irem, 1) := dk_112 (dk_at dksX5_turnIn_0 21 rfl rfl)
theorem dX5_turnIn_22 : decode cX5_turnIn 22 = .ok (.iload_n 1, 1) := dk_27 (dk_at dksX5_turnIn_0 22 rfl rfl)
theorem dX5_turnIn_23 : decode cX5_turnIn 23 = .ok (.ifCond .eq 14, 3) := dk_153 0 14 (dk_at dksX5_turnIn_1 0 rfl rfl)
theorem dX5_turnIn_26 : decode cX5_turnIn 26 = .ok (.aload_n 0, 1) := dk_42 (dk_at dksX5_turnIn_1 3 rfl rfl)
theorem dX5_turnIn_27 : decode cX5_turnIn 27 = .ok (.getfield 51, 3) := dk_180 0 51 (dk_at dksX5_turnIn_1 4 rfl rfl)
theorem dX5_turnIn_30 : decode cX5_turnIn 30 = .ok (.iconst 1, 1) := dk_4 (dk_at dksX5_turnIn_1 7 rfl rfl)
theorem dX5_turnIn_31 : decode cX5_turnIn 31 = .ok (.iaload, 1) := dk_46 (dk_at dksX5_turnIn_1 8 rfl rfl)
theorem dX5_turnIn_32 : decode cX5_turnIn 32 = .ok (.iconst 2, 1) := dk_5 (dk_at dksX5_turnIn_1 9 rfl rfl)
theorem dX5_turnIn_33 : decode cX5_turnIn 33 = .ok (.idiv, 1) := dk_108 (dk_at dksX5_turnIn_1 10 rfl rfl)
theorem dX5_turnIn_34 : decode cX5_turnIn 34 = .ok (.goto 4, 3) := dk_167 0 4 (dk_at dksX5_turnIn_1 11 rfl rfl)
theorem dX5_turnIn_37 : decode cX5_turnIn 37 = .ok (.iconst 0, 1) := dk_3 (dk_at dksX5_turnIn_1 14 rfl rfl)
theorem dX5_turnIn_38 : decode cX5_turnIn 38 = .ok (.if_icmp .eq 9, 3) := dk_159 0 9 (dk_at dksX5_turnIn_1 15 rfl rfl)
theorem dX5_turnIn_41 : decode cX5_turnIn 41 = .ok (.iinc 2 1, 3) := dk_132 2 1 (dk_at dksX5_turnIn_1 18 rfl rfl)
theorem dX5_turnIn_44 : decode cX5_turnIn 44 = .ok (.goto (-37), 3) := dk_167 255 219 (dk_at dksX5_turnIn_1 21 rfl rfl)
theorem dX5_turnIn_47 : decode cX5_turnIn 47 = .ok (.iload_n 2, 1) := dk_28 (dk_at dksX5_turnIn_2 0 rfl rfl)
theorem dX5_turnIn_48 : decode cX5_turnIn 48 = .ok (.ireturn, 1) := dk_172 (dk_at dksX5_turnIn_2 1 rfl rfl)
abbrev cX5_dryIn : ByteArray := prog_21_method_63_code
def yX5_dryIn : MethodName := ⟨RX5, "dryIn", "(I)I"⟩
def dkwX5_dryIn_0 : List UInt8 := [42, 42, 27, 182, 0, 190, 182, 0, 173, 153, 0, 7, 3, 167, 0, 8, 42, 27, 182, 0, 215, 172]
abbrev dktX5_dryIn_0 : List UInt8 := dkwX5_dryIn_0 ++ []
theorem dksX5_dryIn_0 : cX5_dryIn.data.toList.drop 0 = dktX5_dryIn_0 := by decide +kernel
theorem dX5_dryIn_0 : decode cX5_dryIn 0 = .ok (.aload_n 0, 1) := dk_42 (dk_at dksX5_dryIn_0 0 rfl rfl)
theorem dX5_dryIn_1 : decode cX5_dryIn 1 = .ok (.aload_n 0, 1) := dk_42 (dk_at dksX5_dryIn_0 1 rfl rfl)
theorem dX5_dryIn_2 : decode cX5_dryIn 2 = .ok (.iload_n 1, 1) := dk_27 (dk_at dksX5_dryIn_0 2 rfl rfl)
theorem dX5_dryIn_3 : decode cX5_dryIn 3 = .ok (.invokevirtual 190, 3) := dk_182 0 190 (dk_at dksX5_dryIn_0 3 rfl rfl)
theorem dX5_dryIn_6 : decode cX5_dryIn 6 = .ok (.invokevirtual 173, 3) := dk_182 0 173 (dk_at dksX5_dryIn_0 6 rfl rfl)
theorem dX5_dryIn_9 : decode cX5_dryIn 9 = .ok (.ifCond .eq 7, 3) := dk_153 0 7 (dk_at dksX5_dryIn_0 9 rfl rfl)
theorem dX5_dryIn_12 : decode cX5_dryIn 12 = .ok (.iconst 0, 1) := dk_3 (dk_at dksX5_dryIn_0 12 rfl rfl)
theorem dX5_dryIn_13 : decode cX5_dryIn 13 = .ok (.goto 8, 3) := dk_167 0 8 (dk_at dksX5_dryIn_0 13 rfl rfl)
theorem dX5_dryIn_16 : decode cX5_dryIn 16 = .ok (.aload_n 0, 1) := dk_42 (dk_at dksX5_dryIn_0 16 rfl rfl)
theorem dX5_dryIn_17 : decode cX5_dryIn 17 = .ok (.iload_n 1, 1) := dk_27 (dk_at dksX5_dryIn_0 17 rfl rfl)
theorem dX5_dryIn_18 : decode cX5_dryIn 18 = .ok (.invokevirtual 215, 3) := dk_182 0 215 (dk_at dksX5_dryIn_0 18 rfl rfl)
theorem dX5_dryIn_21 : decode cX5_dryIn 21 = .ok (.ireturn, 1) := dk_172 (dk_at dksX5_dryIn_0 21 rfl rfl)
abbrev cX5_ticksToDry : ByteArray := prog_21_method_19_code
def yX5_ticksToDry : MethodName := ⟨RX5, "ticksToDry", "(I)I"⟩
def dkwX5_ticksToDry_1 : List UInt8 := [28, 172]
abbrev dktX5_ticksToDry_1 : List UInt8 := dkwX5_ticksToDry_1 ++ []
def dkwX5_ticksToDry_0 : List UInt8 := [3, 61, 42, 27, 42, 180, 0, 51, 3, 46, 28, 96, 182, 0, 114, 154, 0, 9, 132, 2, 1, 167, 255, 237]
abbrev dktX5_ticksToDry_0 : List UInt8 := dkwX5_ticksToDry_0 ++ dktX5_ticksToDry_1
theorem dksX5_ticksToDry_0 : cX5_ticksToDry.data.toList.drop 0 = dktX5_ticksToDry_0 := by decide +kernel
theorem dksX5_ticksToDry_1 : cX5_ticksToDry.data.toList.drop 24 = dktX5_ticksToDry_1 := dk_seg dksX5_ticksToDry_0 24 rfl rfl
theorem dX5_ticksToDry_0 : decode cX5_ticksToDry 0 = .ok (.iconst 0, 1) := dk_3 (dk_at dksX5_ticksToDry_0 0 rfl rfl)
theorem dX5_ticksToDry_1 : decode cX5_ticksToDry 1 = .ok (.istore_n 2, 1) := dk_61 (dk_at dksX5_ticksToDry_0 1 rfl rfl)
theorem dX5_ticksToDry_2 : decode cX5_ticksToDry 2 = .ok (.aload_n 0, 1) := dk_42 (dk_at dksX5_ticksToDry_0 2 rfl rfl)
theorem dX5_ticksToDry_3 : decode cX5_ticksToDry 3 = .ok (.iload_n 1, 1) := dk_27 (dk_at dksX5_ticksToDry_0 3 rfl rfl)
theorem dX5_ticksToDry_4 : decode cX5_ticksToDry 4 = .ok (.aload_n 0, 1) := dk_42 (dk_at dksX5_ticksToDry_0 4 rfl rfl)
theorem dX5_ticksToDry_5 : decode cX5_ticksToDry 5 = .ok (.getfield 51, 3) := dk_180 0 51 (dk_at dksX5_ticksToDry_0 5 rfl rfl)
theorem dX5_ticksToDry_8 : decode cX5_ticksToDry 8 = .ok (.iconst 0, 1) := dk_3 (dk_at dksX5_ticksToDry_0 8 rfl rfl)
theorem dX5_ticksToDry_9 : decode cX5_ticksToDry 9 = .ok (.iaload, 1) := dk_46 (dk_at dksX5_ticksToDry_0 9 rfl rfl)
theorem dX5_ticksToDry_10 : decode cX5_ticksToDry 10 = .ok (.iload_n 2, 1) := dk_28 (dk_at dksX5_ticksToDry_0 10 rfl rfl)
theorem dX5_ticksToDry_11 : decode cX5_ticksToDry 11 = .ok (.iadd, 1) := dk_96 (dk_at dksX5_ticksToDry_0 11 rfl rfl)
theorem dX5_ticksToDry_12 : decode cX5_ticksToDry 12 = .ok (.invokevirtual 114, 3) := dk_182 0 114 (dk_at dksX5_ticksToDry_0 12 rfl rfl)
theorem dX5_ticksToDry_15 : decode cX5_ticksToDry 15 = .ok (.ifCond .ne 9, 3) := dk_154 0 9 (dk_at dksX5_ticksToDry_0 15 rfl rfl)
theorem dX5_ticksToDry_18 : decode cX5_ticksToDry 18 = .ok (.iinc 2 1, 3) := dk_132 2 1 (dk_at dksX5_ticksToDry_0 18 rfl rfl)
theorem dX5_ticksToDry_21 : decode cX5_ticksToDry 21 = .ok (.goto (-19), 3) := dk_167 255 237 (dk_at dksX5_ticksToDry_0 21 rfl rfl)
theorem dX5_ticksToDry_24 : decode cX5_ticksToDry 24 = .ok (.iload_n 2, 1) := dk_28 (dk_at dksX5_ticksToDry_1 0 rfl rfl)
theorem dX5_ticksToDry_25 : decode cX5_ticksToDry 25 = .ok (.ireturn, 1) := dk_172 (dk_at dksX5_ticksToDry_1 1 rfl rfl)
abbrev cX5_dryTicks : ByteArray := prog_21_method_64_code
def yX5_dryTicks : MethodName := ⟨RX5, "dryTicks", "(I)I"⟩
def dkwX5_dryTicks_0 : List UInt8 := [42, 42, 27, 182, 0, 190, 182, 0, 173, 153, 0, 7, 3, 167, 0, 8, 42, 27, 182, 0, 121, 172]
abbrev dktX5_dryTicks_0 : List UInt8 := dkwX5_dryTicks_0 ++ []
theorem dksX5_dryTicks_0 : cX5_dryTicks.data.toList.drop 0 = dktX5_dryTicks_0 := by decide +kernel
theorem dX5_dryTicks_0 : decode cX5_dryTicks 0 = .ok (.aload_n 0, 1) := dk_42 (dk_at dksX5_dryTicks_0 0 rfl rfl)
theorem dX5_dryTicks_1 : decode cX5_dryTicks 1 = .ok (.aload_n 0, 1) := dk_42 (dk_at dksX5_dryTicks_0 1 rfl rfl)
theorem dX5_dryTicks_2 : decode cX5_dryTicks 2 = .ok (.iload_n 1, 1) := dk_27 (dk_at dksX5_dryTicks_0 2 rfl rfl)
theorem dX5_dryTicks_3 : decode cX5_dryTicks 3 = .ok (.invokevirtual 190, 3) := dk_182 0 190 (dk_at dksX5_dryTicks_0 3 rfl rfl)
theorem dX5_dryTicks_6 : decode cX5_dryTicks 6 = .ok (.invokevirtual 173, 3) := dk_182 0 173 (dk_at dksX5_dryTicks_0 6 rfl rfl)
theorem dX5_dryTicks_9 : decode cX5_dryTicks 9 = .ok (.ifCond .eq 7, 3) := dk_153 0 7 (dk_at dksX5_dryTicks_0 9 rfl rfl)
theorem dX5_dryTicks_12 : decode cX5_dryTicks 12 = .ok (.iconst 0, 1) := dk_3 (dk_at dksX5_dryTicks_0 12 rfl rfl)
theorem dX5_dryTicks_13 : decode cX5_dryTicks 13 = .ok (.goto 8, 3) := dk_167 0 8 (dk_at dksX5_dryTicks_0 13 rfl rfl)
theorem dX5_dryTicks_16 : decode cX5_dryTicks 16 = .ok (.aload_n 0, 1) := dk_42 (dk_at dksX5_dryTicks_0 16 rfl rfl)
theorem dX5_dryTicks_17 : decode cX5_dryTicks 17 = .ok (.iload_n 1, 1) := dk_27 (dk_at dksX5_dryTicks_0 17 rfl rfl)
theorem dX5_dryTicks_18 : decode cX5_dryTicks 18 = .ok (.invokevirtual 121, 3) := dk_182 0 121 (dk_at dksX5_dryTicks_0 18 rfl rfl)
theorem dX5_dryTicks_21 : decode cX5_dryTicks 21 = .ok (.ireturn, 1) := dk_172 (dk_at dksX5_dryTicks_0 21 rfl rfl)
abbrev cX5_countDry : ByteArray := prog_21_method_20_code
def yX5_countDry : MethodName := ⟨RX5, "countDry", "(I)I"⟩
def dkwX5_countDry_1 : List UInt8 := [96, 182, 0, 114, 153, 0, 7, 4, 167, 0, 4, 3, 96, 61, 132, 3, 1, 167, 255, 219, 28, 172]
abbrev dktX5_countDry_1 : List UInt8 := dkwX5_countDry_1 ++ []
def dkwX5_countDry_0 : List UInt8 := [3, 61, 4, 62, 29, 42, 180, 0, 51, 4, 46, 163, 0, 33, 28, 42, 27, 42, 180, 0, 51, 3, 46, 29]
abbrev dktX5_countDry_0 : List UInt8 := dkwX5_countDry_0 ++ dktX5_countDry_1
theorem dksX5_countDry_0 : cX5_countDry.data.toList.drop 0 = dktX5_countDry_0 := by decide +kernel
theorem dksX5_countDry_1 : cX5_countDry.data.toList.drop 24 = dktX5_countDry_1 := dk_seg dksX5_countDry_0 24 rfl rfl
theorem dX5_countDry_0 : decode cX5_countDry 0 = .ok (.iconst 0, 1) := dk_3 (dk_at dksX5_countDry_0 0 rfl rfl)
theorem dX5_countDry_1 : decode cX5_countDry 1 = .ok (.istore_n 2, 1) := dk_61 (dk_at dksX5_countDry_0 1 rfl rfl)
theorem dX5_countDry_2 : decode cX5_countDry 2 = .ok (.iconst 1, 1) := dk_4 (dk_at dksX5_countDry_0 2 rfl rfl)
theorem dX5_countDry_3 : decode cX5_countDry 3 = .ok (.istore_n 3, 1) := dk_62 (dk_at dksX5_countDry_0 3 rfl rfl)
theorem dX5_countDry_4 : decode cX5_countDry 4 = .ok (.iload_n 3, 1) := dk_29 (dk_at dksX5_countDry_0 4 rfl rfl)
theorem dX5_countDry_5 : decode cX5_countDry 5 = .ok (.aload_n 0, 1) := dk_42 (dk_at dksX5_countDry_0 5 rfl rfl)
theorem dX5_countDry_6 : decode cX5_countDry 6 = .ok (.getfield 51, 3) := dk_180 0 51 (dk_at dksX5_countDry_0 6 rfl rfl)
theorem dX5_countDry_9 : decode cX5_countDry 9 = .ok (.iconst 1, 1) := dk_4 (dk_at dksX5_countDry_0 9 rfl rfl)
theorem dX5_countDry_10 : decode cX5_countDry 10 = .ok (.iaload, 1) := dk_46 (dk_at dksX5_countDry_0 10 rfl rfl)
theorem dX5_countDry_11 : decode cX5_countDry 11 = .ok (.if_icmp .gt 33, 3) := dk_163 0 33 (dk_at dksX5_countDry_0 11 rfl rfl)
theorem dX5_countDry_14 : decode cX5_countDry 14 = .ok (.iload_n 2, 1) := dk_28 (dk_at dksX5_countDry_0 14 rfl rfl)
theorem dX5_countDry_15 : decode cX5_countDry 15 = .ok (.aload_n 0, 1) := dk_42 (dk_at dksX5_countDry_0 15 rfl rfl)
theorem dX5_countDry_16 : decode cX5_countDry 16 = .ok (.iload_n 1, 1) := dk_27 (dk_at dksX5_countDry_0 16 rfl rfl)
theorem dX5_countDry_17 : decode cX5_countDry 17 = .ok (.aload_n 0, 1) := dk_42 (dk_at dksX5_countDry_0 17 rfl rfl)
theorem dX5_countDry_18 : decode cX5_countDry 18 = .ok (.getfield 51, 3) := dk_180 0 51 (dk_at dksX5_countDry_0 18 rfl rfl)
theorem dX5_countDry_21 : decode cX5_countDry 21 = .ok (.iconst 0, 1) := dk_3 (dk_at dksX5_countDry_0 21 rfl rfl)
theorem dX5_countDry_22 : decode cX5_countDry 22 = .ok (.iaload, 1) := dk_46 (dk_at dksX5_countDry_0 22 rfl rfl)
theorem dX5_countDry_23 : decode cX5_countDry 23 = .ok (.iload_n 3, 1) := dk_29 (dk_at dksX5_countDry_0 23 rfl rfl)
theorem dX5_countDry_24 : decode cX5_countDry 24 = .ok (.iadd, 1) := dk_96 (dk_at dksX5_countDry_1 0 rfl rfl)
theorem dX5_countDry_25 : decode cX5_countDry 25 = .ok (.invokevirtual 114, 3) := dk_182 0 114 (dk_at dksX5_countDry_1 1 rfl rfl)
theorem dX5_countDry_28 : decode cX5_countDry 28 = .ok (.ifCond .eq 7, 3) := dk_153 0 7 (dk_at dksX5_countDry_1 4 rfl rfl)
theorem dX5_countDry_31 : decode cX5_countDry 31 = .ok (.iconst 1, 1) := dk_4 (dk_at dksX5_countDry_1 7 rfl rfl)
theorem dX5_countDry_32 : decode cX5_countDry 32 = .ok (.goto 4, 3) := dk_167 0 4 (dk_at dksX5_countDry_1 8 rfl rfl)
theorem dX5_countDry_35 : decode cX5_countDry 35 = .ok (.iconst 0, 1) := dk_3 (dk_at dksX5_countDry_1 11 rfl rfl)
theorem dX5_countDry_36 : decode cX5_countDry 36 = .ok (.iadd, 1) := dk_96 (dk_at dksX5_countDry_1 12 rfl rfl)
theorem dX5_countDry_37 : decode cX5_countDry 37 = .ok (.istore_n 2, 1) := dk_61 (dk_at dksX5_countDry_1 13 rfl rfl)
theorem dX5_countDry_38 : decode cX5_countDry 38 = .ok (.iinc 3 1, 3) := dk_132 3 1 (dk_at dksX5_countDry_1 14 rfl rfl)
theorem dX5_countDry_41 : decode cX5_countDry 41 = .ok (.goto (-37), 3) := dk_167 255 219 (dk_at dksX5_countDry_1 17 rfl rfl)
theorem dX5_countDry_44 : decode cX5_countDry 44 = .ok (.iload_n 2, 1) := dk_28 (dk_at dksX5_countDry_1 20 rfl rfl)
theorem dX5_countDry_45 : decode cX5_countDry 45 = .ok (.ireturn, 1) := dk_172 (dk_at dksX5_countDry_1 21 rfl rfl)
abbrev cX5_lostIn : ByteArray := prog_21_method_65_code
def yX5_lostIn : MethodName := ⟨RX5, "lostIn", "(I)I"⟩
def dkwX5_lostIn_0 : List UInt8 := [42, 42, 27, 182, 0, 190, 182, 0, 173, 153, 0, 7, 3, 167, 0, 8, 42, 27, 182, 0, 218, 172]
abbrev dktX5_lostIn_0 : List UInt8 := dkwX5_lostIn_0 ++ []
theorem dksX5_lostIn_0 : cX5_lostIn.data.toList.drop 0 = dktX5_lostIn_0 := by decide +kernel
theorem dX5_lostIn_0 : decode cX5_lostIn 0 = .ok (.aload_n 0, 1) := dk_42 (dk_at dksX5_lostIn_0 0 rfl rfl)
theorem dX5_lostIn_1 : decode cX5_lostIn 1 = .ok (.aload_n 0, 1) := dk_42 (dk_at dksX5_lostIn_0 1 rfl rfl)
theorem dX5_lostIn_2 : decode cX5_lostIn 2 = .ok (.iload_n 1, 1) := dk_27 (dk_at dksX5_lostIn_0 2 rfl rfl)
theorem dX5_lostIn_3 : decode cX5_lostIn 3 = .ok (.invokevirtual 190, 3) := dk_182 0 190 (dk_at dksX5_lostIn_0 3 rfl rfl)
theorem dX5_lostIn_6 : decode cX5_lostIn 6 = .ok (.invokevirtual 173, 3) := dk_182 0 173 (dk_at dksX5_lostIn_0 6 rfl rfl)
theorem dX5_lostIn_9 : decode cX5_lostIn 9 = .ok (.ifCond .eq 7, 3) := dk_153 0 7 (dk_at dksX5_lostIn_0 9 rfl rfl)
theorem dX5_lostIn_12 : decode cX5_lostIn 12 = .ok (.iconst 0, 1) := dk_3 (dk_at dksX5_lostIn_0 12 rfl rfl)
theorem dX5_lostIn_13 : decode cX5_lostIn 13 = .ok (.goto 8, 3) := dk_167 0 8 (dk_at dksX5_lostIn_0 13 rfl rfl)
theorem dX5_lostIn_16 : decode cX5_lostIn 16 = .ok (.aload_n 0, 1) := dk_42 (dk_at dksX5_lostIn_0 16 rfl rfl)
theorem dX5_lostIn_17 : decode cX5_lostIn 17 = .ok (.iload_n 1, 1) := dk_27 (dk_at dksX5_lostIn_0 17 rfl rfl)
theorem dX5_lostIn_18 : decode cX5_lostIn 18 = .ok (.invokevirtual 218, 3) := dk_182 0 218 (dk_at dksX5_lostIn_0 18 rfl rfl)
theorem dX5_lostIn_21 : decode cX5_lostIn 21 = .ok (.ireturn, 1) := dk_172 (dk_at dksX5_lostIn_0 21 rfl rfl)
abbrev cX5_ticksToLoss : ByteArray := prog_21_method_21_code
def yX5_ticksToLoss : MethodName := ⟨RX5, "ticksToLoss", "(I)I"⟩
def dkwX5_ticksToLoss_3 : List UInt8 := [4, 100, 62, 167, 255, 225, 28, 172]
abbrev dktX5_ticksToLoss_3 : List UInt8 := dkwX5_ticksToLoss_3 ++ []
def dkwX5_ticksToLoss_2 : List UInt8 := [132, 2, 1, 29, 42, 27, 42, 180, 0, 51, 3, 46, 28, 96, 182, 0, 114, 153, 0, 7, 3, 167, 0, 4]
abbrev dktX5_ticksToLoss_2 : List UInt8 := dkwX5_ticksToLoss_2 ++ dktX5_ticksToLoss_3
def dkwX5_ticksToLoss_1 : List UInt8 := [172, 3, 61, 42, 180, 0, 51, 5, 46, 42, 27, 16, 6, 182, 0, 106, 100, 62, 29, 158, 0, 33]
abbrev dktX5_ticksToLoss_1 : List UInt8 := dkwX5_ticksToLoss_1 ++ dktX5_ticksToLoss_2
def dkwX5_ticksToLoss_0 : List UInt8 := [42, 27, 3, 182, 0, 118, 153, 0, 17, 42, 27, 182, 0, 121, 42, 180, 0, 51, 4, 46, 160, 0, 5, 2]
abbrev dktX5_ticksToLoss_0 : List UInt8 := dkwX5_ticksToLoss_0 ++ dktX5_ticksToLoss_1
theorem dksX5_ticksToLoss_0 : cX5_ticksToLoss.data.toList.drop 0 = dktX5_ticksToLoss_0 := by decide +kernel
theorem dksX5_ticksToLoss_1 : cX5_ticksToLoss.data.toList.drop 24 = dktX5_ticksToLoss_1 := dk_seg dksX5_ticksToLoss_0 24 rfl rfl
theorem dksX5_ticksToLoss_2 : cX5_ticksToLoss.data.toList.drop 46 = dktX5_ticksToLoss_2 := dk_seg dksX5_ticksToLoss_1 22 rfl rfl
theorem dksX5_ticksToLoss_3 : cX5_ticksToLoss.data.toList.drop 70 = dktX5_ticksToLoss_3 := dk_seg dksX5_ticksToLoss_2 24 rfl rfl
theorem dX5_ticksToLoss_0 : decode cX5_ticksToLoss 0 = .ok (.aload_n 0, 1) := dk_42 (dk_at dksX5_ticksToLoss_0 0 rfl rfl)
theorem dX5_ticksToLoss_1 : decode cX5_ticksToLoss 1 = .ok (.iload_n 1, 1) := dk_27 (dk_at dksX5_ticksToLoss_0 1 rfl rfl)
theorem dX5_ticksToLoss_2 : decode cX5_ticksToLoss 2 = .ok (.iconst 0, 1) := dk_3 (dk_at dksX5_ticksToLoss_0 2 rfl rfl)
theorem dX5_ticksToLoss_3 : decode cX5_ticksToLoss 3 = .ok (.invokevirtual 118, 3) := dk_182 0 118 (dk_at dksX5_ticksToLoss_0 3 rfl rfl)
theorem dX5_ticksToLoss_6 : decode cX5_ticksToLoss 6 = .ok (.ifCond .eq 17, 3) := dk_153 0 17 (dk_at dksX5_ticksToLoss_0 6 rfl rfl)
theorem dX5_ticksToLoss_9 : decode cX5_ticksToLoss 9 = .ok (.aload_n 0, 1) := dk_42 (dk_at dksX5_ticksToLoss_0 9 rfl rfl)
theorem dX5_ticksToLoss_10 : decode cX5_ticksToLoss 10 = .ok (.iload_n 1, 1) := dk_27 (dk_at dksX5_ticksToLoss_0 10 rfl rfl)
theorem dX5_ticksToLoss_11 : decode cX5_ticksToLoss 11 = .ok (.invokevirtual 121, 3) := dk_182 0 121 (dk_at dksX5_ticksToLoss_0 11 rfl rfl)
theorem dX5_ticksToLoss_14 : decode cX5_ticksToLoss 14 = .ok (.aload_n 0, 1) := dk_42 (dk_at dksX5_ticksToLoss_0 14 rfl rfl)
theorem dX5_ticksToLoss_15 : decode cX5_ticksToLoss 15 = .ok (.getfield 51, 3) := dk_180 0 51 (dk_at dksX5_ticksToLoss_0 15 rfl rfl)
theorem dX5_ticksToLoss_18 : decode cX5_ticksToLoss 18 = .ok (.iconst 1, 1) := dk_4 (dk_at dksX5_ticksToLoss_0 18 rfl rfl)
theorem dX5_ticksToLoss_19 : decode cX5_ticksToLoss 19 = .ok (.iaload, 1) := dk_46 (dk_at dksX5_ticksToLoss_0 19 rfl rfl)
theorem dX5_ticksToLoss_20 : decode cX5_ticksToLoss 20 = .ok (.if_icmp .ne 5, 3) := dk_160 0 5 (dk_at dksX5_ticksToLoss_0 20 rfl rfl)
theorem dX5_ticksToLoss_23 : decode cX5_ticksToLoss 23 = .ok (.iconst (-1), 1) := dk_2 (dk_at dksX5_ticksToLoss_0 23 rfl rfl)
theorem dX5_ticksToLoss_24 : decode cX5_ticksToLoss 24 = .ok (.ireturn, 1) := dk_172 (dk_at dksX5_ticksToLoss_1 0 rfl rfl)
theorem dX5_ticksToLoss_25 : decode cX5_ticksToLoss 25 = .ok (.iconst 0, 1) := dk_3 (dk_at dksX5_ticksToLoss_1 1 rfl rfl)
theorem dX5_ticksToLoss_26 : decode cX5_ticksToLoss 26 = .ok (.istore_n 2, 1) := dk_61 (dk_at dksX5_ticksToLoss_1 2 rfl rfl)
theorem dX5_ticksToLoss_27 : decode cX5_ticksToLoss 27 = .ok (.aload_n 0, 1) := dk_42 (dk_at dksX5_ticksToLoss_1 3 rfl rfl)
theorem dX5_ticksToLoss_28 : decode cX5_ticksToLoss 28 = .ok (.getfield 51, 3) := dk_180 0 51 (dk_at dksX5_ticksToLoss_1 4 rfl rfl)
theorem dX5_ticksToLoss_31 : decode cX5_ticksToLoss 31 = .ok (.iconst 2, 1) := dk_5 (dk_at dksX5_ticksToLoss_1 7 rfl rfl)
theorem dX5_ticksToLoss_32 : decode cX5_ticksToLoss 32 = .ok (.iaload, 1) := dk_46 (dk_at dksX5_ticksToLoss_1 8 rfl rfl)
theorem dX5_ticksToLoss_33 : decode cX5_ticksToLoss 33 = .ok (.aload_n 0, 1) := dk_42 (dk_at dksX5_ticksToLoss_1 9 rfl rfl)
theorem dX5_ticksToLoss_34 : decode cX5_ticksToLoss 34 = .ok (.iload_n 1, 1) := dk_27 (dk_at dksX5_ticksToLoss_1 10 rfl rfl)
theorem dX5_ticksToLoss_35 : decode cX5_ticksToLoss 35 = .ok (.bipush 6, 2) := dk_16 6 (dk_at dksX5_ticksToLoss_1 11 rfl rfl)
theorem dX5_ticksToLoss_37 : decode cX5_ticksToLoss 37 = .ok (.invokevirtual 106, 3) := dk_182 0 106 (dk_at dksX5_ticksToLoss_1 13 rfl rfl)
theorem dX5_ticksToLoss_40 : decode cX5_ticksToLoss 40 = .ok (.isub, 1) := dk_100 (dk_at dksX5_ticksToLoss_1 16 rfl rfl)
theorem dX5_ticksToLoss_41 : decode cX5_ticksToLoss 41 = .ok (.istore_n 3, 1) := dk_62 (dk_at dksX5_ticksToLoss_1 17 rfl rfl)
theorem dX5_ticksToLoss_42 : decode cX5_ticksToLoss 42 = .ok (.iload_n 3, 1) := dk_29 (dk_at dksX5_ticksToLoss_1 18 rfl rfl)
theorem dX5_ticksToLoss_43 : decode cX5_ticksToLoss 43 = .ok (.ifCond .le 33, 3) := dk_158 0 33 (dk_at dksX5_ticksToLoss_1 19 rfl rfl)
theorem dX5_ticksToLoss_46 : decode cX5_ticksToLoss 46 = .ok (.iinc 2 1, 3) := dk_132 2 1 (dk_at dksX5_ticksToLoss_2 0 rfl rfl)
theorem dX5_ticksToLoss_49 : decode cX5_ticksToLoss 49 = .ok (.iload_n 3, 1) := dk_29 (dk_at dksX5_ticksToLoss_2 3 rfl rfl)
theorem dX5_ticksToLoss_50 : decode cX5_ticksToLoss 50 = .ok (.aload_n 0, 1) := dk_42 (dk_at dksX5_ticksToLoss_2 4 rfl rfl)
theorem dX5_ticksToLoss_51 : decode cX5_ticksToLoss 51 = .ok (.iload_n 1, 1) := dk_27 (dk_at dksX5_ticksToLoss_2 5 rfl rfl)
theorem dX5_ticksToLoss_52 : decode cX5_ticksToLoss 52 = .ok (.aload_n 0, 1) := dk_42 (dk_at dksX5_ticksToLoss_2 6 rfl rfl)
theorem dX5_ticksToLoss_53 : decode cX5_ticksToLoss 53 = .ok (.getfield 51, 3) := dk_180 0 51 (dk_at dksX5_ticksToLoss_2 7 rfl rfl)
theorem dX5_ticksToLoss_56 : decode cX5_ticksToLoss 56 = .ok (.iconst 0, 1) := dk_3 (dk_at dksX5_ticksToLoss_2 10 rfl rfl)
theorem dX5_ticksToLoss_57 : decode cX5_ticksToLoss 57 = .ok (.iaload, 1) := dk_46 (dk_at dksX5_ticksToLoss_2 11 rfl rfl)
theorem dX5_ticksToLoss_58 : decode cX5_ticksToLoss 58 = .ok (.iload_n 2, 1) := dk_28 (dk_at dksX5_ticksToLoss_2 12 rfl rfl)
theorem dX5_ticksToLoss_59 : decode cX5_ticksToLoss 59 = .ok (.iadd, 1) := dk_96 (dk_at dksX5_ticksToLoss_2 13 rfl rfl)
theorem dX5_ticksToLoss_60 : decode cX5_ticksToLoss 60 = .ok (.invokevirtual 114, 3) := dk_182 0 114 (dk_at dksX5_ticksToLoss_2 14 rfl rfl)
theorem dX5_ticksToLoss_63 : decode cX5_ticksToLoss 63 = .ok (.ifCond .eq 7, 3) := dk_153 0 7 (dk_at dksX5_ticksToLoss_2 17 rfl rfl)
theorem dX5_ticksToLoss_66 : decode cX5_ticksToLoss 66 = .ok (.iconst 0, 1) := dk_3 (dk_at dksX5_ticksToLoss_2 20 rfl rfl)
theorem dX5_ticksToLoss_67 : decode cX5_ticksToLoss 67 = .ok (.goto 4, 3) := dk_167 0 4 (dk_at dksX5_ticksToLoss_2 21 rfl rfl)
theorem dX5_ticksToLoss_70 : decode cX5_ticksToLoss 70 = .ok (.iconst 1, 1) := dk_4 (dk_at dksX5_ticksToLoss_3 0 rfl rfl)
theorem dX5_ticksToLoss_71 : decode cX5_ticksToLoss 71 = .ok (.isub, 1) := dk_100 (dk_at dksX5_ticksToLoss_3 1 rfl rfl)
theorem dX5_ticksToLoss_72 : decode cX5_ticksToLoss 72 = .ok (.istore_n 3, 1) := dk_62 (dk_at dksX5_ticksToLoss_3 2 rfl rfl)
theorem dX5_ticksToLoss_73 : decode cX5_ticksToLoss 73 = .ok (.goto (-31), 3) := dk_167 255 225 (dk_at dksX5_ticksToLoss_3 3 rfl rfl)
theorem dX5_ticksToLoss_76 : decode cX5_ticksToLoss 76 = .ok (.iload_n 2, 1) := dk_28 (dk_at dksX5_ticksToLoss_3 6 rfl rfl)
theorem dX5_ticksToLoss_77 : decode cX5_ticksToLoss 77 = .ok (.ireturn, 1) := dk_172 (dk_at dksX5_ticksToLoss_3 7 rfl rfl)
abbrev cX5_nextLost : ByteArray := prog_21_method_66_code
def yX5_nextLost : MethodName := ⟨RX5, "nextLost", "()I"⟩
def dkwX5_nextLost_2 : List UInt8 := [21, 4, 61, 132, 3, 1, 167, 255, 214, 27, 172]
abbrev dktX5_nextLost_2 : List UInt8 := dkwX5_nextLost_2 ++ []
def dkwX5_nextLost_1 : List UInt8 := [182, 0, 218, 54, 4, 21, 4, 2, 159, 0, 19, 27, 2, 159, 0, 9, 21, 4, 28, 162, 0, 8, 29, 60]
abbrev dktX5_nextLost_1 : List UInt8 := dkwX5_nextLost_1 ++ dktX5_nextLost_2
def dkwX5_nextLost_0 : List UInt8 := [42, 3, 181, 0, 92, 2, 60, 3, 61, 3, 62, 29, 42, 180, 0, 51, 8, 46, 162, 0, 38, 42, 29]
abbrev dktX5_nextLost_0 : List UInt8 := dkwX5_nextLost_0 ++ dktX5_nextLost_1
theorem dksX5_nextLost_0 : cX5_nextLost.data.toList.drop 0 = dktX5_nextLost_0 := by decide +kernel
theorem dksX5_nextLost_1 : cX5_nextLost.data.toList.drop 23 = dktX5_nextLost_1 := dk_seg dksX5_nextLost_0 23 rfl rfl
theorem dksX5_nextLost_2 : cX5_nextLost.data.toList.drop 47 = dktX5_nextLost_2 := dk_seg dksX5_nextLost_1 24 rfl rfl
theorem dX5_nextLost_0 : decode cX5_nextLost 0 = .ok (.aload_n 0, 1) := dk_42 (dk_at dksX5_nextLost_0 0 rfl rfl)
theorem dX5_nextLost_1 : decode cX5_nextLost 1 = .ok (.iconst 0, 1) := dk_3 (dk_at dksX5_nextLost_0 1 rfl rfl)
theorem dX5_nextLost_2 : decode cX5_nextLost 2 = .ok (.putfield 92, 3) := dk_181 0 92 (dk_at dksX5_nextLost_0 2 rfl rfl)
theorem dX5_nextLost_5 : decode cX5_nextLost 5 = .ok (.iconst (-1), 1) := dk_2 (dk_at dksX5_nextLost_0 5 rfl rfl)
theorem dX5_nextLost_6 : decode cX5_nextLost 6 = .ok (.istore_n 1, 1) := dk_60 (dk_at dksX5_nextLost_0 6 rfl rfl)
theorem dX5_nextLost_7 : decode cX5_nextLost 7 = .ok (.iconst 0, 1) := dk_3 (dk_at dksX5_nextLost_0 7 rfl rfl)
theorem dX5_nextLost_8 : decode cX5_nextLost 8 = .ok (.istore_n 2, 1) := dk_61 (dk_at dksX5_nextLost_0 8 rfl rfl)
theorem dX5_nextLost_9 : decode cX5_nextLost 9 = .ok (.iconst 0, 1) := dk_3 (dk_at dksX5_nextLost_0 9 rfl rfl)
theorem dX5_nextLost_10 : decode cX5_nextLost 10 = .ok (.istore_n 3, 1) := dk_62 (dk_at dksX5_nextLost_0 10 rfl rfl)
theorem dX5_nextLost_11 : decode cX5_nextLost 11 = .ok (.iload_n 3, 1) := dk_29 (dk_at dksX5_nextLost_0 11 rfl rfl)
theorem dX5_nextLost_12 : decode cX5_nextLost 12 = .ok (.aload_n 0, 1) := dk_42 (dk_at dksX5_nextLost_0 12 rfl rfl)
theorem dX5_nextLost_13 : decode cX5_nextLost 13 = .ok (.getfield 51, 3) := dk_180 0 51 (dk_at dksX5_nextLost_0 13 rfl rfl)
theorem dX5_nextLost_16 : decode cX5_nextLost 16 = .ok (.iconst 5, 1) := dk_8 (dk_at dksX5_nextLost_0 16 rfl rfl)
theorem dX5_nextLost_17 : decode cX5_nextLost 17 = .ok (.iaload, 1) := dk_46 (dk_at dksX5_nextLost_0 17 rfl rfl)
theorem dX5_nextLost_18 : decode cX5_nextLost 18 = .ok (.if_icmp .ge 38, 3) := dk_162 0 38 (dk_at dksX5_nextLost_0 18 rfl rfl)
theorem dX5_nextLost_21 : decode cX5_nextLost 21 = .ok (.aload_n 0, 1) := dk_42 (dk_at dksX5_nextLost_0 21 rfl rfl)
theorem dX5_nextLost_22 : decode cX5_nextLost 22 = .ok (.iload_n 3, 1) := dk_29 (dk_at dksX5_nextLost_0 22 rfl rfl)
theorem dX5_nextLost_23 : decode cX5_nextLost 23 = .ok (.invokevirtual 218, 3) := dk_182 0 218 (dk_at dksX5_nextLost_1 0 rfl rfl)
theorem dX5_nextLost_26 : decode cX5_nextLost 26 = .ok (.istore 4, 2) := dk_54 4 (dk_at dksX5_nextLost_1 3 rfl rfl)
theorem dX5_nextLost_28 : decode cX5_nextLost 28 = .ok (.iload 4, 2) := dk_21 4 (dk_at dksX5_nextLost_1 5 rfl rfl)
theorem dX5_nextLost_30 : decode cX5_nextLost 30 = .ok (.iconst (-1), 1) := dk_2 (dk_at dksX5_nextLost_1 7 rfl rfl)
theorem dX5_nextLost_31 : decode cX5_nextLost 31 = .ok (.if_icmp .eq 19, 3) := dk_159 0 19 (dk_at dksX5_nextLost_1 8 rfl rfl)
theorem dX5_nextLost_34 : decode cX5_nextLost 34 = .ok (.iload_n 1, 1) := dk_27 (dk_at dksX5_nextLost_1 11 rfl rfl)
theorem dX5_nextLost_35 : decode cX5_nextLost 35 = .ok (.iconst (-1), 1) := dk_2 (dk_at dksX5_nextLost_1 12 rfl rfl)
theorem dX5_nextLost_36 : decode cX5_nextLost 36 = .ok (.if_icmp .eq 9, 3) := dk_159 0 9 (dk_at dksX5_nextLost_1 13 rfl rfl)
theorem dX5_nextLost_39 : decode cX5_nextLost 39 = .ok (.iload 4, 2) := dk_21 4 (dk_at dksX5_nextLost_1 16 rfl rfl)
theorem dX5_nextLost_41 : decode cX5_nextLost 41 = .ok (.iload_n 2, 1) := dk_28 (dk_at dksX5_nextLost_1 18 rfl rfl)
theorem dX5_nextLost_42 : decode cX5_nextLost 42 = .ok (.if_icmp .ge 8, 3) := dk_162 0 8 (dk_at dksX5_nextLost_1 19 rfl rfl)
theorem dX5_nextLost_45 : decode cX5_nextLost 45 = .ok (.iload_n 3, 1) := dk_29 (dk_at dksX5_nextLost_1 22 rfl rfl)
theorem dX5_nextLost_46 : decode cX5_nextLost 46 = .ok (.istore_n 1, 1) := dk_60 (dk_at dksX5_nextLost_1 23 rfl rfl)
theorem dX5_nextLost_47 : decode cX5_nextLost 47 = .ok (.iload 4, 2) := dk_21 4 (dk_at dksX5_nextLost_2 0 rfl rfl)
theorem dX5_nextLost_49 : decode cX5_nextLost 49 = .ok (.istore_n 2, 1) := dk_61 (dk_at dksX5_nextLost_2 2 rfl rfl)
theorem dX5_nextLost_50 : decode cX5_nextLost 50 = .ok (.iinc 3 1, 3) := dk_132 3 1 (dk_at dksX5_nextLost_2 3 rfl rfl)
theorem dX5_nextLost_53 : decode cX5_nextLost 53 = .ok (.goto (-42), 3) := dk_167 255 214 (dk_at dksX5_nextLost_2 6 rfl rfl)
theorem dX5_nextLost_56 : decode cX5_nextLost 56 = .ok (.iload_n 1, 1) := dk_27 (dk_at dksX5_nextLost_2 9 rfl rfl)
theorem dX5_nextLost_57 : decode cX5_nextLost 57 = .ok (.ireturn, 1) := dk_172 (dk_at dksX5_nextLost_2 10 rfl rfl)
abbrev cX5_lossIn : ByteArray := prog_21_method_67_code
def yX5_lossIn : MethodName := ⟨RX5, "lossIn", "(I)I"⟩
def dkwX5_lossIn_2 : List UInt8 := [27, 163, 0, 12, 42, 29, 4, 182, 0, 106, 167, 0, 4, 3, 96, 61, 132, 3, 1, 167, 255, 211, 28, 172]
abbrev dktX5_lossIn_2 : List UInt8 := dkwX5_lossIn_2 ++ []
def dkwX5_lossIn_1 : List UInt8 := [180, 0, 51, 8, 46, 162, 0, 41, 42, 29, 182, 0, 218, 54, 4, 28, 21, 4, 2, 159, 0, 18, 21, 4]
abbrev dktX5_lossIn_1 : List UInt8 := dkwX5_lossIn_1 ++ dktX5_lossIn_2
def dkwX5_lossIn_0 : List UInt8 := [42, 27, 3, 17, 3, 232, 184, 0, 102, 182, 0, 173, 153, 0, 5, 3, 172, 3, 61, 3, 62, 29, 42]
abbrev dktX5_lossIn_0 : List UInt8 := dkwX5_lossIn_0 ++ dktX5_lossIn_1
theorem dksX5_lossIn_0 : cX5_lossIn.data.toList.drop 0 = dktX5_lossIn_0 := by decide +kernel
theorem dksX5_lossIn_1 : cX5_lossIn.data.toList.drop 23 = dktX5_lossIn_1 := dk_seg dksX5_lossIn_0 23 rfl rfl
theorem dksX5_lossIn_2 : cX5_lossIn.data.toList.drop 47 = dktX5_lossIn_2 := dk_seg dksX5_lossIn_1 24 rfl rfl
theorem dX5_lossIn_0 : decode cX5_lossIn 0 = .ok (.aload_n 0, 1) := dk_42 (dk_at dksX5_lossIn_0 0 rfl rfl)
theorem dX5_lossIn_1 : decode cX5_lossIn 1 = .ok (.iload_n 1, 1) := dk_27 (dk_at dksX5_lossIn_0 1 rfl rfl)
theorem dX5_lossIn_2 : decode cX5_lossIn 2 = .ok (.iconst 0, 1) := dk_3 (dk_at dksX5_lossIn_0 2 rfl rfl)
theorem dX5_lossIn_3 : decode cX5_lossIn 3 = .ok (.sipush 1000, 3) := dk_17 3 232 (dk_at dksX5_lossIn_0 3 rfl rfl)
theorem dX5_lossIn_6 : decode cX5_lossIn 6 = .ok (.invokestatic 102, 3) := dk_184 0 102 (dk_at dksX5_lossIn_0 6 rfl rfl)
theorem dX5_lossIn_9 : decode cX5_lossIn 9 = .ok (.invokevirtual 173, 3) := dk_182 0 173 (dk_at dksX5_lossIn_0 9 rfl rfl)
theorem dX5_lossIn_12 : decode cX5_lossIn 12 = .ok (.ifCond .eq 5, 3) := dk_153 0 5 (dk_at dksX5_lossIn_0 12 rfl rfl)
theorem dX5_lossIn_15 : decode cX5_lossIn 15 = .ok (.iconst 0, 1) := dk_3 (dk_at dksX5_lossIn_0 15 rfl rfl)
theorem dX5_lossIn_16 : decode cX5_lossIn 16 = .ok (.ireturn, 1) := dk_172 (dk_at dksX5_lossIn_0 16 rfl rfl)
theorem dX5_lossIn_17 : decode cX5_lossIn 17 = .ok (.iconst 0, 1) := dk_3 (dk_at dksX5_lossIn_0 17 rfl rfl)
theorem dX5_lossIn_18 : decode cX5_lossIn 18 = .ok (.istore_n 2, 1) := dk_61 (dk_at dksX5_lossIn_0 18 rfl rfl)
theorem dX5_lossIn_19 : decode cX5_lossIn 19 = .ok (.iconst 0, 1) := dk_3 (dk_at dksX5_lossIn_0 19 rfl rfl)
theorem dX5_lossIn_20 : decode cX5_lossIn 20 = .ok (.istore_n 3, 1) := dk_62 (dk_at dksX5_lossIn_0 20 rfl rfl)
theorem dX5_lossIn_21 : decode cX5_lossIn 21 = .ok (.iload_n 3, 1) := dk_29 (dk_at dksX5_lossIn_0 21 rfl rfl)
theorem dX5_lossIn_22 : decode cX5_lossIn 22 = .ok (.aload_n 0, 1) := dk_42 (dk_at dksX5_lossIn_0 22 rfl rfl)
theorem dX5_lossIn_23 : decode cX5_lossIn 23 = .ok (.getfield 51, 3) := dk_180 0 51 (dk_at dksX5_lossIn_1 0 rfl rfl)
theorem dX5_lossIn_26 : decode cX5_lossIn 26 = .ok (.iconst 5, 1) := dk_8 (dk_at dksX5_lossIn_1 3 rfl rfl)
theorem dX5_lossIn_27 : decode cX5_lossIn 27 = .ok (.iaload, 1) := dk_46 (dk_at dksX5_lossIn_1 4 rfl rfl)
theorem dX5_lossIn_28 : decode cX5_lossIn 28 = .ok (.if_icmp .ge 41, 3) := dk_162 0 41 (dk_at dksX5_lossIn_1 5 rfl rfl)
theorem dX5_lossIn_31 : decode cX5_lossIn 31 = .ok (.aload_n 0, 1) := dk_42 (dk_at dksX5_lossIn_1 8 rfl rfl)
theorem dX5_lossIn_32 : decode cX5_lossIn 32 = .ok (.iload_n 3, 1) := dk_29 (dk_at dksX5_lossIn_1 9 rfl rfl)
theorem dX5_lossIn_33 : decode cX5_lossIn 33 = .ok (.invokevirtual 218, 3) := dk_182 0 218 (dk_at dksX5_lossIn_1 10 rfl rfl)
theorem dX5_lossIn_36 : decode cX5_lossIn 36 = .ok (.istore 4, 2) := dk_54 4 (dk_at dksX5_lossIn_1 13 rfl rfl)
theorem dX5_lossIn_38 : decode cX5_lossIn 38 = .ok (.iload_n 2, 1) := dk_28 (dk_at dksX5_lossIn_1 15 rfl rfl)
theorem dX5_lossIn_39 : decode cX5_lossIn 39 = .ok (.iload 4, 2) := dk_21 4 (dk_at dksX5_lossIn_1 16 rfl rfl)
theorem dX5_lossIn_41 : decode cX5_lossIn 41 = .ok (.iconst (-1), 1) := dk_2 (dk_at dksX5_lossIn_1 18 rfl rfl)
theorem dX5_lossIn_42 : decode cX5_lossIn 42 = .ok (.if_icmp .eq 18, 3) := dk_159 0 18 (dk_at dksX5_lossIn_1 19 rfl rfl)
theorem dX5_lossIn_45 : decode cX5_lossIn 45 = .ok (.iload 4, 2) := dk_21 4 (dk_at dksX5_lossIn_1 22 rfl rfl)
theorem dX5_lossIn_47 : decode cX5_lossIn 47 = .ok (.iload_n 1, 1) := dk_27 (dk_at dksX5_lossIn_2 0 rfl rfl)
theorem dX5_lossIn_48 : decode cX5_lossIn 48 = .ok (.if_icmp .gt 12, 3) := dk_163 0 12 (dk_at dksX5_lossIn_2 1 rfl rfl)
theorem dX5_lossIn_51 : decode cX5_lossIn 51 = .ok (.aload_n 0, 1) := dk_42 (dk_at dksX5_lossIn_2 4 rfl rfl)
theorem dX5_lossIn_52 : decode cX5_lossIn 52 = .ok (.iload_n 3, 1) := dk_29 (dk_at dksX5_lossIn_2 5 rfl rfl)
theorem dX5_lossIn_53 : decode cX5_lossIn 53 = .ok (.iconst 1, 1) := dk_4 (dk_at dksX5_lossIn_2 6 rfl rfl)
theorem dX5_lossIn_54 : decode cX5_lossIn 54 = .ok (.invokevirtual 106, 3) := dk_182 0 106 (dk_at dksX5_lossIn_2 7 rfl rfl)
theorem dX5_lossIn_57 : decode cX5_lossIn 57 = .ok (.goto 4, 3) := dk_167 0 4 (dk_at dksX5_lossIn_2 10 rfl rfl)
theorem dX5_lossIn_60 : decode cX5_lossIn 60 = .ok (.iconst 0, 1) := dk_3 (dk_at dksX5_lossIn_2 13 rfl rfl)
theorem dX5_lossIn_61 : decode cX5_lossIn 61 = .ok (.iadd, 1) := dk_96 (dk_at dksX5_lossIn_2 14 rfl rfl)
theorem dX5_lossIn_62 : decode cX5_lossIn 62 = .ok (.istore_n 2, 1) := dk_61 (dk_at dksX5_lossIn_2 15 rfl rfl)
theorem dX5_lossIn_63 : decode cX5_lossIn 63 = .ok (.iinc 3 1, 3) := dk_132 3 1 (dk_at dksX5_lossIn_2 16 rfl rfl)
theorem dX5_lossIn_66 : decode cX5_lossIn 66 = .ok (.goto (-45), 3) := dk_167 255 211 (dk_at dksX5_lossIn_2 19 rfl rfl)
theorem dX5_lossIn_69 : decode cX5_lossIn 69 = .ok (.iload_n 2, 1) := dk_28 (dk_at dksX5_lossIn_2 22 rfl rfl)
theorem dX5_lossIn_70 : decode cX5_lossIn 70 = .ok (.ireturn, 1) := dk_172 (dk_at dksX5_lossIn_2 23 rfl rfl)
abbrev cX5_share : ByteArray := prog_21_method_68_code
def yX5_share : MethodName := ⟨RX5, "share", "(II)I"⟩
def dkwX5_share_1 : List UInt8 := [182, 0, 173, 153, 0, 7, 3, 167, 0, 9, 42, 27, 28, 182, 0, 208, 172]
abbrev dktX5_share_1 : List UInt8 := dkwX5_share_1 ++ []
def dkwX5_share_0 : List UInt8 := [42, 42, 27, 182, 0, 190, 153, 0, 15, 42, 28, 182, 0, 196, 153, 0, 7, 4, 167, 0, 4, 3]
abbrev dktX5_share_0 : List UInt8 := dkwX5_share_0 ++ dktX5_share_1
theorem dksX5_share_0 : cX5_share.data.toList.drop 0 = dktX5_share_0 := by decide +kernel
theorem dksX5_share_1 : cX5_share.data.toList.drop 22 = dktX5_share_1 := dk_seg dksX5_share_0 22 rfl rfl
theorem dX5_share_0 : decode cX5_share 0 = .ok (.aload_n 0, 1) := dk_42 (dk_at dksX5_share_0 0 rfl rfl)
theorem dX5_share_1 : decode cX5_share 1 = .ok (.aload_n 0, 1) := dk_42 (dk_at dksX5_share_0 1 rfl rfl)
theorem dX5_share_2 : decode cX5_share 2 = .ok (.iload_n 1, 1) := dk_27 (dk_at dksX5_share_0 2 rfl rfl)
theorem dX5_share_3 : decode cX5_share 3 = .ok (.invokevirtual 190, 3) := dk_182 0 190 (dk_at dksX5_share_0 3 rfl rfl)
theorem dX5_share_6 : decode cX5_share 6 = .ok (.ifCond .eq 15, 3) := dk_153 0 15 (dk_at dksX5_share_0 6 rfl rfl)
theorem dX5_share_9 : decode cX5_share 9 = .ok (.aload_n 0, 1) := dk_42 (dk_at dksX5_share_0 9 rfl rfl)
theorem dX5_share_10 : decode cX5_share 10 = .ok (.iload_n 2, 1) := dk_28 (dk_at dksX5_share_0 10 rfl rfl)
theorem dX5_share_11 : decode cX5_share 11 = .ok (.invokevirtual 196, 3) := dk_182 0 196 (dk_at dksX5_share_0 11 rfl rfl)
theorem dX5_share_14 : decode cX5_share 14 = .ok (.ifCond .eq 7, 3) := dk_153 0 7 (dk_at dksX5_share_0 14 rfl rfl)
theorem dX5_share_17 : decode cX5_share 17 = .ok (.iconst 1, 1) := dk_4 (dk_at dksX5_share_0 17 rfl rfl)
theorem dX5_share_18 : decode cX5_share 18 = .ok (.goto 4, 3) := dk_167 0 4 (dk_at dksX5_share_0 18 rfl rfl)
theorem dX5_share_21 : decode cX5_share 21 = .ok (.iconst 0, 1) := dk_3 (dk_at dksX5_share_0 21 rfl rfl)
theorem dX5_share_22 : decode cX5_share 22 = .ok (.invokevirtual 173, 3) := dk_182 0 173 (dk_at dksX5_share_1 0 rfl rfl)
theorem dX5_share_25 : decode cX5_share 25 = .ok (.ifCond .eq 7, 3) := dk_153 0 7 (dk_at dksX5_share_1 3 rfl rfl)
theorem dX5_share_28 : decode cX5_share 28 = .ok (.iconst 0, 1) := dk_3 (dk_at dksX5_share_1 6 rfl rfl)
theorem dX5_share_29 : decode cX5_share 29 = .ok (.goto 9, 3) := dk_167 0 9 (dk_at dksX5_share_1 7 rfl rfl)
theorem dX5_share_32 : decode cX5_share 32 = .ok (.aload_n 0, 1) := dk_42 (dk_at dksX5_share_1 10 rfl rfl)
theorem dX5_share_33 : decode cX5_share 33 = .ok (.iload_n 1, 1) := dk_27 (dk_at dksX5_share_1 11 rfl rfl)
theorem dX5_share_34 : decode cX5_share 34 = .ok (.iload_n 2, 1) := dk_28 (dk_at dksX5_share_1 12 rfl rfl)
theorem dX5_share_35 : decode cX5_share 35 = .ok (.invokevirtual 208, 3) := dk_182 0 208 (dk_at dksX5_share_1 13 rfl rfl)
theorem dX5_share_38 : decode cX5_share 38 = .ok (.ireturn, 1) := dk_172 (dk_at dksX5_share_1 16 rfl rfl)
abbrev cX5_crownShare : ByteArray := prog_21_method_69_code
def yX5_crownShare : MethodName := ⟨RX5, "crownShare", "(I)I"⟩
def dkwX5_crownShare_1 : List UInt8 := [167, 0, 13, 42, 27, 42, 27, 182, 0, 143, 182, 0, 140, 172]
abbrev dktX5_crownShare_1 : List UInt8 := dkwX5_crownShare_1 ++ []
def dkwX5_crownShare_0 : List UInt8 := [42, 42, 27, 182, 0, 190, 182, 0, 173, 153, 0, 5, 3, 172, 42, 27, 6, 182, 0, 118, 153, 0, 7, 3]
abbrev dktX5_crownShare_0 : List UInt8 := dkwX5_crownShare_0 ++ dktX5_crownShare_1
theorem dksX5_crownShare_0 : cX5_crownShare.data.toList.drop 0 = dktX5_crownShare_0 := by decide +kernel
theorem dksX5_crownShare_1 : cX5_crownShare.data.toList.drop 24 = dktX5_crownShare_1 := dk_seg dksX5_crownShare_0 24 rfl rfl
theorem dX5_crownShare_0 : decode cX5_crownShare 0 = .ok (.aload_n 0, 1) := dk_42 (dk_at dksX5_crownShare_0 0 rfl rfl)
theorem dX5_crownShare_1 : decode cX5_crownShare 1 = .ok (.aload_n 0, 1) := dk_42 (dk_at dksX5_crownShare_0 1 rfl rfl)
theorem dX5_crownShare_2 : decode cX5_crownShare 2 = .ok (.iload_n 1, 1) := dk_27 (dk_at dksX5_crownShare_0 2 rfl rfl)
theorem dX5_crownShare_3 : decode cX5_crownShare 3 = .ok (.invokevirtual 190, 3) := dk_182 0 190 (dk_at dksX5_crownShare_0 3 rfl rfl)
theorem dX5_crownShare_6 : decode cX5_crownShare 6 = .ok (.invokevirtual 173, 3) := dk_182 0 173 (dk_at dksX5_crownShare_0 6 rfl rfl)
theorem dX5_crownShare_9 : decode cX5_crownShare 9 = .ok (.ifCond .eq 5, 3) := dk_153 0 5 (dk_at dksX5_crownShare_0 9 rfl rfl)
theorem dX5_crownShare_12 : decode cX5_crownShare 12 = .ok (.iconst 0, 1) := dk_3 (dk_at dksX5_crownShare_0 12 rfl rfl)
theorem dX5_crownShare_13 : decode cX5_crownShare 13 = .ok (.ireturn, 1) := dk_172 (dk_at dksX5_crownShare_0 13 rfl rfl)
theorem dX5_crownShare_14 : decode cX5_crownShare 14 = .ok (.aload_n 0, 1) := dk_42 (dk_at dksX5_crownShare_0 14 rfl rfl)
theorem dX5_crownShare_15 : decode cX5_crownShare 15 = .ok (.iload_n 1, 1) := dk_27 (dk_at dksX5_crownShare_0 15 rfl rfl)
theorem dX5_crownShare_16 : decode cX5_crownShare 16 = .ok (.iconst 3, 1) := dk_6 (dk_at dksX5_crownShare_0 16 rfl rfl)
theorem dX5_crownShare_17 : decode cX5_crownShare 17 = .ok (.invokevirtual 118, 3) := dk_182 0 118 (dk_at dksX5_crownShare_0 17 rfl rfl)
theorem dX5_crownShare_20 : decode cX5_crownShare 20 = .ok (.ifCond .eq 7, 3) := dk_153 0 7 (dk_at dksX5_crownShare_0 20 rfl rfl)
theorem dX5_crownShare_23 : decode cX5_crownShare 23 = .ok (.iconst 0, 1) := dk_3 (dk_at dksX5_crownShare_0 23 rfl rfl)
theorem dX5_crownShare_24 : decode cX5_crownShare 24 = .ok (.goto 13, 3) := dk_167 0 13 (dk_at dksX5_crownShare_1 0 rfl rfl)
theorem dX5_crownShare_27 : decode cX5_crownShare 27 = .ok (.aload_n 0, 1) := dk_42 (dk_at dksX5_crownShare_1 3 rfl rfl)
theorem dX5_crownShare_28 : decode cX5_crownShare 28 = .ok (.iload_n 1, 1) := dk_27 (dk_at dksX5_crownShare_1 4 rfl rfl)
theorem dX5_crownShare_29 : decode cX5_crownShare 29 = .ok (.aload_n 0, 1) := dk_42 (dk_at dksX5_crownShare_1 5 rfl rfl)
theorem dX5_crownShare_30 : decode cX5_crownShare 30 = .ok (.iload_n 1, 1) := dk_27 (dk_at dksX5_crownShare_1 6 rfl rfl)
theorem dX5_crownShare_31 : decode cX5_crownShare 31 = .ok (.invokevirtual 143, 3) := dk_182 0 143 (dk_at dksX5_crownShare_1 7 rfl rfl)
theorem dX5_crownShare_34 : decode cX5_crownShare 34 = .ok (.invokevirtual 140, 3) := dk_182 0 140 (dk_at dksX5_crownShare_1 10 rfl rfl)
theorem dX5_crownShare_37 : decode cX5_crownShare 37 = .ok (.ireturn, 1) := dk_172 (dk_at dksX5_crownShare_1 13 rfl rfl)
abbrev cX5_ownerShare : ByteArray := prog_21_method_70_code
def yX5_ownerShare : MethodName := ⟨RX5, "ownerShare", "(I)I"⟩
def dkwX5_ownerShare_1 : List UInt8 := [167, 0, 13, 42, 27, 42, 27, 182, 0, 143, 182, 0, 136, 172]
abbrev dktX5_ownerShare_1 : List UInt8 := dkwX5_ownerShare_1 ++ []
def dkwX5_ownerShare_0 : List UInt8 := [42, 42, 27, 182, 0, 190, 182, 0, 173, 153, 0, 5, 3, 172, 42, 27, 6, 182, 0, 118, 153, 0, 7, 3]
abbrev dktX5_ownerShare_0 : List UInt8 := dkwX5_ownerShare_0 ++ dktX5_ownerShare_1
theorem dksX5_ownerShare_0 : cX5_ownerShare.data.toList.drop 0 = dktX5_ownerShare_0 := by decide +kernel
theorem dksX5_ownerShare_1 : cX5_ownerShare.data.toList.drop 24 = dktX5_ownerShare_1 := dk_seg dksX5_ownerShare_0 24 rfl rfl
theorem dX5_ownerShare_0 : decode cX5_ownerShare 0 = .ok (.aload_n 0, 1) := dk_42 (dk_at dksX5_ownerShare_0 0 rfl rfl)
theorem dX5_ownerShare_1 : decode cX5_ownerShare 1 = .ok (.aload_n 0, 1) := dk_42 (dk_at dksX5_ownerShare_0 1 rfl rfl)
theorem dX5_ownerShare_2 : decode cX5_ownerShare 2 = .ok (.iload_n 1, 1) := dk_27 (dk_at dksX5_ownerShare_0 2 rfl rfl)
theorem dX5_ownerShare_3 : decode cX5_ownerShare 3 = .ok (.invokevirtual 190, 3) := dk_182 0 190 (dk_at dksX5_ownerShare_0 3 rfl rfl)
theorem dX5_ownerShare_6 : decode cX5_ownerShare 6 = .ok (.invokevirtual 173, 3) := dk_182 0 173 (dk_at dksX5_ownerShare_0 6 rfl rfl)
theorem dX5_ownerShare_9 : decode cX5_ownerShare 9 = .ok (.ifCond .eq 5, 3) := dk_153 0 5 (dk_at dksX5_ownerShare_0 9 rfl rfl)
theorem dX5_ownerShare_12 : decode cX5_ownerShare 12 = .ok (.iconst 0, 1) := dk_3 (dk_at dksX5_ownerShare_0 12 rfl rfl)
theorem dX5_ownerShare_13 : decode cX5_ownerShare 13 = .ok (.ireturn, 1) := dk_172 (dk_at dksX5_ownerShare_0 13 rfl rfl)
theorem dX5_ownerShare_14 : decode cX5_ownerShare 14 = .ok (.aload_n 0, 1) := dk_42 (dk_at dksX5_ownerShare_0 14 rfl rfl)
theorem dX5_ownerShare_15 : decode cX5_ownerShare 15 = .ok (.iload_n 1, 1) := dk_27 (dk_at dksX5_ownerShare_0 15 rfl rfl)
theorem dX5_ownerShare_16 : decode cX5_ownerShare 16 = .ok (.iconst 3, 1) := dk_6 (dk_at dksX5_ownerShare_0 16 rfl rfl)
theorem dX5_ownerShare_17 : decode cX5_ownerShare 17 = .ok (.invokevirtual 118, 3) := dk_182 0 118 (dk_at dksX5_ownerShare_0 17 rfl rfl)
theorem dX5_ownerShare_20 : decode cX5_ownerShare 20 = .ok (.ifCond .eq 7, 3) := dk_153 0 7 (dk_at dksX5_ownerShare_0 20 rfl rfl)
theorem dX5_ownerShare_23 : decode cX5_ownerShare 23 = .ok (.iconst 0, 1) := dk_3 (dk_at dksX5_ownerShare_0 23 rfl rfl)
theorem dX5_ownerShare_24 : decode cX5_ownerShare 24 = .ok (.goto 13, 3) := dk_167 0 13 (dk_at dksX5_ownerShare_1 0 rfl rfl)
theorem dX5_ownerShare_27 : decode cX5_ownerShare 27 = .ok (.aload_n 0, 1) := dk_42 (dk_at dksX5_ownerShare_1 3 rfl rfl)
theorem dX5_ownerShare_28 : decode cX5_ownerShare 28 = .ok (.iload_n 1, 1) := dk_27 (dk_at dksX5_ownerShare_1 4 rfl rfl)
theorem dX5_ownerShare_29 : decode cX5_ownerShare 29 = .ok (.aload_n 0, 1) := dk_42 (dk_at dksX5_ownerShare_1 5 rfl rfl)
theorem dX5_ownerShare_30 : decode cX5_ownerShare 30 = .ok (.iload_n 1, 1) := dk_27 (dk_at dksX5_ownerShare_1 6 rfl rfl)
theorem dX5_ownerShare_31 : decode cX5_ownerShare 31 = .ok (.invokevirtual 143, 3) := dk_182 0 143 (dk_at dksX5_ownerShare_1 7 rfl rfl)
theorem dX5_ownerShare_34 : decode cX5_ownerShare 34 = .ok (.invokevirtual 136, 3) := dk_182 0 136 (dk_at dksX5_ownerShare_1 10 rfl rfl)
theorem dX5_ownerShare_37 : decode cX5_ownerShare 37 = .ok (.ireturn, 1) := dk_172 (dk_at dksX5_ownerShare_1 13 rfl rfl)
abbrev cX5_unequal : ByteArray := prog_21_method_71_code
def yX5_unequal : MethodName := ⟨RX5, "unequal", "(I)I"⟩
def dkwX5_unequal_1 : List UInt8 := [28, 156, 0, 7, 3, 167, 0, 16, 42, 27, 3, 182, 0, 156, 42, 27, 28, 182, 0, 156, 100, 172]
abbrev dktX5_unequal_1 : List UInt8 := dkwX5_unequal_1 ++ []
def dkwX5_unequal_0 : List UInt8 := [42, 42, 27, 182, 0, 190, 182, 0, 173, 153, 0, 5, 3, 172, 42, 27, 16, 9, 182, 0, 106, 4, 100, 61]
abbrev dktX5_unequal_0 : List UInt8 := dkwX5_unequal_0 ++ dktX5_unequal_1
theorem dksX5_unequal_0 : cX5_unequal.data.toList.drop 0 = dktX5_unequal_0 := by decide +kernel
theorem dksX5_unequal_1 : cX5_unequal.data.toList.drop 24 = dktX5_unequal_1 := dk_seg dksX5_unequal_0 24 rfl rfl
theorem dX5_unequal_0 : decode cX5_unequal 0 = .ok (.aload_n 0, 1) := dk_42 (dk_at dksX5_unequal_0 0 rfl rfl)
theorem dX5_unequal_1 : decode cX5_unequal 1 = .ok (.aload_n 0, 1) := dk_42 (dk_at dksX5_unequal_0 1 rfl rfl)
theorem dX5_unequal_2 : decode cX5_unequal 2 = .ok (.iload_n 1, 1) := dk_27 (dk_at dksX5_unequal_0 2 rfl rfl)
theorem dX5_unequal_3 : decode cX5_unequal 3 = .ok (.invokevirtual 190, 3) := dk_182 0 190 (dk_at dksX5_unequal_0 3 rfl rfl)
theorem dX5_unequal_6 : decode cX5_unequal 6 = .ok (.invokevirtual 173, 3) := dk_182 0 173 (dk_at dksX5_unequal_0 6 rfl rfl)
theorem dX5_unequal_9 : decode cX5_unequal 9 = .ok (.ifCond .eq 5, 3) := dk_153 0 5 (dk_at dksX5_unequal_0 9 rfl rfl)
theorem dX5_unequal_12 : decode cX5_unequal 12 = .ok (.iconst 0, 1) := dk_3 (dk_at dksX5_unequal_0 12 rfl rfl)
theorem dX5_unequal_13 : decode cX5_unequal 13 = .ok (.ireturn, 1) := dk_172 (dk_at dksX5_unequal_0 13 rfl rfl)
theorem dX5_unequal_14 : decode cX5_unequal 14 = .ok (.aload_n 0, 1) := dk_42 (dk_at dksX5_unequal_0 14 rfl rfl)
theorem dX5_unequal_15 : decode cX5_unequal 15 = .ok (.iload_n 1, 1) := dk_27 (dk_at dksX5_unequal_0 15 rfl rfl)
theorem dX5_unequal_16 : decode cX5_unequal 16 = .ok (.bipush 9, 2) := dk_16 9 (dk_at dksX5_unequal_0 16 rfl rfl)
theorem dX5_unequal_18 : decode cX5_unequal 18 = .ok (.invokevirtual 106, 3) := dk_182 0 106 (dk_at dksX5_unequal_0 18 rfl rfl)
theorem dX5_unequal_21 : decode cX5_unequal 21 = .ok (.iconst 1, 1) := dk_4 (dk_at dksX5_unequal_0 21 rfl rfl)
theorem dX5_unequal_22 : decode cX5_unequal 22 = .ok (.isub, 1) := dk_100 (dk_at dksX5_unequal_0 22 rfl rfl)
theorem dX5_unequal_23 : decode cX5_unequal 23 = .ok (.istore_n 2, 1) := dk_61 (dk_at dksX5_unequal_0 23 rfl rfl)
theorem dX5_unequal_24 : decode cX5_unequal 24 = .ok (.iload_n 2, 1) := dk_28 (dk_at dksX5_unequal_1 0 rfl rfl)
theorem dX5_unequal_25 : decode cX5_unequal 25 = .ok (.ifCond .ge 7, 3) := dk_156 0 7 (dk_at dksX5_unequal_1 1 rfl rfl)
theorem dX5_unequal_28 : decode cX5_unequal 28 = .ok (.iconst 0, 1) := dk_3 (dk_at dksX5_unequal_1 4 rfl rfl)
theorem dX5_unequal_29 : decode cX5_unequal 29 = .ok (.goto 16, 3) := dk_167 0 16 (dk_at dksX5_unequal_1 5 rfl rfl)
theorem dX5_unequal_32 : decode cX5_unequal 32 = .ok (.aload_n 0, 1) := dk_42 (dk_at dksX5_unequal_1 8 rfl rfl)
theorem dX5_unequal_33 : decode cX5_unequal 33 = .ok (.iload_n 1, 1) := dk_27 (dk_at dksX5_unequal_1 9 rfl rfl)
theorem dX5_unequal_34 : decode cX5_unequal 34 = .ok (.iconst 0, 1) := dk_3 (dk_at dksX5_unequal_1 10 rfl rfl)
theorem dX5_unequal_35 : decode cX5_unequal 35 = .ok (.invokevirtual 156, 3) := dk_182 0 156 (dk_at dksX5_unequal_1 11 rfl rfl)
theorem dX5_unequal_38 : decode cX5_unequal 38 = .ok (.aload_n 0, 1) := dk_42 (dk_at dksX5_unequal_1 14 rfl rfl)
theorem dX5_unequal_39 : decode cX5_unequal 39 = .ok (.iload_n 1, 1) := dk_27 (dk_at dksX5_unequal_1 15 rfl rfl)
theorem dX5_unequal_40 : decode cX5_unequal 40 = .ok (.iload_n 2, 1) := dk_28 (dk_at dksX5_unequal_1 16 rfl rfl)
theorem dX5_unequal_41 : decode cX5_unequal 41 = .ok (.invokevirtual 156, 3) := dk_182 0 156 (dk_at dksX5_unequal_1 17 rfl rfl)
theorem dX5_unequal_44 : decode cX5_unequal 44 = .ok (.isub, 1) := dk_100 (dk_at dksX5_unequal_1 20 rfl rfl)
theorem dX5_unequal_45 : decode cX5_unequal 45 = .ok (.ireturn, 1) := dk_172 (dk_at dksX5_unequal_1 21 rfl rfl)
abbrev cX5_claimTime : ByteArray := prog_21_method_72_code
def yX5_claimTime : MethodName := ⟨RX5, "claimTime", "(I)I"⟩
def dkwX5_claimTime_3 : List UInt8 := [182, 0, 106, 42, 180, 0, 51, 3, 46, 100, 167, 0, 4, 2, 172]
abbrev dktX5_claimTime_3 : List UInt8 := dkwX5_claimTime_3 ++ []
def dkwX5_claimTime_2 : List UInt8 := [153, 0, 36, 42, 180, 0, 51, 3, 46, 42, 27, 16, 7, 182, 0, 106, 163, 0, 20, 42, 27, 16, 7]
abbrev dktX5_claimTime_2 : List UInt8 := dkwX5_claimTime_2 ++ dktX5_claimTime_3
def dkwX5_claimTime_1 : List UInt8 := [27, 5, 182, 0, 106, 158, 0, 15, 42, 27, 182, 0, 143, 154, 0, 7, 4, 167, 0, 4, 3, 61, 28]
abbrev dktX5_claimTime_1 : List UInt8 := dkwX5_claimTime_1 ++ dktX5_claimTime_2
def dkwX5_claimTime_0 : List UInt8 := [42, 42, 27, 182, 0, 190, 182, 0, 173, 153, 0, 5, 3, 172, 42, 27, 4, 182, 0, 118, 153, 0, 24, 42]
abbrev dktX5_claimTime_0 : List UInt8 := dkwX5_claimTime_0 ++ dktX5_claimTime_1
theorem dksX5_claimTime_0 : cX5_claimTime.data.toList.drop 0 = dktX5_claimTime_0 := by decide +kernel
theorem dksX5_claimTime_1 : cX5_claimTime.data.toList.drop 24 = dktX5_claimTime_1 := dk_seg dksX5_claimTime_0 24 rfl rfl
theorem dksX5_claimTime_2 : cX5_claimTime.data.toList.drop 47 = dktX5_claimTime_2 := dk_seg dksX5_claimTime_1 23 rfl rfl
theorem dksX5_claimTime_3 : cX5_claimTime.data.toList.drop 70 = dktX5_claimTime_3 := dk_seg dksX5_claimTime_2 23 rfl rfl
theorem dX5_claimTime_0 : decode cX5_claimTime 0 = .ok (.aload_n 0, 1) := dk_42 (dk_at dksX5_claimTime_0 0 rfl rfl)
theorem dX5_claimTime_1 : decode cX5_claimTime 1 = .ok (.aload_n 0, 1) := dk_42 (dk_at dksX5_claimTime_0 1 rfl rfl)
theorem dX5_claimTime_2 : decode cX5_claimTime 2 = .ok (.iload_n 1, 1) := dk_27 (dk_at dksX5_claimTime_0 2 rfl rfl)
theorem dX5_claimTime_3 : decode cX5_claimTime 3 = .ok (.invokevirtual 190, 3) := dk_182 0 190 (dk_at dksX5_claimTime_0 3 rfl rfl)
theorem dX5_claimTime_6 : decode cX5_claimTime 6 = .ok (.invokevirtual 173, 3) := dk_182 0 173 (dk_at dksX5_claimTime_0 6 rfl rfl)
theorem dX5_claimTime_9 : decode cX5_claimTime 9 = .ok (.ifCond .eq 5, 3) := dk_153 0 5 (dk_at dksX5_claimTime_0 9 rfl rfl)
theorem dX5_claimTime_12 : decode cX5_claimTime 12 = .ok (.iconst 0, 1) := dk_3 (dk_at dksX5_claimTime_0 12 rfl rfl)
theorem dX5_claimTime_13 : decode cX5_claimTime 13 = .ok (.ireturn, 1) := dk_172 (dk_at dksX5_claimTime_0 13 rfl rfl)
theorem dX5_claimTime_14 : decode cX5_claimTime 14 = .ok (.aload_n 0, 1) := dk_42 (dk_at dksX5_claimTime_0 14 rfl rfl)
theorem dX5_claimTime_15 : decode cX5_claimTime 15 = .ok (.iload_n 1, 1) := dk_27 (dk_at dksX5_claimTime_0 15 rfl rfl)
theorem dX5_claimTime_16 : decode cX5_claimTime 16 = .ok (.iconst 1, 1) := dk_4 (dk_at dksX5_claimTime_0 16 rfl rfl)
theorem dX5_claimTime_17 : decode cX5_claimTime 17 = .ok (.invokevirtual 118, 3) := dk_182 0 118 (dk_at dksX5_claimTime_0 17 rfl rfl)
theorem dX5_claimTime_20 : decode cX5_claimTime 20 = .ok (.ifCond .eq 24, 3) := dk_153 0 24 (dk_at dksX5_claimTime_0 20 rfl rfl)
theorem dX5_claimTime_23 : decode cX5_claimTime 23 = .ok (.aload_n 0, 1) := dk_42 (dk_at dksX5_claimTime_0 23 rfl rfl)
theorem dX5_claimTime_24 : decode cX5_claimTime 24 = .ok (.iload_n 1, 1) := dk_27 (dk_at dksX5_claimTime_1 0 rfl rfl)
theorem dX5_claimTime_25 : decode cX5_claimTime 25 = .ok (.iconst 2, 1) := dk_5 (dk_at dksX5_claimTime_1 1 rfl rfl)
theorem dX5_claimTime_26 : decode cX5_claimTime 26 = .ok (.invokevirtual 106, 3) := dk_182 0 106 (dk_at dksX5_claimTime_1 2 rfl rfl)
theorem dX5_claimTime_29 : decode cX5_claimTime 29 = .ok (.ifCond .le 15, 3) := dk_158 0 15 (dk_at dksX5_claimTime_1 5 rfl rfl)
theorem dX5_claimTime_32 : decode cX5_claimTime 32 = .ok (.aload_n 0, 1) := dk_42 (dk_at dksX5_claimTime_1 8 rfl rfl)
theorem dX5_claimTime_33 : decode cX5_claimTime 33 = .ok (.iload_n 1, 1) := dk_27 (dk_at dksX5_claimTime_1 9 rfl rfl)
theorem dX5_claimTime_34 : decode cX5_claimTime 34 = .ok (.invokevirtual 143, 3) := dk_182 0 143 (dk_at dksX5_claimTime_1 10 rfl rfl)
theorem dX5_claimTime_37 : decode cX5_claimTime 37 = .ok (.ifCond .ne 7, 3) := dk_154 0 7 (dk_at dksX5_claimTime_1 13 rfl rfl)
theorem dX5_claimTime_40 : decode cX5_claimTime 40 = .ok (.iconst 1, 1) := dk_4 (dk_at dksX5_claimTime_1 16 rfl rfl)
theorem dX5_claimTime_41 : decode cX5_claimTime 41 = .ok (.goto 4, 3) := dk_167 0 4 (dk_at dksX5_claimTime_1 17 rfl rfl)
theorem dX5_claimTime_44 : decode cX5_claimTime 44 = .ok (.iconst 0, 1) := dk_3 (dk_at dksX5_claimTime_1 20 rfl rfl)
theorem dX5_claimTime_45 : decode cX5_claimTime 45 = .ok (.istore_n 2, 1) := dk_61 (dk_at dksX5_claimTime_1 21 rfl rfl)
theorem dX5_claimTime_46 : decode cX5_claimTime 46 = .ok (.iload_n 2, 1) := dk_28 (dk_at dksX5_claimTime_1 22 rfl rfl)
theorem dX5_claimTime_47 : decode cX5_claimTime 47 = .ok (.ifCond .eq 36, 3) := dk_153 0 36 (dk_at dksX5_claimTime_2 0 rfl rfl)
theorem dX5_claimTime_50 : decode cX5_claimTime 50 = .ok (.aload_n 0, 1) := dk_42 (dk_at dksX5_claimTime_2 3 rfl rfl)
theorem dX5_claimTime_51 : decode cX5_claimTime 51 = .ok (.getfield 51, 3) := dk_180 0 51 (dk_at dksX5_claimTime_2 4 rfl rfl)
theorem dX5_claimTime_54 : decode cX5_claimTime 54 = .ok (.iconst 0, 1) := dk_3 (dk_at dksX5_claimTime_2 7 rfl rfl)
theorem dX5_claimTime_55 : decode cX5_claimTime 55 = .ok (.iaload, 1) := dk_46 (dk_at dksX5_claimTime_2 8 rfl rfl)
theorem dX5_claimTime_56 : decode cX5_claimTime 56 = .ok (.aload_n 0, 1) := dk_42 (dk_at dksX5_claimTime_2 9 rfl rfl)
theorem dX5_claimTime_57 : decode cX5_claimTime 57 = .ok (.iload_n 1, 1) := dk_27 (dk_at dksX5_claimTime_2 10 rfl rfl)
theorem dX5_claimTime_58 : decode cX5_claimTime 58 = .ok (.bipush 7, 2) := dk_16 7 (dk_at dksX5_claimTime_2 11 rfl rfl)
theorem dX5_claimTime_60 : decode cX5_claimTime 60 = .ok (.invokevirtual 106, 3) := dk_182 0 106 (dk_at dksX5_claimTime_2 13 rfl rfl)
theorem dX5_claimTime_63 : decode cX5_claimTime 63 = .ok (.if_icmp .gt 20, 3) := dk_163 0 20 (dk_at dksX5_claimTime_2 16 rfl rfl)
theorem dX5_claimTime_66 : decode cX5_claimTime 66 = .ok (.aload_n 0, 1) := dk_42 (dk_at dksX5_claimTime_2 19 rfl rfl)
theorem dX5_claimTime_67 : decode cX5_claimTime 67 = .ok (.iload_n 1, 1) := dk_27 (dk_at dksX5_claimTime_2 20 rfl rfl)
theorem dX5_claimTime_68 : decode cX5_claimTime 68 = .ok (.bipush 7, 2) := dk_16 7 (dk_at dksX5_claimTime_2 21 rfl rfl)
theorem dX5_claimTime_70 : decode cX5_claimTime 70 = .ok (.invokevirtual 106, 3) := dk_182 0 106 (dk_at dksX5_claimTime_3 0 rfl rfl)
theorem dX5_claimTime_73 : decode cX5_claimTime 73 = .ok (.aload_n 0, 1) := dk_42 (dk_at dksX5_claimTime_3 3 rfl rfl)
theorem dX5_claimTime_74 : decode cX5_claimTime 74 = .ok (.getfield 51, 3) := dk_180 0 51 (dk_at dksX5_claimTime_3 4 rfl rfl)
theorem dX5_claimTime_77 : decode cX5_claimTime 77 = .ok (.iconst 0, 1) := dk_3 (dk_at dksX5_claimTime_3 7 rfl rfl)
theorem dX5_claimTime_78 : decode cX5_claimTime 78 = .ok (.iaload, 1) := dk_46 (dk_at dksX5_claimTime_3 8 rfl rfl)
theorem dX5_claimTime_79 : decode cX5_claimTime 79 = .ok (.isub, 1) := dk_100 (dk_at dksX5_claimTime_3 9 rfl rfl)
theorem dX5_claimTime_80 : decode cX5_claimTime 80 = .ok (.goto 4, 3) := dk_167 0 4 (dk_at dksX5_claimTime_3 10 rfl rfl)
theorem dX5_claimTime_83 : decode cX5_claimTime 83 = .ok (.iconst (-1), 1) := dk_2 (dk_at dksX5_claimTime_3 13 rfl rfl)
theorem dX5_claimTime_84 : decode cX5_claimTime 84 = .ok (.ireturn, 1) := dk_172 (dk_at dksX5_claimTime_3 14 rfl rfl)
abbrev cX5_bestClaim : ByteArray := prog_21_method_74_code
def yX5_bestClaim : MethodName := ⟨RX5, "bestClaim", "()I"⟩
def dkwX5_bestClaim_1 : List UInt8 := [164, 0, 11, 29, 60, 42, 29, 182, 0, 221, 61, 132, 3, 1, 167, 255, 231, 27, 172]
abbrev dktX5_bestClaim_1 : List UInt8 := dkwX5_bestClaim_1 ++ []
def dkwX5_bestClaim_0 : List UInt8 := [42, 3, 181, 0, 92, 2, 60, 3, 61, 4, 62, 29, 8, 163, 0, 26, 42, 29, 182, 0, 221, 28]
abbrev dktX5_bestClaim_0 : List UInt8 := dkwX5_bestClaim_0 ++ dktX5_bestClaim_1
theorem dksX5_bestClaim_0 : cX5_bestClaim.data.toList.drop 0 = dktX5_bestClaim_0 := by decide +kernel
theorem dksX5_bestClaim_1 : cX5_bestClaim.data.toList.drop 22 = dktX5_bestClaim_1 := dk_seg dksX5_bestClaim_0 22 rfl rfl
theorem dX5_bestClaim_0 : decode cX5_bestClaim 0 = .ok (.aload_n 0, 1) := dk_42 (dk_at dksX5_bestClaim_0 0 rfl rfl)
theorem dX5_bestClaim_1 : decode cX5_bestClaim 1 = .ok (.iconst 0, 1) := dk_3 (dk_at dksX5_bestClaim_0 1 rfl rfl)
theorem dX5_bestClaim_2 : decode cX5_bestClaim 2 = .ok (.putfield 92, 3) := dk_181 0 92 (dk_at dksX5_bestClaim_0 2 rfl rfl)
theorem dX5_bestClaim_5 : decode cX5_bestClaim 5 = .ok (.iconst (-1), 1) := dk_2 (dk_at dksX5_bestClaim_0 5 rfl rfl)
theorem dX5_bestClaim_6 : decode cX5_bestClaim 6 = .ok (.istore_n 1, 1) := dk_60 (dk_at dksX5_bestClaim_0 6 rfl rfl)
theorem dX5_bestClaim_7 : decode cX5_bestClaim 7 = .ok (.iconst 0, 1) := dk_3 (dk_at dksX5_bestClaim_0 7 rfl rfl)
theorem dX5_bestClaim_8 : decode cX5_bestClaim 8 = .ok (.istore_n 2, 1) := dk_61 (dk_at dksX5_bestClaim_0 8 rfl rfl)
theorem dX5_bestClaim_9 : decode cX5_bestClaim 9 = .ok (.iconst 1, 1) := dk_4 (dk_at dksX5_bestClaim_0 9 rfl rfl)
theorem dX5_bestClaim_10 : decode cX5_bestClaim 10 = .ok (.istore_n 3, 1) := dk_62 (dk_at dksX5_bestClaim_0 10 rfl rfl)
theorem dX5_bestClaim_11 : decode cX5_bestClaim 11 = .ok (.iload_n 3, 1) := dk_29 (dk_at dksX5_bestClaim_0 11 rfl rfl)
theorem dX5_bestClaim_12 : decode cX5_bestClaim 12 = .ok (.iconst 5, 1) := dk_8 (dk_at dksX5_bestClaim_0 12 rfl rfl)
theorem dX5_bestClaim_13 : decode cX5_bestClaim 13 = .ok (.if_icmp .gt 26, 3) := dk_163 0 26 (dk_at dksX5_bestClaim_0 13 rfl rfl)
theorem dX5_bestClaim_16 : decode cX5_bestClaim 16 = .ok (.aload_n 0, 1) := dk_42 (dk_at dksX5_bestClaim_0 16 rfl rfl)
theorem dX5_bestClaim_17 : decode cX5_bestClaim 17 = .ok (.iload_n 3, 1) := dk_29 (dk_at dksX5_bestClaim_0 17 rfl rfl)
theorem dX5_bestClaim_18 : decode cX5_bestClaim 18 = .ok (.invokevirtual 221, 3) := dk_182 0 221 (dk_at dksX5_bestClaim_0 18 rfl rfl)
theorem dX5_bestClaim_21 : decode cX5_bestClaim 21 = .ok (.iload_n 2, 1) := dk_28 (dk_at dksX5_bestClaim_0 21 rfl rfl)
theorem dX5_bestClaim_22 : decode cX5_bestClaim 22 = .ok (.if_icmp .le 11, 3) := dk_164 0 11 (dk_at dksX5_bestClaim_1 0 rfl rfl)
theorem dX5_bestClaim_25 : decode cX5_bestClaim 25 = .ok (.iload_n 3, 1) := dk_29 (dk_at dksX5_bestClaim_1 3 rfl rfl)
theorem dX5_bestClaim_26 : decode cX5_bestClaim 26 = .ok (.istore_n 1, 1) := dk_60 (dk_at dksX5_bestClaim_1 4 rfl rfl)
theorem dX5_bestClaim_27 : decode cX5_bestClaim 27 = .ok (.aload_n 0, 1) := dk_42 (dk_at dksX5_bestClaim_1 5 rfl rfl)
theorem dX5_bestClaim_28 : decode cX5_bestClaim 28 = .ok (.iload_n 3, 1) := dk_29 (dk_at dksX5_bestClaim_1 6 rfl rfl)
theorem dX5_bestClaim_29 : decode cX5_bestClaim 29 = .ok (.invokevirtual 221, 3) := dk_182 0 221 (dk_at dksX5_bestClaim_1 7 rfl rfl)
theorem dX5_bestClaim_32 : decode cX5_bestClaim 32 = .ok (.istore_n 2, 1) := dk_61 (dk_at dksX5_bestClaim_1 10 rfl rfl)
theorem dX5_bestClaim_33 : decode cX5_bestClaim 33 = .ok (.iinc 3 1, 3) := dk_132 3 1 (dk_at dksX5_bestClaim_1 11 rfl rfl)
theorem dX5_bestClaim_36 : decode cX5_bestClaim 36 = .ok (.goto (-25), 3) := dk_167 255 231 (dk_at dksX5_bestClaim_1 14 rfl rfl)
theorem dX5_bestClaim_39 : decode cX5_bestClaim 39 = .ok (.iload_n 1, 1) := dk_27 (dk_at dksX5_bestClaim_1 17 rfl rfl)
theorem dX5_bestClaim_40 : decode cX5_bestClaim 40 = .ok (.ireturn, 1) := dk_172 (dk_at dksX5_bestClaim_1 18 rfl rfl)
abbrev cX5_claimable : ByteArray := prog_21_method_73_code
def yX5_claimable : MethodName := ⟨RX5, "claimable", "(I)I"⟩
def dkwX5_claimable_3 : List UInt8 := [4, 182, 0, 106, 167, 0, 4, 3, 96, 61, 132, 3, 1, 167, 255, 175, 28, 172]
abbrev dktX5_claimable_3 : List UInt8 := dkwX5_claimable_3 ++ []
def dkwX5_claimable_2 : List UInt8 := [29, 16, 7, 182, 0, 106, 163, 0, 7, 4, 167, 0, 4, 3, 54, 4, 28, 21, 4, 153, 0, 12, 42, 29]
abbrev dktX5_claimable_2 : List UInt8 := dkwX5_claimable_2 ++ dktX5_claimable_3
def dkwX5_claimable_1 : List UInt8 := [29, 5, 182, 0, 106, 27, 160, 0, 31, 42, 29, 182, 0, 143, 154, 0, 23, 42, 180, 0, 51, 3, 46, 42]
abbrev dktX5_claimable_1 : List UInt8 := dkwX5_claimable_1 ++ dktX5_claimable_2
def dkwX5_claimable_0 : List UInt8 := [3, 61, 3, 62, 29, 42, 180, 0, 51, 8, 46, 162, 0, 77, 42, 29, 4, 182, 0, 118, 153, 0, 41, 42]
abbrev dktX5_claimable_0 : List UInt8 := dkwX5_claimable_0 ++ dktX5_claimable_1
theorem dksX5_claimable_0 : cX5_claimable.data.toList.drop 0 = dktX5_claimable_0 := by decide +kernel
theorem dksX5_claimable_1 : cX5_claimable.data.toList.drop 24 = dktX5_claimable_1 := dk_seg dksX5_claimable_0 24 rfl rfl
theorem dksX5_claimable_2 : cX5_claimable.data.toList.drop 48 = dktX5_claimable_2 := dk_seg dksX5_claimable_1 24 rfl rfl
theorem dksX5_claimable_3 : cX5_claimable.data.toList.drop 72 = dktX5_claimable_3 := dk_seg dksX5_claimable_2 24 rfl rfl
theorem dX5_claimable_0 : decode cX5_claimable 0 = .ok (.iconst 0, 1) := dk_3 (dk_at dksX5_claimable_0 0 rfl rfl)
theorem dX5_claimable_1 : decode cX5_claimable 1 = .ok (.istore_n 2, 1) := dk_61 (dk_at dksX5_claimable_0 1 rfl rfl)
theorem dX5_claimable_2 : decode cX5_claimable 2 = .ok (.iconst 0, 1) := dk_3 (dk_at dksX5_claimable_0 2 rfl rfl)
theorem dX5_claimable_3 : decode cX5_claimable 3 = .ok (.istore_n 3, 1) := dk_62 (dk_at dksX5_claimable_0 3 rfl rfl)
theorem dX5_claimable_4 : decode cX5_claimable 4 = .ok (.iload_n 3, 1) := dk_29 (dk_at dksX5_claimable_0 4 rfl rfl)
theorem dX5_claimable_5 : decode cX5_claimable 5 = .ok (.aload_n 0, 1) := dk_42 (dk_at dksX5_claimable_0 5 rfl rfl)
theorem dX5_claimable_6 : decode cX5_claimable 6 = .ok (.getfield 51, 3) := dk_180 0 51 (dk_at dksX5_claimable_0 6 rfl rfl)
theorem dX5_claimable_9 : decode cX5_claimable 9 = .ok (.iconst 5, 1) := dk_8 (dk_at dksX5_claimable_0 9 rfl rfl)
theorem dX5_claimable_10 : decode cX5_claimable 10 = .ok (.iaload, 1) := dk_46 (dk_at dksX5_claimable_0 10 rfl rfl)
theorem dX5_claimable_11 : decode cX5_claimable 11 = .ok (.if_icmp .ge 77, 3) := dk_162 0 77 (dk_at dksX5_claimable_0 11 rfl rfl)
theorem dX5_claimable_14 : decode cX5_claimable 14 = .ok (.aload_n 0, 1) := dk_42 (dk_at dksX5_claimable_0 14 rfl rfl)
theorem dX5_claimable_15 : decode cX5_claimable 15 = .ok (.iload_n 3, 1) := dk_29 (dk_at dksX5_claimable_0 15 rfl rfl)
theorem dX5_claimable_16 : decode cX5_claimable 16 = .ok (.iconst 1, 1) := dk_4 (dk_at dksX5_claimable_0 16 rfl rfl)
theorem dX5_claimable_17 : decode cX5_claimable 17 = .ok (.invokevirtual 118, 3) := dk_182 0 118 (dk_at dksX5_claimable_0 17 rfl rfl)
theorem dX5_claimable_20 : decode cX5_claimable 20 = .ok (.ifCond .eq 41, 3) := dk_153 0 41 (dk_at dksX5_claimable_0 20 rfl rfl)
theorem dX5_claimable_23 : decode cX5_claimable 23 = .ok (.aload_n 0, 1) := dk_42 (dk_at dksX5_claimable_0 23 rfl rfl)
theorem dX5_claimable_24 : decode cX5_claimable 24 = .ok (.iload_n 3, 1) := dk_29 (dk_at dksX5_claimable_1 0 rfl rfl)
theorem dX5_claimable_25 : decode cX5_claimable 25 = .ok (.iconst 2, 1) := dk_5 (dk_at dksX5_claimable_1 1 rfl rfl)
theorem dX5_claimable_26 : decode cX5_claimable 26 = .ok (.invokevirtual 106, 3) := dk_182 0 106 (dk_at dksX5_claimable_1 2 rfl rfl)
theorem dX5_claimable_29 : decode cX5_claimable 29 = .ok (.iload_n 1, 1) := dk_27 (dk_at dksX5_claimable_1 5 rfl rfl)
theorem dX5_claimable_30 : decode cX5_claimable 30 = .ok (.if_icmp .ne 31, 3) := dk_160 0 31 (dk_at dksX5_claimable_1 6 rfl rfl)
theorem dX5_claimable_33 : decode cX5_claimable 33 = .ok (.aload_n 0, 1) := dk_42 (dk_at dksX5_claimable_1 9 rfl rfl)
theorem dX5_claimable_34 : decode cX5_claimable 34 = .ok (.iload_n 3, 1) := dk_29 (dk_at dksX5_claimable_1 10 rfl rfl)
theorem dX5_claimable_35 : decode cX5_claimable 35 = .ok (.invokevirtual 143, 3) := dk_182 0 143 (dk_at dksX5_claimable_1 11 rfl rfl)
theorem dX5_claimable_38 : decode cX5_claimable 38 = .ok (.ifCond .ne 23, 3) := dk_154 0 23 (dk_at dksX5_claimable_1 14 rfl rfl)
theorem dX5_claimable_41 : decode cX5_claimable 41 = .ok (.aload_n 0, 1) := dk_42 (dk_at dksX5_claimable_1 17 rfl rfl)
theorem dX5_claimable_42 : decode cX5_claimable 42 = .ok (.getfield 51, 3) := dk_180 0 51 (dk_at dksX5_claimable_1 18 rfl rfl)
theorem dX5_claimable_45 : decode cX5_claimable 45 = .ok (.iconst 0, 1) := dk_3 (dk_at dksX5_claimable_1 21 rfl rfl)
theorem dX5_claimable_46 : decode cX5_claimable 46 = .ok (.iaload, 1) := dk_46 (dk_at dksX5_claimable_1 22 rfl rfl)
theorem dX5_claimable_47 : decode cX5_claimable 47 = .ok (.aload_n 0, 1) := dk_42 (dk_at dksX5_claimable_1 23 rfl rfl)
theorem dX5_claimable_48 : decode cX5_claimable 48 = .ok (.iload_n 3, 1) := dk_29 (dk_at dksX5_claimable_2 0 rfl rfl)
theorem dX5_claimable_49 : decode cX5_claimable 49 = .ok (.bipush 7, 2) := dk_16 7 (dk_at dksX5_claimable_2 1 rfl rfl)
theorem dX5_claimable_51 : decode cX5_claimable 51 = .ok (.invokevirtual 106, 3) := dk_182 0 106 (dk_at dksX5_claimable_2 3 rfl rfl)
theorem dX5_claimable_54 : decode cX5_claimable 54 = .ok (.if_icmp .gt 7, 3) := dk_163 0 7 (dk_at dksX5_claimable_2 6 rfl rfl)
theorem dX5_claimable_57 : decode cX5_claimable 57 = .ok (.iconst 1, 1) := dk_4 (dk_at dksX5_claimable_2 9 rfl rfl)
theorem dX5_claimable_58 : decode cX5_claimable 58 = .ok (.goto 4, 3) := dk_167 0 4 (dk_at dksX5_claimable_2 10 rfl rfl)
theorem dX5_claimable_61 : decode cX5_claimable 61 = .ok (.iconst 0, 1) := dk_3 (dk_at dksX5_claimable_2 13 rfl rfl)
theorem dX5_claimable_62 : decode cX5_claimable 62 = .ok (.istore 4, 2) := dk_54 4 (dk_at dksX5_claimable_2 14 rfl rfl)
theorem dX5_claimable_64 : decode cX5_claimable 64 = .ok (.iload_n 2, 1) := dk_28 (dk_at dksX5_claimable_2 16 rfl rfl)
theorem dX5_claimable_65 : decode cX5_claimable 65 = .ok (.iload 4, 2) := dk_21 4 (dk_at dksX5_claimable_2 17 rfl rfl)
theorem dX5_claimable_67 : decode cX5_claimable 67 = .ok (.ifCond .eq 12, 3) := dk_153 0 12 (dk_at dksX5_claimable_2 19 rfl rfl)
theorem dX5_claimable_70 : decode cX5_claimable 70 = .ok (.aload_n 0, 1) := dk_42 (dk_at dksX5_claimable_2 22 rfl rfl)
theorem dX5_claimable_71 : decode cX5_claimable 71 = .ok (.iload_n 3, 1) := dk_29 (dk_at dksX5_claimable_2 23 rfl rfl)
theorem dX5_claimable_72 : decode cX5_claimable 72 = .ok (.iconst 1, 1) := dk_4 (dk_at dksX5_claimable_3 0 rfl rfl)
theorem dX5_claimable_73 : decode cX5_claimable 73 = .ok (.invokevirtual 106, 3) := dk_182 0 106 (dk_at dksX5_claimable_3 1 rfl rfl)
theorem dX5_claimable_76 : decode cX5_claimable 76 = .ok (.goto 4, 3) := dk_167 0 4 (dk_at dksX5_claimable_3 4 rfl rfl)
theorem dX5_claimable_79 : decode cX5_claimable 79 = .ok (.iconst 0, 1) := dk_3 (dk_at dksX5_claimable_3 7 rfl rfl)
theorem dX5_claimable_80 : decode cX5_claimable 80 = .ok (.iadd, 1) := dk_96 (dk_at dksX5_claimable_3 8 rfl rfl)
theorem dX5_claimable_81 : decode cX5_claimable 81 = .ok (.istore_n 2, 1) := dk_61 (dk_at dksX5_claimable_3 9 rfl rfl)
theorem dX5_claimable_82 : decode cX5_claimable 82 = .ok (.iinc 3 1, 3) := dk_132 3 1 (dk_at dksX5_claimable_3 10 rfl rfl)
theorem dX5_claimable_85 : decode cX5_claimable 85 = .ok (.goto (-81), 3) := dk_167 255 175 (dk_at dksX5_claimable_3 13 rfl rfl)
theorem dX5_claimable_88 : decode cX5_claimable 88 = .ok (.iload_n 2, 1) := dk_28 (dk_at dksX5_claimable_3 16 rfl rfl)
theorem dX5_claimable_89 : decode cX5_claimable 89 = .ok (.ireturn, 1) := dk_172 (dk_at dksX5_claimable_3 17 rfl rfl)
abbrev cX5_firstDue : ByteArray := prog_21_method_75_code
def yX5_firstDue : MethodName := ⟨RX5, "firstDue", "()I"⟩
def dkwX5_firstDue_3 : List UInt8 := [167, 0, 4, 27, 60, 132, 2, 1, 167, 255, 188, 27, 172]
abbrev dktX5_firstDue_3 : List UInt8 := dkwX5_firstDue_3 ++ []
def dkwX5_firstDue_2 : List UInt8 := [27, 2, 159, 0, 20, 42, 28, 16, 7, 182, 0, 106, 42, 27, 16, 7, 182, 0, 106, 162, 0, 7, 28]
abbrev dktX5_firstDue_2 : List UInt8 := dkwX5_firstDue_2 ++ dktX5_firstDue_3
def dkwX5_firstDue_1 : List UInt8 := [182, 0, 118, 153, 0, 15, 42, 28, 182, 0, 143, 154, 0, 7, 4, 167, 0, 4, 3, 62, 29, 153, 0, 29]
abbrev dktX5_firstDue_1 : List UInt8 := dkwX5_firstDue_1 ++ dktX5_firstDue_2
def dkwX5_firstDue_0 : List UInt8 := [42, 3, 181, 0, 92, 2, 60, 3, 61, 28, 42, 180, 0, 51, 8, 46, 162, 0, 64, 42, 28, 4]
abbrev dktX5_firstDue_0 : List UInt8 := dkwX5_firstDue_0 ++ dktX5_firstDue_1
theorem dksX5_firstDue_0 : cX5_firstDue.data.toList.drop 0 = dktX5_firstDue_0 := by decide +kernel
theorem dksX5_firstDue_1 : cX5_firstDue.data.toList.drop 22 = dktX5_firstDue_1 := dk_seg dksX5_firstDue_0 22 rfl rfl
theorem dksX5_firstDue_2 : cX5_firstDue.data.toList.drop 46 = dktX5_firstDue_2 := dk_seg dksX5_firstDue_1 24 rfl rfl
theorem dksX5_firstDue_3 : cX5_firstDue.data.toList.drop 69 = dktX5_firstDue_3 := dk_seg dksX5_firstDue_2 23 rfl rfl
theorem dX5_firstDue_0 : decode cX5_firstDue 0 = .ok (.aload_n 0, 1) := dk_42 (dk_at dksX5_firstDue_0 0 rfl rfl)
theorem dX5_firstDue_1 : decode cX5_firstDue 1 = .ok (.iconst 0, 1) := dk_3 (dk_at dksX5_firstDue_0 1 rfl rfl)
theorem dX5_firstDue_2 : decode cX5_firstDue 2 = .ok (.putfield 92, 3) := dk_181 0 92 (dk_at dksX5_firstDue_0 2 rfl rfl)
theorem dX5_firstDue_5 : decode cX5_firstDue 5 = .ok (.iconst (-1), 1) := dk_2 (dk_at dksX5_firstDue_0 5 rfl rfl)
theorem dX5_firstDue_6 : decode cX5_firstDue 6 = .ok (.istore_n 1, 1) := dk_60 (dk_at dksX5_firstDue_0 6 rfl rfl)
theorem dX5_firstDue_7 : decode cX5_firstDue 7 = .ok (.iconst 0, 1) := dk_3 (dk_at dksX5_firstDue_0 7 rfl rfl)
theorem dX5_firstDue_8 : decode cX5_firstDue 8 = .ok (.istore_n 2, 1) := dk_61 (dk_at dksX5_firstDue_0 8 rfl rfl)
theorem dX5_firstDue_9 : decode cX5_firstDue 9 = .ok (.iload_n 2, 1) := dk_28 (dk_at dksX5_firstDue_0 9 rfl rfl)
theorem dX5_firstDue_10 : decode cX5_firstDue 10 = .ok (.aload_n 0, 1) := dk_42 (dk_at dksX5_firstDue_0 10 rfl rfl)
theorem dX5_firstDue_11 : decode cX5_firstDue 11 = .ok (.getfield 51, 3) := dk_180 0 51 (dk_at dksX5_firstDue_0 11 rfl rfl)
theorem dX5_firstDue_14 : decode cX5_firstDue 14 = .ok (.iconst 5, 1) := dk_8 (dk_at dksX5_firstDue_0 14 rfl rfl)
theorem dX5_firstDue_15 : decode cX5_firstDue 15 = .ok (.iaload, 1) := dk_46 (dk_at dksX5_firstDue_0 15 rfl rfl)
theorem dX5_firstDue_16 : decode cX5_firstDue 16 = .ok (.if_icmp .ge 64, 3) := dk_162 0 64 (dk_at dksX5_firstDue_0 16 rfl rfl)
theorem dX5_firstDue_19 : decode cX5_firstDue 19 = .ok (.aload_n 0, 1) := dk_42 (dk_at dksX5_firstDue_0 19 rfl rfl)
theorem dX5_firstDue_20 : decode cX5_firstDue 20 = .ok (.iload_n 2, 1) := dk_28 (dk_at dksX5_firstDue_0 20 rfl rfl)
theorem dX5_firstDue_21 : decode cX5_firstDue 21 = .ok (.iconst 1, 1) := dk_4 (dk_at dksX5_firstDue_0 21 rfl rfl)
theorem dX5_firstDue_22 : decode cX5_firstDue 22 = .ok (.invokevirtual 118, 3) := dk_182 0 118 (dk_at dksX5_firstDue_1 0 rfl rfl)
theorem dX5_firstDue_25 : decode cX5_firstDue 25 = .ok (.ifCond .eq 15, 3) := dk_153 0 15 (dk_at dksX5_firstDue_1 3 rfl rfl)
theorem dX5_firstDue_28 : decode cX5_firstDue 28 = .ok (.aload_n 0, 1) := dk_42 (dk_at dksX5_firstDue_1 6 rfl rfl)
theorem dX5_firstDue_29 : decode cX5_firstDue 29 = .ok (.iload_n 2, 1) := dk_28 (dk_at dksX5_firstDue_1 7 rfl rfl)
theorem dX5_firstDue_30 : decode cX5_firstDue 30 = .ok (.invokevirtual 143, 3) := dk_182 0 143 (dk_at dksX5_firstDue_1 8 rfl rfl)
theorem dX5_firstDue_33 : decode cX5_firstDue 33 = .ok (.ifCond .ne 7, 3) := dk_154 0 7 (dk_at dksX5_firstDue_1 11 rfl rfl)
theorem dX5_firstDue_36 : decode cX5_firstDue 36 = .ok (.iconst 1, 1) := dk_4 (dk_at dksX5_firstDue_1 14 rfl rfl)
theorem dX5_firstDue_37 : decode cX5_firstDue 37 = .ok (.goto 4, 3) := dk_167 0 4 (dk_at dksX5_firstDue_1 15 rfl rfl)
theorem dX5_firstDue_40 : decode cX5_firstDue 40 = .ok (.iconst 0, 1) := dk_3 (dk_at dksX5_firstDue_1 18 rfl rfl)
theorem dX5_firstDue_41 : decode cX5_firstDue 41 = .ok (.istore_n 3, 1) := dk_62 (dk_at dksX5_firstDue_1 19 rfl rfl)
theorem dX5_firstDue_42 : decode cX5_firstDue 42 = .ok (.iload_n 3, 1) := dk_29 (dk_at dksX5_firstDue_1 20 rfl rfl)
theorem dX5_firstDue_43 : decode cX5_firstDue 43 = .ok (.ifCond .eq 29, 3) := dk_153 0 29 (dk_at dksX5_firstDue_1 21 rfl rfl)
theorem dX5_firstDue_46 : decode cX5_firstDue 46 = .ok (.iload_n 1, 1) := dk_27 (dk_at dksX5_firstDue_2 0 rfl rfl)
theorem dX5_firstDue_47 : decode cX5_firstDue 47 = .ok (.iconst (-1), 1) := dk_2 (dk_at dksX5_firstDue_2 1 rfl rfl)
theorem dX5_firstDue_48 : decode cX5_firstDue 48 = .ok (.if_icmp .eq 20, 3) := dk_159 0 20 (dk_at dksX5_firstDue_2 2 rfl rfl)
theorem dX5_firstDue_51 : decode cX5_firstDue 51 = .ok (.aload_n 0, 1) := dk_42 (dk_at dksX5_firstDue_2 5 rfl rfl)
theorem dX5_firstDue_52 : decode cX5_firstDue 52 = .ok (.iload_n 2, 1) := dk_28 (dk_at dksX5_firstDue_2 6 rfl rfl)
theorem dX5_firstDue_53 : decode cX5_firstDue 53 = .ok (.bipush 7, 2) := dk_16 7 (dk_at dksX5_firstDue_2 7 rfl rfl)
theorem dX5_firstDue_55 : decode cX5_firstDue 55 = .ok (.invokevirtual 106, 3) := dk_182 0 106 (dk_at dksX5_firstDue_2 9 rfl rfl)
theorem dX5_firstDue_58 : decode cX5_firstDue 58 = .ok (.aload_n 0, 1) := dk_42 (dk_at dksX5_firstDue_2 12 rfl rfl)
theorem dX5_firstDue_59 : decode cX5_firstDue 59 = .ok (.iload_n 1, 1) := dk_27 (dk_at dksX5_firstDue_2 13 rfl rfl)
theorem dX5_firstDue_60 : decode cX5_firstDue 60 = .ok (.bipush 7, 2) := dk_16 7 (dk_at dksX5_firstDue_2 14 rfl rfl)
theorem dX5_firstDue_62 : decode cX5_firstDue 62 = .ok (.invokevirtual 106, 3) := dk_182 0 106 (dk_at dksX5_firstDue_2 16 rfl rfl)
theorem dX5_firstDue_65 : decode cX5_firstDue 65 = .ok (.if_icmp .ge 7, 3) := dk_162 0 7 (dk_at dksX5_firstDue_2 19 rfl rfl)
theorem dX5_firstDue_68 : decode cX5_firstDue 68 = .ok (.iload_n 2, 1) := dk_28 (dk_at dksX5_firstDue_2 22 rfl rfl)
theorem dX5_firstDue_69 : decode cX5_firstDue 69 = .ok (.goto 4, 3) := dk_167 0 4 (dk_at dksX5_firstDue_3 0 rfl rfl)
theorem dX5_firstDue_72 : decode cX5_firstDue 72 = .ok (.iload_n 1, 1) := dk_27 (dk_at dksX5_firstDue_3 3 rfl rfl)
theorem dX5_firstDue_73 : decode cX5_firstDue 73 = .ok (.istore_n 1, 1) := dk_60 (dk_at dksX5_firstDue_3 4 rfl rfl)
theorem dX5_firstDue_74 : decode cX5_firstDue 74 = .ok (.iinc 2 1, 3) := dk_132 2 1 (dk_at dksX5_firstDue_3 5 rfl rfl)
theorem dX5_firstDue_77 : decode cX5_firstDue 77 = .ok (.goto (-68), 3) := dk_167 255 188 (dk_at dksX5_firstDue_3 8 rfl rfl)
theorem dX5_firstDue_80 : decode cX5_firstDue 80 = .ok (.iload_n 1, 1) := dk_27 (dk_at dksX5_firstDue_3 11 rfl rfl)
theorem dX5_firstDue_81 : decode cX5_firstDue 81 = .ok (.ireturn, 1) := dk_172 (dk_at dksX5_firstDue_3 12 rfl rfl)
abbrev cX5_claimCosts : ByteArray := prog_21_method_76_code
def yX5_claimCosts : MethodName := ⟨RX5, "claimCosts", "(I)I"⟩
def dkwX5_claimCosts_2 : List UInt8 := [61, 28, 153, 0, 19, 42, 27, 3, 182, 0, 147, 42, 27, 4, 182, 0, 147, 100, 167, 0, 4, 3, 172]
abbrev dktX5_claimCosts_2 : List UInt8 := dkwX5_claimCosts_2 ++ []
def dkwX5_claimCosts_1 : List UInt8 := [42, 27, 5, 182, 0, 106, 158, 0, 17, 42, 27, 16, 9, 182, 0, 106, 158, 0, 7, 4, 167, 0, 4, 3]
abbrev dktX5_claimCosts_1 : List UInt8 := dkwX5_claimCosts_1 ++ dktX5_claimCosts_2
def dkwX5_claimCosts_0 : List UInt8 := [42, 42, 27, 182, 0, 190, 182, 0, 173, 153, 0, 5, 3, 172, 42, 27, 8, 182, 0, 106, 4, 163, 0, 26]
abbrev dktX5_claimCosts_0 : List UInt8 := dkwX5_claimCosts_0 ++ dktX5_claimCosts_1
theorem dksX5_claimCosts_0 : cX5_claimCosts.data.toList.drop 0 = dktX5_claimCosts_0 := by decide +kernel
theorem dksX5_claimCosts_1 : cX5_claimCosts.data.toList.drop 24 = dktX5_claimCosts_1 := dk_seg dksX5_claimCosts_0 24 rfl rfl
theorem dksX5_claimCosts_2 : cX5_claimCosts.data.toList.drop 48 = dktX5_claimCosts_2 := dk_seg dksX5_claimCosts_1 24 rfl rfl
theorem dX5_claimCosts_0 : decode cX5_claimCosts 0 = .ok (.aload_n 0, 1) := dk_42 (dk_at dksX5_claimCosts_0 0 rfl rfl)
theorem dX5_claimCosts_1 : decode cX5_claimCosts 1 = .ok (.aload_n 0, 1) := dk_42 (dk_at dksX5_claimCosts_0 1 rfl rfl)
theorem dX5_claimCosts_2 : decode cX5_claimCosts 2 = .ok (.iload_n 1, 1) := dk_27 (dk_at dksX5_claimCosts_0 2 rfl rfl)
theorem dX5_claimCosts_3 : decode cX5_claimCosts 3 = .ok (.invokevirtual 190, 3) := dk_182 0 190 (dk_at dksX5_claimCosts_0 3 rfl rfl)
theorem dX5_claimCosts_6 : decode cX5_claimCosts 6 = .ok (.invokevirtual 173, 3) := dk_182 0 173 (dk_at dksX5_claimCosts_0 6 rfl rfl)
theorem dX5_claimCosts_9 : decode cX5_claimCosts 9 = .ok (.ifCond .eq 5, 3) := dk_153 0 5 (dk_at dksX5_claimCosts_0 9 rfl rfl)
theorem dX5_claimCosts_12 : decode cX5_claimCosts 12 = .ok (.iconst 0, 1) := dk_3 (dk_at dksX5_claimCosts_0 12 rfl rfl)
theorem dX5_claimCosts_13 : decode cX5_claimCosts 13 = .ok (.ireturn, 1) := dk_172 (dk_at dksX5_claimCosts_0 13 rfl rfl)
theorem dX5_claimCosts_14 : decode cX5_claimCosts 14 = .ok (.aload_n 0, 1) := dk_42 (dk_at dksX5_claimCosts_0 14 rfl rfl)
theorem dX5_claimCosts_15 : decode cX5_claimCosts 15 = .ok (.iload_n 1, 1) := dk_27 (dk_at dksX5_claimCosts_0 15 rfl rfl)
theorem dX5_claimCosts_16 : decode cX5_claimCosts 16 = .ok (.iconst 5, 1) := dk_8 (dk_at dksX5_claimCosts_0 16 rfl rfl)
theorem dX5_claimCosts_17 : decode cX5_claimCosts 17 = .ok (.invokevirtual 106, 3) := dk_182 0 106 (dk_at dksX5_claimCosts_0 17 rfl rfl)
theorem dX5_claimCosts_20 : decode cX5_claimCosts 20 = .ok (.iconst 1, 1) := dk_4 (dk_at dksX5_claimCosts_0 20 rfl rfl)
theorem dX5_claimCosts_21 : decode cX5_claimCosts 21 = .ok (.if_icmp .gt 26, 3) := dk_163 0 26 (dk_at dksX5_claimCosts_0 21 rfl rfl)
theorem dX5_claimCosts_24 : decode cX5_claimCosts 24 = .ok (.aload_n 0, 1) := dk_42 (dk_at dksX5_claimCosts_1 0 rfl rfl)
theorem dX5_claimCosts_25 : decode cX5_claimCosts 25 = .ok (.iload_n 1, 1) := dk_27 (dk_at dksX5_claimCosts_1 1 rfl rfl)
theorem dX5_claimCosts_26 : decode cX5_claimCosts 26 = .ok (.iconst 2, 1) := dk_5 (dk_at dksX5_claimCosts_1 2 rfl rfl)
theorem dX5_claimCosts_27 : decode cX5_claimCosts 27 = .ok (.invokevirtual 106, 3) := dk_182 0 106 (dk_at dksX5_claimCosts_1 3 rfl rfl)
theorem dX5_claimCosts_30 : decode cX5_claimCosts 30 = .ok (.ifCond .le 17, 3) := dk_158 0 17 (dk_at dksX5_claimCosts_1 6 rfl rfl)
theorem dX5_claimCosts_33 : decode cX5_claimCosts 33 = .ok (.aload_n 0, 1) := dk_42 (dk_at dksX5_claimCosts_1 9 rfl rfl)
theorem dX5_claimCosts_34 : decode cX5_claimCosts 34 = .ok (.iload_n 1, 1) := dk_27 (dk_at dksX5_claimCosts_1 10 rfl rfl)
theorem dX5_claimCosts_35 : decode cX5_claimCosts 35 = .ok (.bipush 9, 2) := dk_16 9 (dk_at dksX5_claimCosts_1 11 rfl rfl)
theorem dX5_claimCosts_37 : decode cX5_claimCosts 37 = .ok (.invokevirtual 106, 3) := dk_182 0 106 (dk_at dksX5_claimCosts_1 13 rfl rfl)
theorem dX5_claimCosts_40 : decode cX5_claimCosts 40 = .ok (.ifCond .le 7, 3) := dk_158 0 7 (dk_at dksX5_claimCosts_1 16 rfl rfl)
theorem dX5_claimCosts_43 : decode cX5_claimCosts 43 = .ok (.iconst 1, 1) := dk_4 (dk_at dksX5_claimCosts_1 19 rfl rfl)
theorem dX5_claimCosts_44 : decode cX5_claimCosts 44 = .ok (.goto 4, 3) := dk_167 0 4 (dk_at dksX5_claimCosts_1 20 rfl rfl)
theorem dX5_claimCosts_47 : decode cX5_claimCosts 47 = .ok (.iconst 0, 1) := dk_3 (dk_at dksX5_claimCosts_1 23 rfl rfl)
theorem dX5_claimCosts_48 : decode cX5_claimCosts 48 = .ok (.istore_n 2, 1) := dk_61 (dk_at dksX5_claimCosts_2 0 rfl rfl)
theorem dX5_claimCosts_49 : decode cX5_claimCosts 49 = .ok (.iload_n 2, 1) := dk_28 (dk_at dksX5_claimCosts_2 1 rfl rfl)
theorem dX5_claimCosts_50 : decode cX5_claimCosts 50 = .ok (.ifCond .eq 19, 3) := dk_153 0 19 (dk_at dksX5_claimCosts_2 2 rfl rfl)
theorem dX5_claimCosts_53 : decode cX5_claimCosts 53 = .ok (.aload_n 0, 1) := dk_42 (dk_at dksX5_claimCosts_2 5 rfl rfl)
theorem dX5_claimCosts_54 : decode cX5_claimCosts 54 = .ok (.iload_n 1, 1) := dk_27 (dk_at dksX5_claimCosts_2 6 rfl rfl)
theorem dX5_claimCosts_55 : decode cX5_claimCosts 55 = .ok (.iconst 0, 1) := dk_3 (dk_at dksX5_claimCosts_2 7 rfl rfl)
theorem dX5_claimCosts_56 : decode cX5_claimCosts 56 = .ok (.invokevirtual 147, 3) := dk_182 0 147 (dk_at dksX5_claimCosts_2 8 rfl rfl)
theorem dX5_claimCosts_59 : decode cX5_claimCosts 59 = .ok (.aload_n 0, 1) := dk_42 (dk_at dksX5_claimCosts_2 11 rfl rfl)
theorem dX5_claimCosts_60 : decode cX5_claimCosts 60 = .ok (.iload_n 1, 1) := dk_27 (dk_at dksX5_claimCosts_2 12 rfl rfl)
theorem dX5_claimCosts_61 : decode cX5_claimCosts 61 = .ok (.iconst 1, 1) := dk_4 (dk_at dksX5_claimCosts_2 13 rfl rfl)
theorem dX5_claimCosts_62 : decode cX5_claimCosts 62 = .ok (.invokevirtual 147, 3) := dk_182 0 147 (dk_at dksX5_claimCosts_2 14 rfl rfl)
theorem dX5_claimCosts_65 : decode cX5_claimCosts 65 = .ok (.isub, 1) := dk_100 (dk_at dksX5_claimCosts_2 17 rfl rfl)
theorem dX5_claimCosts_66 : decode cX5_claimCosts 66 = .ok (.goto 4, 3) := dk_167 0 4 (dk_at dksX5_claimCosts_2 18 rfl rfl)
theorem dX5_claimCosts_69 : decode cX5_claimCosts 69 = .ok (.iconst 0, 1) := dk_3 (dk_at dksX5_claimCosts_2 21 rfl rfl)
theorem dX5_claimCosts_70 : decode cX5_claimCosts 70 = .ok (.ireturn, 1) := dk_172 (dk_at dksX5_claimCosts_2 22 rfl rfl)
abbrev cX5_purseIf : ByteArray := prog_21_method_77_code
def yX5_purseIf : MethodName := ⟨RX5, "purseIf", "(I)I"⟩
def dkwX5_purseIf_2 : List UInt8 := [182, 0, 208, 167, 0, 4, 3, 96, 61, 132, 3, 1, 167, 255, 221, 28, 172]
abbrev dktX5_purseIf_2 : List UInt8 := dkwX5_purseIf_2 ++ []
def dkwX5_purseIf_1 : List UInt8 := [42, 180, 0, 51, 8, 46, 162, 0, 31, 28, 42, 29, 4, 182, 0, 118, 153, 0, 12, 42, 29, 27]
abbrev dktX5_purseIf_1 : List UInt8 := dkwX5_purseIf_1 ++ dktX5_purseIf_2
def dkwX5_purseIf_0 : List UInt8 := [42, 42, 27, 182, 0, 196, 182, 0, 173, 153, 0, 5, 3, 172, 42, 27, 3, 182, 0, 127, 61, 3, 62, 29]
abbrev dktX5_purseIf_0 : List UInt8 := dkwX5_purseIf_0 ++ dktX5_purseIf_1
theorem dksX5_purseIf_0 : cX5_purseIf.data.toList.drop 0 = dktX5_purseIf_0 := by decide +kernel
theorem dksX5_purseIf_1 : cX5_purseIf.data.toList.drop 24 = dktX5_purseIf_1 := dk_seg dksX5_purseIf_0 24 rfl rfl
theorem dksX5_purseIf_2 : cX5_purseIf.data.toList.drop 46 = dktX5_purseIf_2 := dk_seg dksX5_purseIf_1 22 rfl rfl
theorem dX5_purseIf_0 : decode cX5_purseIf 0 = .ok (.aload_n 0, 1) := dk_42 (dk_at dksX5_purseIf_0 0 rfl rfl)
theorem dX5_purseIf_1 : decode cX5_purseIf 1 = .ok (.aload_n 0, 1) := dk_42 (dk_at dksX5_purseIf_0 1 rfl rfl)
theorem dX5_purseIf_2 : decode cX5_purseIf 2 = .ok (.iload_n 1, 1) := dk_27 (dk_at dksX5_purseIf_0 2 rfl rfl)
theorem dX5_purseIf_3 : decode cX5_purseIf 3 = .ok (.invokevirtual 196, 3) := dk_182 0 196 (dk_at dksX5_purseIf_0 3 rfl rfl)
theorem dX5_purseIf_6 : decode cX5_purseIf 6 = .ok (.invokevirtual 173, 3) := dk_182 0 173 (dk_at dksX5_purseIf_0 6 rfl rfl)
theorem dX5_purseIf_9 : decode cX5_purseIf 9 = .ok (.ifCond .eq 5, 3) := dk_153 0 5 (dk_at dksX5_purseIf_0 9 rfl rfl)
theorem dX5_purseIf_12 : decode cX5_purseIf 12 = .ok (.iconst 0, 1) := dk_3 (dk_at dksX5_purseIf_0 12 rfl rfl)
theorem dX5_purseIf_13 : decode cX5_purseIf 13 = .ok (.ireturn, 1) := dk_172 (dk_at dksX5_purseIf_0 13 rfl rfl)
theorem dX5_purseIf_14 : decode cX5_purseIf 14 = .ok (.aload_n 0, 1) := dk_42 (dk_at dksX5_purseIf_0 14 rfl rfl)
theorem dX5_purseIf_15 : decode cX5_purseIf 15 = .ok (.iload_n 1, 1) := dk_27 (dk_at dksX5_purseIf_0 15 rfl rfl)
theorem dX5_purseIf_16 : decode cX5_purseIf 16 = .ok (.iconst 0, 1) := dk_3 (dk_at dksX5_purseIf_0 16 rfl rfl)
theorem dX5_purseIf_17 : decode cX5_purseIf 17 = .ok (.invokevirtual 127, 3) := dk_182 0 127 (dk_at dksX5_purseIf_0 17 rfl rfl)
theorem dX5_purseIf_20 : decode cX5_purseIf 20 = .ok (.istore_n 2, 1) := dk_61 (dk_at dksX5_purseIf_0 20 rfl rfl)
theorem dX5_purseIf_21 : decode cX5_purseIf 21 = .ok (.iconst 0, 1) := dk_3 (dk_at dksX5_purseIf_0 21 rfl rfl)
theorem dX5_purseIf_22 : decode cX5_purseIf 22 = .ok (.istore_n 3, 1) := dk_62 (dk_at dksX5_purseIf_0 22 rfl rfl)
theorem dX5_purseIf_23 : decode cX5_purseIf 23 = .ok (.iload_n 3, 1) := dk_29 (dk_at dksX5_purseIf_0 23 rfl rfl)
theorem dX5_purseIf_24 : decode cX5_purseIf 24 = .ok (.aload_n 0, 1) := dk_42 (dk_at dksX5_purseIf_1 0 rfl rfl)
theorem dX5_purseIf_25 : decode cX5_purseIf 25 = .ok (.getfield 51, 3) := dk_180 0 51 (dk_at dksX5_purseIf_1 1 rfl rfl)
theorem dX5_purseIf_28 : decode cX5_purseIf 28 = .ok (.iconst 5, 1) := dk_8 (dk_at dksX5_purseIf_1 4 rfl rfl)
theorem dX5_purseIf_29 : decode cX5_purseIf 29 = .ok (.iaload, 1) := dk_46 (dk_at dksX5_purseIf_1 5 rfl rfl)
theorem dX5_purseIf_30 : decode cX5_purseIf 30 = .ok (.if_icmp .ge 31, 3) := dk_162 0 31 (dk_at dksX5_purseIf_1 6 rfl rfl)
theorem dX5_purseIf_33 : decode cX5_purseIf 33 = .ok (.iload_n 2, 1) := dk_28 (dk_at dksX5_purseIf_1 9 rfl rfl)
theorem dX5_purseIf_34 : decode cX5_purseIf 34 = .ok (.aload_n 0, 1) := dk_42 (dk_at dksX5_purseIf_1 10 rfl rfl)
theorem dX5_purseIf_35 : decode cX5_purseIf 35 = .ok (.iload_n 3, 1) := dk_29 (dk_at dksX5_purseIf_1 11 rfl rfl)
theorem dX5_purseIf_36 : decode cX5_purseIf 36 = .ok (.iconst 1, 1) := dk_4 (dk_at dksX5_purseIf_1 12 rfl rfl)
theorem dX5_purseIf_37 : decode cX5_purseIf 37 = .ok (.invokevirtual 118, 3) := dk_182 0 118 (dk_at dksX5_purseIf_1 13 rfl rfl)
theorem dX5_purseIf_40 : decode cX5_purseIf 40 = .ok (.ifCond .eq 12, 3) := dk_153 0 12 (dk_at dksX5_purseIf_1 16 rfl rfl)
theorem dX5_purseIf_43 : decode cX5_purseIf 43 = .ok (.aload_n 0, 1) := dk_42 (dk_at dksX5_purseIf_1 19 rfl rfl)
theorem dX5_purseIf_44 : decode cX5_purseIf 44 = .ok (.iload_n 3, 1) := dk_29 (dk_at dksX5_purseIf_1 20 rfl rfl)
theorem dX5_purseIf_45 : decode cX5_purseIf 45 = .ok (.iload_n 1, 1) := dk_27 (dk_at dksX5_purseIf_1 21 rfl rfl)
theorem dX5_purseIf_46 : decode cX5_purseIf 46 = .ok (.invokevirtual 208, 3) := dk_182 0 208 (dk_at dksX5_purseIf_2 0 rfl rfl)
theorem dX5_purseIf_49 : decode cX5_purseIf 49 = .ok (.goto 4, 3) := dk_167 0 4 (dk_at dksX5_purseIf_2 3 rfl rfl)
theorem dX5_purseIf_52 : decode cX5_purseIf 52 = .ok (.iconst 0, 1) := dk_3 (dk_at dksX5_purseIf_2 6 rfl rfl)
theorem dX5_purseIf_53 : decode cX5_purseIf 53 = .ok (.iadd, 1) := dk_96 (dk_at dksX5_purseIf_2 7 rfl rfl)
theorem dX5_purseIf_54 : decode cX5_purseIf 54 = .ok (.istore_n 2, 1) := dk_61 (dk_at dksX5_purseIf_2 8 rfl rfl)
theorem dX5_purseIf_55 : decode cX5_purseIf 55 = .ok (.iinc 3 1, 3) := dk_132 3 1 (dk_at dksX5_purseIf_2 9 rfl rfl)
theorem dX5_purseIf_58 : decode cX5_purseIf 58 = .ok (.goto (-35), 3) := dk_167 255 221 (dk_at dksX5_purseIf_2 12 rfl rfl)
theorem dX5_purseIf_61 : decode cX5_purseIf 61 = .ok (.iload_n 2, 1) := dk_28 (dk_at dksX5_purseIf_2 15 rfl rfl)
theorem dX5_purseIf_62 : decode cX5_purseIf 62 = .ok (.ireturn, 1) := dk_172 (dk_at dksX5_purseIf_2 16 rfl rfl)
abbrev cX5_why : ByteArray := prog_21_method_78_code
def yX5_why : MethodName := ⟨RX5, "why", "(I)I"⟩
def dkwX5_why_0 : List UInt8 := [42, 42, 27, 182, 0, 190, 182, 0, 173, 153, 0, 7, 3, 167, 0, 8, 42, 27, 182, 0, 224, 172]
abbrev dktX5_why_0 : List UInt8 := dkwX5_why_0 ++ []
theorem dksX5_why_0 : cX5_why.data.toList.drop 0 = dktX5_why_0 := by decide +kernel
theorem dX5_why_0 : decode cX5_why 0 = .ok (.aload_n 0, 1) := dk_42 (dk_at dksX5_why_0 0 rfl rfl)
theorem dX5_why_1 : decode cX5_why 1 = .ok (.aload_n 0, 1) := dk_42 (dk_at dksX5_why_0 1 rfl rfl)
theorem dX5_why_2 : decode cX5_why 2 = .ok (.iload_n 1, 1) := dk_27 (dk_at dksX5_why_0 2 rfl rfl)
theorem dX5_why_3 : decode cX5_why 3 = .ok (.invokevirtual 190, 3) := dk_182 0 190 (dk_at dksX5_why_0 3 rfl rfl)
theorem dX5_why_6 : decode cX5_why 6 = .ok (.invokevirtual 173, 3) := dk_182 0 173 (dk_at dksX5_why_0 6 rfl rfl)
theorem dX5_why_9 : decode cX5_why 9 = .ok (.ifCond .eq 7, 3) := dk_153 0 7 (dk_at dksX5_why_0 9 rfl rfl)
theorem dX5_why_12 : decode cX5_why 12 = .ok (.iconst 0, 1) := dk_3 (dk_at dksX5_why_0 12 rfl rfl)
theorem dX5_why_13 : decode cX5_why 13 = .ok (.goto 8, 3) := dk_167 0 8 (dk_at dksX5_why_0 13 rfl rfl)
theorem dX5_why_16 : decode cX5_why 16 = .ok (.aload_n 0, 1) := dk_42 (dk_at dksX5_why_0 16 rfl rfl)
theorem dX5_why_17 : decode cX5_why 17 = .ok (.iload_n 1, 1) := dk_27 (dk_at dksX5_why_0 17 rfl rfl)
theorem dX5_why_18 : decode cX5_why 18 = .ok (.invokevirtual 224, 3) := dk_182 0 224 (dk_at dksX5_why_0 18 rfl rfl)
theorem dX5_why_21 : decode cX5_why 21 = .ok (.ireturn, 1) := dk_172 (dk_at dksX5_why_0 21 rfl rfl)
abbrev cX5_haulRefusal : ByteArray := prog_21_method_40_code
def yX5_haulRefusal : MethodName := ⟨RX5, "haulRefusal", "(I)I"⟩
def dkwX5_haulRefusal_2 : List UInt8 := [167, 0, 4, 3, 172]
abbrev dktX5_haulRefusal_2 : List UInt8 := dkwX5_haulRefusal_2 ++ []
def dkwX5_haulRefusal_1 : List UInt8 := [154, 0, 6, 16, 253, 172, 42, 27, 16, 9, 182, 0, 106, 42, 27, 7, 182, 0, 106, 162, 0, 8, 16, 252]
abbrev dktX5_haulRefusal_1 : List UInt8 := dkwX5_haulRefusal_1 ++ dktX5_haulRefusal_2
def dkwX5_haulRefusal_0 : List UInt8 := [42, 27, 3, 182, 0, 118, 154, 0, 6, 16, 254, 172, 42, 27, 42, 180, 0, 51, 3, 46, 182, 0, 114]
abbrev dktX5_haulRefusal_0 : List UInt8 := dkwX5_haulRefusal_0 ++ dktX5_haulRefusal_1
theorem dksX5_haulRefusal_0 : cX5_haulRefusal.data.toList.drop 0 = dktX5_haulRefusal_0 := by decide +kernel
theorem dksX5_haulRefusal_1 : cX5_haulRefusal.data.toList.drop 23 = dktX5_haulRefusal_1 := dk_seg dksX5_haulRefusal_0 23 rfl rfl
theorem dksX5_haulRefusal_2 : cX5_haulRefusal.data.toList.drop 47 = dktX5_haulRefusal_2 := dk_seg dksX5_haulRefusal_1 24 rfl rfl
theorem dX5_haulRefusal_0 : decode cX5_haulRefusal 0 = .ok (.aload_n 0, 1) := dk_42 (dk_at dksX5_haulRefusal_0 0 rfl rfl)
theorem dX5_haulRefusal_1 : decode cX5_haulRefusal 1 = .ok (.iload_n 1, 1) := dk_27 (dk_at dksX5_haulRefusal_0 1 rfl rfl)
theorem dX5_haulRefusal_2 : decode cX5_haulRefusal 2 = .ok (.iconst 0, 1) := dk_3 (dk_at dksX5_haulRefusal_0 2 rfl rfl)
theorem dX5_haulRefusal_3 : decode cX5_haulRefusal 3 = .ok (.invokevirtual 118, 3) := dk_182 0 118 (dk_at dksX5_haulRefusal_0 3 rfl rfl)
theorem dX5_haulRefusal_6 : decode cX5_haulRefusal 6 = .ok (.ifCond .ne 6, 3) := dk_154 0 6 (dk_at dksX5_haulRefusal_0 6 rfl rfl)
theorem dX5_haulRefusal_9 : decode cX5_haulRefusal 9 = .ok (.bipush (-2), 2) := dk_16 254 (dk_at dksX5_haulRefusal_0 9 rfl rfl)
theorem dX5_haulRefusal_11 : decode cX5_haulRefusal 11 = .ok (.ireturn, 1) := dk_172 (dk_at dksX5_haulRefusal_0 11 rfl rfl)
theorem dX5_haulRefusal_12 : decode cX5_haulRefusal 12 = .ok (.aload_n 0, 1) := dk_42 (dk_at dksX5_haulRefusal_0 12 rfl rfl)
theorem dX5_haulRefusal_13 : decode cX5_haulRefusal 13 = .ok (.iload_n 1, 1) := dk_27 (dk_at dksX5_haulRefusal_0 13 rfl rfl)
theorem dX5_haulRefusal_14 : decode cX5_haulRefusal 14 = .ok (.aload_n 0, 1) := dk_42 (dk_at dksX5_haulRefusal_0 14 rfl rfl)
theorem dX5_haulRefusal_15 : decode cX5_haulRefusal 15 = .ok (.getfield 51, 3) := dk_180 0 51 (dk_at dksX5_haulRefusal_0 15 rfl rfl)
theorem dX5_haulRefusal_18 : decode cX5_haulRefusal 18 = .ok (.iconst 0, 1) := dk_3 (dk_at dksX5_haulRefusal_0 18 rfl rfl)
theorem dX5_haulRefusal_19 : decode cX5_haulRefusal 19 = .ok (.iaload, 1) := dk_46 (dk_at dksX5_haulRefusal_0 19 rfl rfl)
theorem dX5_haulRefusal_20 : decode cX5_haulRefusal 20 = .ok (.invokevirtual 114, 3) := dk_182 0 114 (dk_at dksX5_haulRefusal_0 20 rfl rfl)
theorem dX5_haulRefusal_23 : decode cX5_haulRefusal 23 = .ok (.ifCond .ne 6, 3) := dk_154 0 6 (dk_at dksX5_haulRefusal_1 0 rfl rfl)
theorem dX5_haulRefusal_26 : decode cX5_haulRefusal 26 = .ok (.bipush (-3), 2) := dk_16 253 (dk_at dksX5_haulRefusal_1 3 rfl rfl)
theorem dX5_haulRefusal_28 : decode cX5_haulRefusal 28 = .ok (.ireturn, 1) := dk_172 (dk_at dksX5_haulRefusal_1 5 rfl rfl)
theorem dX5_haulRefusal_29 : decode cX5_haulRefusal 29 = .ok (.aload_n 0, 1) := dk_42 (dk_at dksX5_haulRefusal_1 6 rfl rfl)
theorem dX5_haulRefusal_30 : decode cX5_haulRefusal 30 = .ok (.iload_n 1, 1) := dk_27 (dk_at dksX5_haulRefusal_1 7 rfl rfl)
theorem dX5_haulRefusal_31 : decode cX5_haulRefusal 31 = .ok (.bipush 9, 2) := dk_16 9 (dk_at dksX5_haulRefusal_1 8 rfl rfl)
theorem dX5_haulRefusal_33 : decode cX5_haulRefusal 33 = .ok (.invokevirtual 106, 3) := dk_182 0 106 (dk_at dksX5_haulRefusal_1 10 rfl rfl)
theorem dX5_haulRefusal_36 : decode cX5_haulRefusal 36 = .ok (.aload_n 0, 1) := dk_42 (dk_at dksX5_haulRefusal_1 13 rfl rfl)
theorem dX5_haulRefusal_37 : decode cX5_haulRefusal 37 = .ok (.iload_n 1, 1) := dk_27 (dk_at dksX5_haulRefusal_1 14 rfl rfl)
theorem dX5_haulRefusal_38 : decode cX5_haulRefusal 38 = .ok (.iconst 4, 1) := dk_7 (dk_at dksX5_haulRefusal_1 15 rfl rfl)
theorem dX5_haulRefusal_39 : decode cX5_haulRefusal 39 = .ok (.invokevirtual 106, 3) := dk_182 0 106 (dk_at dksX5_haulRefusal_1 16 rfl rfl)
theorem dX5_haulRefusal_42 : decode cX5_haulRefusal 42 = .ok (.if_icmp .ge 8, 3) := dk_162 0 8 (dk_at dksX5_haulRefusal_1 19 rfl rfl)
theorem dX5_haulRefusal_45 : decode cX5_haulRefusal 45 = .ok (.bipush (-4), 2) := dk_16 252 (dk_at dksX5_haulRefusal_1 22 rfl rfl)
theorem dX5_haulRefusal_47 : decode cX5_haulRefusal 47 = .ok (.goto 4, 3) := dk_167 0 4 (dk_at dksX5_haulRefusal_2 0 rfl rfl)
theorem dX5_haulRefusal_50 : decode cX5_haulRefusal 50 = .ok (.iconst 0, 1) := dk_3 (dk_at dksX5_haulRefusal_2 3 rfl rfl)
theorem dX5_haulRefusal_51 : decode cX5_haulRefusal 51 = .ok (.ireturn, 1) := dk_172 (dk_at dksX5_haulRefusal_2 4 rfl rfl)
abbrev cX5_cause : ByteArray := prog_21_method_79_code
def yX5_cause : MethodName := ⟨RX5, "cause", "(I)I"⟩
def dkwX5_cause_3 : List UInt8 := [182, 0, 106, 100, 172, 2, 172]
abbrev dktX5_cause_3 : List UInt8 := dkwX5_cause_3 ++ []
def dkwX5_cause_2 : List UInt8 := [42, 27, 8, 182, 0, 106, 172, 42, 27, 182, 0, 215, 172, 42, 27, 7, 182, 0, 106, 42, 27, 16, 9]
abbrev dktX5_cause_2 : List UInt8 := dkwX5_cause_2 ++ dktX5_cause_3
def dkwX5_cause_1 : List UInt8 := [170, 0, 0, 0, 53, 255, 255, 255, 252, 255, 255, 255, 254, 0, 0, 0, 38, 0, 0, 0, 32, 0, 0, 0, 25]
abbrev dktX5_cause_1 : List UInt8 := dkwX5_cause_1 ++ dktX5_cause_2
def dkwX5_cause_0 : List UInt8 := [42, 42, 27, 182, 0, 190, 182, 0, 173, 153, 0, 5, 3, 172, 42, 27, 182, 0, 224]
abbrev dktX5_cause_0 : List UInt8 := dkwX5_cause_0 ++ dktX5_cause_1
theorem dksX5_cause_0 : cX5_cause.data.toList.drop 0 = dktX5_cause_0 := by decide +kernel
theorem dksX5_cause_1 : cX5_cause.data.toList.drop 19 = dktX5_cause_1 := dk_seg dksX5_cause_0 19 rfl rfl
theorem dksX5_cause_2 : cX5_cause.data.toList.drop 44 = dktX5_cause_2 := dk_seg dksX5_cause_1 25 rfl rfl
theorem dksX5_cause_3 : cX5_cause.data.toList.drop 67 = dktX5_cause_3 := dk_seg dksX5_cause_2 23 rfl rfl
theorem dX5_cause_0 : decode cX5_cause 0 = .ok (.aload_n 0, 1) := dk_42 (dk_at dksX5_cause_0 0 rfl rfl)
theorem dX5_cause_1 : decode cX5_cause 1 = .ok (.aload_n 0, 1) := dk_42 (dk_at dksX5_cause_0 1 rfl rfl)
theorem dX5_cause_2 : decode cX5_cause 2 = .ok (.iload_n 1, 1) := dk_27 (dk_at dksX5_cause_0 2 rfl rfl)
theorem dX5_cause_3 : decode cX5_cause 3 = .ok (.invokevirtual 190, 3) := dk_182 0 190 (dk_at dksX5_cause_0 3 rfl rfl)
theorem dX5_cause_6 : decode cX5_cause 6 = .ok (.invokevirtual 173, 3) := dk_182 0 173 (dk_at dksX5_cause_0 6 rfl rfl)
theorem dX5_cause_9 : decode cX5_cause 9 = .ok (.ifCond .eq 5, 3) := dk_153 0 5 (dk_at dksX5_cause_0 9 rfl rfl)
theorem dX5_cause_12 : decode cX5_cause 12 = .ok (.iconst 0, 1) := dk_3 (dk_at dksX5_cause_0 12 rfl rfl)
theorem dX5_cause_13 : decode cX5_cause 13 = .ok (.ireturn, 1) := dk_172 (dk_at dksX5_cause_0 13 rfl rfl)
theorem dX5_cause_14 : decode cX5_cause 14 = .ok (.aload_n 0, 1) := dk_42 (dk_at dksX5_cause_0 14 rfl rfl)
theorem dX5_cause_15 : decode cX5_cause 15 = .ok (.iload_n 1, 1) := dk_27 (dk_at dksX5_cause_0 15 rfl rfl)
theorem dX5_cause_16 : decode cX5_cause 16 = .ok (.invokevirtual 224, 3) := dk_182 0 224 (dk_at dksX5_cause_0 16 rfl rfl)
theorem dX5_cause_19 : decode cX5_cause 19 = .ok (.tableswitch 53 (-4) (-2) #[38, 32, 25], 25) := by decide +kernel
theorem dX5_cause_44 : decode cX5_cause 44 = .ok (.aload_n 0, 1) := dk_42 (dk_at dksX5_cause_2 0 rfl rfl)
theorem dX5_cause_45 : decode cX5_cause 45 = .ok (.iload_n 1, 1) := dk_27 (dk_at dksX5_cause_2 1 rfl rfl)
theorem dX5_cause_46 : decode cX5_cause 46 = .ok (.iconst 5, 1) := dk_8 (dk_at dksX5_cause_2 2 rfl rfl)
theorem dX5_cause_47 : decode cX5_cause 47 = .ok (.invokevirtual 106, 3) := dk_182 0 106 (dk_at dksX5_cause_2 3 rfl rfl)
theorem dX5_cause_50 : decode cX5_cause 50 = .ok (.ireturn, 1) := dk_172 (dk_at dksX5_cause_2 6 rfl rfl)
theorem dX5_cause_51 : decode cX5_cause 51 = .ok (.aload_n 0, 1) := dk_42 (dk_at dksX5_cause_2 7 rfl rfl)
theorem dX5_cause_52 : decode cX5_cause 52 = .ok (.iload_n 1, 1) := dk_27 (dk_at dksX5_cause_2 8 rfl rfl)
theorem dX5_cause_53 : decode cX5_cause 53 = .ok (.invokevirtual 215, 3) := dk_182 0 215 (dk_at dksX5_cause_2 9 rfl rfl)
theorem dX5_cause_56 : decode cX5_cause 56 = .ok (.ireturn, 1) := dk_172 (dk_at dksX5_cause_2 12 rfl rfl)
theorem dX5_cause_57 : decode cX5_cause 57 = .ok (.aload_n 0, 1) := dk_42 (dk_at dksX5_cause_2 13 rfl rfl)
theorem dX5_cause_58 : decode cX5_cause 58 = .ok (.iload_n 1, 1) := dk_27 (dk_at dksX5_cause_2 14 rfl rfl)
theorem dX5_cause_59 : decode cX5_cause 59 = .ok (.iconst 4, 1) := dk_7 (dk_at dksX5_cause_2 15 rfl rfl)
theorem dX5_cause_60 : decode cX5_cause 60 = .ok (.invokevirtual 106, 3) := dk_182 0 106 (dk_at dksX5_cause_2 16 rfl rfl)
theorem dX5_cause_63 : decode cX5_cause 63 = .ok (.aload_n 0, 1) := dk_42 (dk_at dksX5_cause_2 19 rfl rfl)
theorem dX5_cause_64 : decode cX5_cause 64 = .ok (.iload_n 1, 1) := dk_27 (dk_at dksX5_cause_2 20 rfl rfl)
theorem dX5_cause_65 : decode cX5_cause 65 = .ok (.bipush 9, 2) := dk_16 9 (dk_at dksX5_cause_2 21 rfl rfl)
theorem dX5_cause_67 : decode cX5_cause 67 = .ok (.invokevirtual 106, 3) := dk_182 0 106 (dk_at dksX5_cause_3 0 rfl rfl)
theorem dX5_cause_70 : decode cX5_cause 70 = .ok (.isub, 1) := dk_100 (dk_at dksX5_cause_3 3 rfl rfl)
theorem dX5_cause_71 : decode cX5_cause 71 = .ok (.ireturn, 1) := dk_172 (dk_at dksX5_cause_3 4 rfl rfl)
theorem dX5_cause_72 : decode cX5_cause 72 = .ok (.iconst (-1), 1) := dk_2 (dk_at dksX5_cause_3 5 rfl rfl)
theorem dX5_cause_73 : decode cX5_cause 73 = .ok (.ireturn, 1) := dk_172 (dk_at dksX5_cause_3 6 rfl rfl)
abbrev cX5_whyDivide : ByteArray := prog_21_method_80_code
def yX5_whyDivide : MethodName := ⟨RX5, "whyDivide", "(I)I"⟩
def dkwX5_whyDivide_0 : List UInt8 := [42, 42, 27, 182, 0, 190, 182, 0, 173, 153, 0, 7, 3, 167, 0, 8, 42, 27, 182, 0, 227, 172]
abbrev dktX5_whyDivide_0 : List UInt8 := dkwX5_whyDivide_0 ++ []
theorem dksX5_whyDivide_0 : cX5_whyDivide.data.toList.drop 0 = dktX5_whyDivide_0 := by decide +kernel
theorem dX5_whyDivide_0 : decode cX5_whyDivide 0 = .ok (.aload_n 0, 1) := dk_42 (dk_at dksX5_whyDivide_0 0 rfl rfl)
theorem dX5_whyDivide_1 : decode cX5_whyDivide 1 = .ok (.aload_n 0, 1) := dk_42 (dk_at dksX5_whyDivide_0 1 rfl rfl)
theorem dX5_whyDivide_2 : decode cX5_whyDivide 2 = .ok (.iload_n 1, 1) := dk_27 (dk_at dksX5_whyDivide_0 2 rfl rfl)
theorem dX5_whyDivide_3 : decode cX5_whyDivide 3 = .ok (.invokevirtual 190, 3) := dk_182 0 190 (dk_at dksX5_whyDivide_0 3 rfl rfl)
theorem dX5_whyDivide_6 : decode cX5_whyDivide 6 = .ok (.invokevirtual 173, 3) := dk_182 0 173 (dk_at dksX5_whyDivide_0 6 rfl rfl)
theorem dX5_whyDivide_9 : decode cX5_whyDivide 9 = .ok (.ifCond .eq 7, 3) := dk_153 0 7 (dk_at dksX5_whyDivide_0 9 rfl rfl)
theorem dX5_whyDivide_12 : decode cX5_whyDivide 12 = .ok (.iconst 0, 1) := dk_3 (dk_at dksX5_whyDivide_0 12 rfl rfl)
theorem dX5_whyDivide_13 : decode cX5_whyDivide 13 = .ok (.goto 8, 3) := dk_167 0 8 (dk_at dksX5_whyDivide_0 13 rfl rfl)
theorem dX5_whyDivide_16 : decode cX5_whyDivide 16 = .ok (.aload_n 0, 1) := dk_42 (dk_at dksX5_whyDivide_0 16 rfl rfl)
theorem dX5_whyDivide_17 : decode cX5_whyDivide 17 = .ok (.iload_n 1, 1) := dk_27 (dk_at dksX5_whyDivide_0 17 rfl rfl)
theorem dX5_whyDivide_18 : decode cX5_whyDivide 18 = .ok (.invokevirtual 227, 3) := dk_182 0 227 (dk_at dksX5_whyDivide_0 18 rfl rfl)
theorem dX5_whyDivide_21 : decode cX5_whyDivide 21 = .ok (.ireturn, 1) := dk_172 (dk_at dksX5_whyDivide_0 21 rfl rfl)
abbrev cX5_divideRefusal : ByteArray := prog_21_method_41_code
def yX5_divideRefusal : MethodName := ⟨RX5, "divideRefusal", "(I)I"⟩
def dkwX5_divideRefusal_1 : List UInt8 := [3, 46, 42, 27, 16, 7, 182, 0, 106, 164, 0, 7, 3, 167, 0, 5, 16, 253, 172]
abbrev dktX5_divideRefusal_1 : List UInt8 := dkwX5_divideRefusal_1 ++ []
def dkwX5_divideRefusal_0 : List UInt8 := [42, 27, 4, 182, 0, 118, 154, 0, 6, 16, 254, 172, 42, 27, 182, 0, 143, 154, 0, 19, 42, 180, 0, 51]
abbrev dktX5_divideRefusal_0 : List UInt8 := dkwX5_divideRefusal_0 ++ dktX5_divideRefusal_1
theorem dksX5_divideRefusal_0 : cX5_divideRefusal.data.toList.drop 0 = dktX5_divideRefusal_0 := by decide +kernel
theorem dksX5_divideRefusal_1 : cX5_divideRefusal.data.toList.drop 24 = dktX5_divideRefusal_1 := dk_seg dksX5_divideRefusal_0 24 rfl rfl
theorem dX5_divideRefusal_0 : decode cX5_divideRefusal 0 = .ok (.aload_n 0, 1) := dk_42 (dk_at dksX5_divideRefusal_0 0 rfl rfl)
theorem dX5_divideRefusal_1 : decode cX5_divideRefusal 1 = .ok (.iload_n 1, 1) := dk_27 (dk_at dksX5_divideRefusal_0 1 rfl rfl)
theorem dX5_divideRefusal_2 : decode cX5_divideRefusal 2 = .ok (.iconst 1, 1) := dk_4 (dk_at dksX5_divideRefusal_0 2 rfl rfl)
theorem dX5_divideRefusal_3 : decode cX5_divideRefusal 3 = .ok (.invokevirtual 118, 3) := dk_182 0 118 (dk_at dksX5_divideRefusal_0 3 rfl rfl)
theorem dX5_divideRefusal_6 : decode cX5_divideRefusal 6 = .ok (.ifCond .ne 6, 3) := dk_154 0 6 (dk_at dksX5_divideRefusal_0 6 rfl rfl)
theorem dX5_divideRefusal_9 : decode cX5_divideRefusal 9 = .ok (.bipush (-2), 2) := dk_16 254 (dk_at dksX5_divideRefusal_0 9 rfl rfl)
theorem dX5_divideRefusal_11 : decode cX5_divideRefusal 11 = .ok (.ireturn, 1) := dk_172 (dk_at dksX5_divideRefusal_0 11 rfl rfl)
theorem dX5_divideRefusal_12 : decode cX5_divideRefusal 12 = .ok (.aload_n 0, 1) := dk_42 (dk_at dksX5_divideRefusal_0 12 rfl rfl)
theorem dX5_divideRefusal_13 : decode cX5_divideRefusal 13 = .ok (.iload_n 1, 1) := dk_27 (dk_at dksX5_divideRefusal_0 13 rfl rfl)
theorem dX5_divideRefusal_14 : decode cX5_divideRefusal 14 = .ok (.invokevirtual 143, 3) := dk_182 0 143 (dk_at dksX5_divideRefusal_0 14 rfl rfl)
theorem dX5_divideRefusal_17 : decode cX5_divideRefusal 17 = .ok (.ifCond .ne 19, 3) := dk_154 0 19 (dk_at dksX5_divideRefusal_0 17 rfl rfl)
theorem dX5_divideRefusal_20 : decode cX5_divideRefusal 20 = .ok (.aload_n 0, 1) := dk_42 (dk_at dksX5_divideRefusal_0 20 rfl rfl)
theorem dX5_divideRefusal_21 : decode cX5_divideRefusal 21 = .ok (.getfield 51, 3) := dk_180 0 51 (dk_at dksX5_divideRefusal_0 21 rfl rfl)
theorem dX5_divideRefusal_24 : decode cX5_divideRefusal 24 = .ok (.iconst 0, 1) := dk_3 (dk_at dksX5_divideRefusal_1 0 rfl rfl)
theorem dX5_divideRefusal_25 : decode cX5_divideRefusal 25 = .ok (.iaload, 1) := dk_46 (dk_at dksX5_divideRefusal_1 1 rfl rfl)
theorem dX5_divideRefusal_26 : decode cX5_divideRefusal 26 = .ok (.aload_n 0, 1) := dk_42 (dk_at dksX5_divideRefusal_1 2 rfl rfl)
theorem dX5_divideRefusal_27 : decode cX5_divideRefusal 27 = .ok (.iload_n 1, 1) := dk_27 (dk_at dksX5_divideRefusal_1 3 rfl rfl)
theorem dX5_divideRefusal_28 : decode cX5_divideRefusal 28 = .ok (.bipush 7, 2) := dk_16 7 (dk_at dksX5_divideRefusal_1 4 rfl rfl)
theorem dX5_divideRefusal_30 : decode cX5_divideRefusal 30 = .ok (.invokevirtual 106, 3) := dk_182 0 106 (dk_at dksX5_divideRefusal_1 6 rfl rfl)
theorem dX5_divideRefusal_33 : decode cX5_divideRefusal 33 = .ok (.if_icmp .le 7, 3) := dk_164 0 7 (dk_at dksX5_divideRefusal_1 9 rfl rfl)
theorem dX5_divideRefusal_36 : decode cX5_divideRefusal 36 = .ok (.iconst 0, 1) := dk_3 (dk_at dksX5_divideRefusal_1 12 rfl rfl)
theorem dX5_divideRefusal_37 : decode cX5_divideRefusal 37 = .ok (.goto 5, 3) := dk_167 0 5 (dk_at dksX5_divideRefusal_1 13 rfl rfl)
theorem dX5_divideRefusal_40 : decode cX5_divideRefusal 40 = .ok (.bipush (-3), 2) := dk_16 253 (dk_at dksX5_divideRefusal_1 16 rfl rfl)
theorem dX5_divideRefusal_42 : decode cX5_divideRefusal 42 = .ok (.ireturn, 1) := dk_172 (dk_at dksX5_divideRefusal_1 18 rfl rfl)
abbrev cX5_bestHaul : ByteArray := prog_21_method_81_code
def yX5_bestHaul : MethodName := ⟨RX5, "bestHaul", "()I"⟩
def dkwX5_bestHaul_4 : List UInt8 := [164, 0, 7, 29, 167, 0, 4, 27, 60, 132, 3, 1, 167, 255, 164, 27, 172]
abbrev dktX5_bestHaul_4 : List UInt8 := dkwX5_bestHaul_4 ++ []
def dkwX5_bestHaul_3 : List UInt8 := [21, 4, 153, 0, 27, 27, 2, 159, 0, 18, 42, 29, 4, 182, 0, 106, 42, 27, 4, 182, 0, 106]
abbrev dktX5_bestHaul_3 : List UInt8 := dkwX5_bestHaul_3 ++ dktX5_bestHaul_4
def dkwX5_bestHaul_2 : List UInt8 := [29, 16, 9, 182, 0, 106, 28, 96, 42, 29, 7, 182, 0, 106, 161, 0, 7, 4, 167, 0, 4, 3, 54, 4]
abbrev dktX5_bestHaul_2 : List UInt8 := dkwX5_bestHaul_2 ++ dktX5_bestHaul_3
def dkwX5_bestHaul_1 : List UInt8 := [42, 29, 3, 182, 0, 118, 153, 0, 39, 42, 29, 42, 180, 0, 51, 3, 46, 182, 0, 114, 153, 0, 25, 42]
abbrev dktX5_bestHaul_1 : List UInt8 := dkwX5_bestHaul_1 ++ dktX5_bestHaul_2
def dkwX5_bestHaul_0 : List UInt8 := [42, 3, 181, 0, 92, 2, 60, 42, 182, 0, 180, 61, 3, 62, 29, 42, 180, 0, 51, 8, 46, 162, 0, 88]
abbrev dktX5_bestHaul_0 : List UInt8 := dkwX5_bestHaul_0 ++ dktX5_bestHaul_1
theorem dksX5_bestHaul_0 : cX5_bestHaul.data.toList.drop 0 = dktX5_bestHaul_0 := by decide +kernel
theorem dksX5_bestHaul_1 : cX5_bestHaul.data.toList.drop 24 = dktX5_bestHaul_1 := dk_seg dksX5_bestHaul_0 24 rfl rfl
theorem dksX5_bestHaul_2 : cX5_bestHaul.data.toList.drop 48 = dktX5_bestHaul_2 := dk_seg dksX5_bestHaul_1 24 rfl rfl
theorem dksX5_bestHaul_3 : cX5_bestHaul.data.toList.drop 72 = dktX5_bestHaul_3 := dk_seg dksX5_bestHaul_2 24 rfl rfl
theorem dksX5_bestHaul_4 : cX5_bestHaul.data.toList.drop 94 = dktX5_bestHaul_4 := dk_seg dksX5_bestHaul_3 22 rfl rfl
theorem dX5_bestHaul_0 : decode cX5_bestHaul 0 = .ok (.aload_n 0, 1) := dk_42 (dk_at dksX5_bestHaul_0 0 rfl rfl)
theorem dX5_bestHaul_1 : decode cX5_bestHaul 1 = .ok (.iconst 0, 1) := dk_3 (dk_at dksX5_bestHaul_0 1 rfl rfl)
theorem dX5_bestHaul_2 : decode cX5_bestHaul 2 = .ok (.putfield 92, 3) := dk_181 0 92 (dk_at dksX5_bestHaul_0 2 rfl rfl)
theorem dX5_bestHaul_5 : decode cX5_bestHaul 5 = .ok (.iconst (-1), 1) := dk_2 (dk_at dksX5_bestHaul_0 5 rfl rfl)
theorem dX5_bestHaul_6 : decode cX5_bestHaul 6 = .ok (.istore_n 1, 1) := dk_60 (dk_at dksX5_bestHaul_0 6 rfl rfl)
theorem dX5_bestHaul_7 : decode cX5_bestHaul 7 = .ok (.aload_n 0, 1) := dk_42 (dk_at dksX5_bestHaul_0 7 rfl rfl)
theorem dX5_bestHaul_8 : decode cX5_bestHaul 8 = .ok (.invokevirtual 180, 3) := dk_182 0 180 (dk_at dksX5_bestHaul_0 8 rfl rfl)
theorem dX5_bestHaul_11 : decode cX5_bestHaul 11 = .ok (.istore_n 2, 1) := dk_61 (dk_at dksX5_bestHaul_0 11 rfl rfl)
theorem dX5_bestHaul_12 : decode cX5_bestHaul 12 = .ok (.iconst 0, 1) := dk_3 (dk_at dksX5_bestHaul_0 12 rfl rfl)
theorem dX5_bestHaul_13 : decode cX5_bestHaul 13 = .ok (.istore_n 3, 1) := dk_62 (dk_at dksX5_bestHaul_0 13 rfl rfl)
theorem dX5_bestHaul_14 : decode cX5_bestHaul 14 = .ok (.iload_n 3, 1) := dk_29 (dk_at dksX5_bestHaul_0 14 rfl rfl)
theorem dX5_bestHaul_15 : decode cX5_bestHaul 15 = .ok (.aload_n 0, 1) := dk_42 (dk_at dksX5_bestHaul_0 15 rfl rfl)
theorem dX5_bestHaul_16 : decode cX5_bestHaul 16 = .ok (.getfield 51, 3) := dk_180 0 51 (dk_at dksX5_bestHaul_0 16 rfl rfl)
theorem dX5_bestHaul_19 : decode cX5_bestHaul 19 = .ok (.iconst 5, 1) := dk_8 (dk_at dksX5_bestHaul_0 19 rfl rfl)
theorem dX5_bestHaul_20 : decode cX5_bestHaul 20 = .ok (.iaload, 1) := dk_46 (dk_at dksX5_bestHaul_0 20 rfl rfl)
theorem dX5_bestHaul_21 : decode cX5_bestHaul 21 = .ok (.if_icmp .ge 88, 3) := dk_162 0 88 (dk_at dksX5_bestHaul_0 21 rfl rfl)
theorem dX5_bestHaul_24 : decode cX5_bestHaul 24 = .ok (.aload_n 0, 1) := dk_42 (dk_at dksX5_bestHaul_1 0 rfl rfl)
theorem dX5_bestHaul_25 : decode cX5_bestHaul 25 = .ok (.iload_n 3, 1) := dk_29 (dk_at dksX5_bestHaul_1 1 rfl rfl)
theorem dX5_bestHaul_26 : decode cX5_bestHaul 26 = .ok (.iconst 0, 1) := dk_3 (dk_at dksX5_bestHaul_1 2 rfl rfl)
theorem dX5_bestHaul_27 : decode cX5_bestHaul 27 = .ok (.invokevirtual 118, 3) := dk_182 0 118 (dk_at dksX5_bestHaul_1 3 rfl rfl)
theorem dX5_bestHaul_30 : decode cX5_bestHaul 30 = .ok (.ifCond .eq 39, 3) := dk_153 0 39 (dk_at dksX5_bestHaul_1 6 rfl rfl)
theorem dX5_bestHaul_33 : decode cX5_bestHaul 33 = .ok (.aload_n 0, 1) := dk_42 (dk_at dksX5_bestHaul_1 9 rfl rfl)
theorem dX5_bestHaul_34 : decode cX5_bestHaul 34 = .ok (.iload_n 3, 1) := dk_29 (dk_at dksX5_bestHaul_1 10 rfl rfl)
theorem dX5_bestHaul_35 : decode cX5_bestHaul 35 = .ok (.aload_n 0, 1) := dk_42 (dk_at dksX5_bestHaul_1 11 rfl rfl)
theorem dX5_bestHaul_36 : decode cX5_bestHaul 36 = .ok (.getfield 51, 3) := dk_180 0 51 (dk_at dksX5_bestHaul_1 12 rfl rfl)
theorem dX5_bestHaul_39 : decode cX5_bestHaul 39 = .ok (.iconst 0, 1) := dk_3 (dk_at dksX5_bestHaul_1 15 rfl rfl)
theorem dX5_bestHaul_40 : decode cX5_bestHaul 40 = .ok (.iaload, 1) := dk_46 (dk_at dksX5_bestHaul_1 16 rfl rfl)
theorem dX5_bestHaul_41 : decode cX5_bestHaul 41 = .ok (.invokevirtual 114, 3) := dk_182 0 114 (dk_at dksX5_bestHaul_1 17 rfl rfl)
theorem dX5_bestHaul_44 : decode cX5_bestHaul 44 = .ok (.ifCond .eq 25, 3) := dk_153 0 25 (dk_at dksX5_bestHaul_1 20 rfl rfl)
theorem dX5_bestHaul_47 : decode cX5_bestHaul 47 = .ok (.aload_n 0, 1) := dk_42 (dk_at dksX5_bestHaul_1 23 rfl rfl)
theorem dX5_bestHaul_48 : decode cX5_bestHaul 48 = .ok (.iload_n 3, 1) := dk_29 (dk_at dksX5_bestHaul_2 0 rfl rfl)
theorem dX5_bestHaul_49 : decode cX5_bestHaul 49 = .ok (.bipush 9, 2) := dk_16 9 (dk_at dksX5_bestHaul_2 1 rfl rfl)
theorem dX5_bestHaul_51 : decode cX5_bestHaul 51 = .ok (.invokevirtual 106, 3) := dk_182 0 106 (dk_at dksX5_bestHaul_2 3 rfl rfl)
theorem dX5_bestHaul_54 : decode cX5_bestHaul 54 = .ok (.iload_n 2, 1) := dk_28 (dk_at dksX5_bestHaul_2 6 rfl rfl)
theorem dX5_bestHaul_55 : decode cX5_bestHaul 55 = .ok (.iadd, 1) := dk_96 (dk_at dksX5_bestHaul_2 7 rfl rfl)
theorem dX5_bestHaul_56 : decode cX5_bestHaul 56 = .ok (.aload_n 0, 1) := dk_42 (dk_at dksX5_bestHaul_2 8 rfl rfl)
theorem dX5_bestHaul_57 : decode cX5_bestHaul 57 = .ok (.iload_n 3, 1) := dk_29 (dk_at dksX5_bestHaul_2 9 rfl rfl)
theorem dX5_bestHaul_58 : decode cX5_bestHaul 58 = .ok (.iconst 4, 1) := dk_7 (dk_at dksX5_bestHaul_2 10 rfl rfl)
theorem dX5_bestHaul_59 : decode cX5_bestHaul 59 = .ok (.invokevirtual 106, 3) := dk_182 0 106 (dk_at dksX5_bestHaul_2 11 rfl rfl)
theorem dX5_bestHaul_62 : decode cX5_bestHaul 62 = .ok (.if_icmp .lt 7, 3) := dk_161 0 7 (dk_at dksX5_bestHaul_2 14 rfl rfl)
theorem dX5_bestHaul_65 : decode cX5_bestHaul 65 = .ok (.iconst 1, 1) := dk_4 (dk_at dksX5_bestHaul_2 17 rfl rfl)
theorem dX5_bestHaul_66 : decode cX5_bestHaul 66 = .ok (.goto 4, 3) := dk_167 0 4 (dk_at dksX5_bestHaul_2 18 rfl rfl)
theorem dX5_bestHaul_69 : decode cX5_bestHaul 69 = .ok (.iconst 0, 1) := dk_3 (dk_at dksX5_bestHaul_2 21 rfl rfl)
theorem dX5_bestHaul_70 : decode cX5_bestHaul 70 = .ok (.istore 4, 2) := dk_54 4 (dk_at dksX5_bestHaul_2 22 rfl rfl)
theorem dX5_bestHaul_72 : decode cX5_bestHaul 72 = .ok (.iload 4, 2) := dk_21 4 (dk_at dksX5_bestHaul_3 0 rfl rfl)
theorem dX5_bestHaul_74 : decode cX5_bestHaul 74 = .ok (.ifCond .eq 27, 3) := dk_153 0 27 (dk_at dksX5_bestHaul_3 2 rfl rfl)
theorem dX5_bestHaul_77 : decode cX5_bestHaul 77 = .ok (.iload_n 1, 1) := dk_27 (dk_at dksX5_bestHaul_3 5 rfl rfl)
theorem dX5_bestHaul_78 : decode cX5_bestHaul 78 = .ok (.iconst (-1), 1) := dk_2 (dk_at dksX5_bestHaul_3 6 rfl rfl)
theorem dX5_bestHaul_79 : decode cX5_bestHaul 79 = .ok (.if_icmp .eq 18, 3) := dk_159 0 18 (dk_at dksX5_bestHaul_3 7 rfl rfl)
theorem dX5_bestHaul_82 : decode cX5_bestHaul 82 = .ok (.aload_n 0, 1) := dk_42 (dk_at dksX5_bestHaul_3 10 rfl rfl)
theorem dX5_bestHaul_83 : decode cX5_bestHaul 83 = .ok (.iload_n 3, 1) := dk_29 (dk_at dksX5_bestHaul_3 11 rfl rfl)
theorem dX5_bestHaul_84 : decode cX5_bestHaul 84 = .ok (.iconst 1, 1) := dk_4 (dk_at dksX5_bestHaul_3 12 rfl rfl)
theorem dX5_bestHaul_85 : decode cX5_bestHaul 85 = .ok (.invokevirtual 106, 3) := dk_182 0 106 (dk_at dksX5_bestHaul_3 13 rfl rfl)
theorem dX5_bestHaul_88 : decode cX5_bestHaul 88 = .ok (.aload_n 0, 1) := dk_42 (dk_at dksX5_bestHaul_3 16 rfl rfl)
theorem dX5_bestHaul_89 : decode cX5_bestHaul 89 = .ok (.iload_n 1, 1) := dk_27 (dk_at dksX5_bestHaul_3 17 rfl rfl)
theorem dX5_bestHaul_90 : decode cX5_bestHaul 90 = .ok (.iconst 1, 1) := dk_4 (dk_at dksX5_bestHaul_3 18 rfl rfl)
theorem dX5_bestHaul_91 : decode cX5_bestHaul 91 = .ok (.invokevirtual 106, 3) := dk_182 0 106 (dk_at dksX5_bestHaul_3 19 rfl rfl)
theorem dX5_bestHaul_94 : decode cX5_bestHaul 94 = .ok (.if_icmp .le 7, 3) := dk_164 0 7 (dk_at dksX5_bestHaul_4 0 rfl rfl)
theorem dX5_bestHaul_97 : decode cX5_bestHaul 97 = .ok (.iload_n 3, 1) := dk_29 (dk_at dksX5_bestHaul_4 3 rfl rfl)
theorem dX5_bestHaul_98 : decode cX5_bestHaul 98 = .ok (.goto 4, 3) := dk_167 0 4 (dk_at dksX5_bestHaul_4 4 rfl rfl)
theorem dX5_bestHaul_101 : decode cX5_bestHaul 101 = .ok (.iload_n 1, 1) := dk_27 (dk_at dksX5_bestHaul_4 7 rfl rfl)
theorem dX5_bestHaul_102 : decode cX5_bestHaul 102 = .ok (.istore_n 1, 1) := dk_60 (dk_at dksX5_bestHaul_4 8 rfl rfl)
theorem dX5_bestHaul_103 : decode cX5_bestHaul 103 = .ok (.iinc 3 1, 3) := dk_132 3 1 (dk_at dksX5_bestHaul_4 9 rfl rfl)
theorem dX5_bestHaul_106 : decode cX5_bestHaul 106 = .ok (.goto (-92), 3) := dk_167 255 164 (dk_at dksX5_bestHaul_4 12 rfl rfl)
theorem dX5_bestHaul_109 : decode cX5_bestHaul 109 = .ok (.iload_n 1, 1) := dk_27 (dk_at dksX5_bestHaul_4 15 rfl rfl)
theorem dX5_bestHaul_110 : decode cX5_bestHaul 110 = .ok (.ireturn, 1) := dk_172 (dk_at dksX5_bestHaul_4 16 rfl rfl)
abbrev cX5_savedShare : ByteArray := prog_21_method_82_code
def yX5_savedShare : MethodName := ⟨RX5, "savedShare", "()F"⟩
def dkwX5_savedShare_1 : List UInt8 := [167, 0, 12, 42, 7, 182, 0, 187, 134, 27, 134, 110, 174]
abbrev dktX5_savedShare_1 : List UInt8 := dkwX5_savedShare_1 ++ []
def dkwX5_savedShare_0 : List UInt8 := [42, 3, 181, 0, 92, 42, 7, 182, 0, 187, 42, 16, 8, 182, 0, 187, 96, 60, 27, 154, 0, 7, 11]
abbrev dktX5_savedShare_0 : List UInt8 := dkwX5_savedShare_0 ++ dktX5_savedShare_1
theorem dksX5_savedShare_0 : cX5_savedShare.data.toList.drop 0 = dktX5_savedShare_0 := by decide +kernel
theorem dksX5_savedShare_1 : cX5_savedShare.data.toList.drop 23 = dktX5_savedShare_1 := dk_seg dksX5_savedShare_0 23 rfl rfl
theorem dX5_savedShare_0 : decode cX5_savedShare 0 = .ok (.aload_n 0, 1) := dk_42 (dk_at dksX5_savedShare_0 0 rfl rfl)
theorem dX5_savedShare_1 : decode cX5_savedShare 1 = .ok (.iconst 0, 1) := dk_3 (dk_at dksX5_savedShare_0 1 rfl rfl)
theorem dX5_savedShare_2 : decode cX5_savedShare 2 = .ok (.putfield 92, 3) := dk_181 0 92 (dk_at dksX5_savedShare_0 2 rfl rfl)
theorem dX5_savedShare_5 : decode cX5_savedShare 5 = .ok (.aload_n 0, 1) := dk_42 (dk_at dksX5_savedShare_0 5 rfl rfl)
theorem dX5_savedShare_6 : decode cX5_savedShare 6 = .ok (.iconst 4, 1) := dk_7 (dk_at dksX5_savedShare_0 6 rfl rfl)
theorem dX5_savedShare_7 : decode cX5_savedShare 7 = .ok (.invokevirtual 187, 3) := dk_182 0 187 (dk_at dksX5_savedShare_0 7 rfl rfl)
theorem dX5_savedShare_10 : decode cX5_savedShare 10 = .ok (.aload_n 0, 1) := dk_42 (dk_at dksX5_savedShare_0 10 rfl rfl)
theorem dX5_savedShare_11 : decode cX5_savedShare 11 = .ok (.bipush 8, 2) := dk_16 8 (dk_at dksX5_savedShare_0 11 rfl rfl)
theorem dX5_savedShare_13 : decode cX5_savedShare 13 = .ok (.invokevirtual 187, 3) := dk_182 0 187 (dk_at dksX5_savedShare_0 13 rfl rfl)
theorem dX5_savedShare_16 : decode cX5_savedShare 16 = .ok (.iadd, 1) := dk_96 (dk_at dksX5_savedShare_0 16 rfl rfl)
theorem dX5_savedShare_17 : decode cX5_savedShare 17 = .ok (.istore_n 1, 1) := dk_60 (dk_at dksX5_savedShare_0 17 rfl rfl)
theorem dX5_savedShare_18 : decode cX5_savedShare 18 = .ok (.iload_n 1, 1) := dk_27 (dk_at dksX5_savedShare_0 18 rfl rfl)
theorem dX5_savedShare_19 : decode cX5_savedShare 19 = .ok (.ifCond .ne 7, 3) := dk_154 0 7 (dk_at dksX5_savedShare_0 19 rfl rfl)
theorem dX5_savedShare_22 : decode cX5_savedShare 22 = .ok (.fconst 0, 1) := dk_11 (dk_at dksX5_savedShare_0 22 rfl rfl)
theorem dX5_savedShare_23 : decode cX5_savedShare 23 = .ok (.goto 12, 3) := dk_167 0 12 (dk_at dksX5_savedShare_1 0 rfl rfl)
theorem dX5_savedShare_26 : decode cX5_savedShare 26 = .ok (.aload_n 0, 1) := dk_42 (dk_at dksX5_savedShare_1 3 rfl rfl)
theorem dX5_savedShare_27 : decode cX5_savedShare 27 = .ok (.iconst 4, 1) := dk_7 (dk_at dksX5_savedShare_1 4 rfl rfl)
theorem dX5_savedShare_28 : decode cX5_savedShare 28 = .ok (.invokevirtual 187, 3) := dk_182 0 187 (dk_at dksX5_savedShare_1 5 rfl rfl)
theorem dX5_savedShare_31 : decode cX5_savedShare 31 = .ok (.i2f, 1) := dk_134 (dk_at dksX5_savedShare_1 8 rfl rfl)
theorem dX5_savedShare_32 : decode cX5_savedShare 32 = .ok (.iload_n 1, 1) := dk_27 (dk_at dksX5_savedShare_1 9 rfl rfl)
theorem dX5_savedShare_33 : decode cX5_savedShare 33 = .ok (.i2f, 1) := dk_134 (dk_at dksX5_savedShare_1 10 rfl rfl)
theorem dX5_savedShare_34 : decode cX5_savedShare 34 = .ok (.fdiv, 1) := dk_110 (dk_at dksX5_savedShare_1 11 rfl rfl)
theorem dX5_savedShare_35 : decode cX5_savedShare 35 = .ok (.freturn, 1) := dk_174 (dk_at dksX5_savedShare_1 12 rfl rfl)
abbrev cX5_crownPart : ByteArray := prog_21_method_83_code
def yX5_crownPart : MethodName := ⟨RX5, "crownPart", "()D"⟩
def dkwX5_crownPart_1 : List UInt8 := [16, 6, 46, 135, 27, 135, 111, 175]
abbrev dktX5_crownPart_1 : List UInt8 := dkwX5_crownPart_1 ++ []
def dkwX5_crownPart_0 : List UInt8 := [42, 3, 181, 0, 92, 42, 16, 6, 182, 0, 187, 60, 27, 154, 0, 7, 14, 167, 0, 14, 42, 180, 0, 51]
abbrev dktX5_crownPart_0 : List UInt8 := dkwX5_crownPart_0 ++ dktX5_crownPart_1
theorem dksX5_crownPart_0 : cX5_crownPart.data.toList.drop 0 = dktX5_crownPart_0 := by decide +kernel
theorem dksX5_crownPart_1 : cX5_crownPart.data.toList.drop 24 = dktX5_crownPart_1 := dk_seg dksX5_crownPart_0 24 rfl rfl
theorem dX5_crownPart_0 : decode cX5_crownPart 0 = .ok (.aload_n 0, 1) := dk_42 (dk_at dksX5_crownPart_0 0 rfl rfl)
theorem dX5_crownPart_1 : decode cX5_crownPart 1 = .ok (.iconst 0, 1) := dk_3 (dk_at dksX5_crownPart_0 1 rfl rfl)
theorem dX5_crownPart_2 : decode cX5_crownPart 2 = .ok (.putfield 92, 3) := dk_181 0 92 (dk_at dksX5_crownPart_0 2 rfl rfl)
theorem dX5_crownPart_5 : decode cX5_crownPart 5 = .ok (.aload_n 0, 1) := dk_42 (dk_at dksX5_crownPart_0 5 rfl rfl)
theorem dX5_crownPart_6 : decode cX5_crownPart 6 = .ok (.bipush 6, 2) := dk_16 6 (dk_at dksX5_crownPart_0 6 rfl rfl)
theorem dX5_crownPart_8 : decode cX5_crownPart 8 = .ok (.invokevirtual 187, 3) := dk_182 0 187 (dk_at dksX5_crownPart_0 8 rfl rfl)
theorem dX5_crownPart_11 : decode cX5_crownPart 11 = .ok (.istore_n 1, 1) := dk_60 (dk_at dksX5_crownPart_0 11 rfl rfl)
theorem dX5_crownPart_12 : decode cX5_crownPart 12 = .ok (.iload_n 1, 1) := dk_27 (dk_at dksX5_crownPart_0 12 rfl rfl)
theorem dX5_crownPart_13 : decode cX5_crownPart 13 = .ok (.ifCond .ne 7, 3) := dk_154 0 7 (dk_at dksX5_crownPart_0 13 rfl rfl)
theorem dX5_crownPart_16 : decode cX5_crownPart 16 = .ok (.dconst 0, 1) := dk_14 (dk_at dksX5_crownPart_0 16 rfl rfl)
theorem dX5_crownPart_17 : decode cX5_crownPart 17 = .ok (.goto 14, 3) := dk_167 0 14 (dk_at dksX5_crownPart_0 17 rfl rfl)
theorem dX5_crownPart_20 : decode cX5_crownPart 20 = .ok (.aload_n 0, 1) := dk_42 (dk_at dksX5_crownPart_0 20 rfl rfl)
theorem dX5_crownPart_21 : decode cX5_crownPart 21 = .ok (.getfield 51, 3) := dk_180 0 51 (dk_at dksX5_crownPart_0 21 rfl rfl)
theorem dX5_crownPart_24 : decode cX5_crownPart 24 = .ok (.bipush 6, 2) := dk_16 6 (dk_at dksX5_crownPart_1 0 rfl rfl)
theorem dX5_crownPart_26 : decode cX5_crownPart 26 = .ok (.iaload, 1) := dk_46 (dk_at dksX5_crownPart_1 2 rfl rfl)
theorem dX5_crownPart_27 : decode cX5_crownPart 27 = .ok (.i2d, 1) := dk_135 (dk_at dksX5_crownPart_1 3 rfl rfl)
theorem dX5_crownPart_28 : decode cX5_crownPart 28 = .ok (.iload_n 1, 1) := dk_27 (dk_at dksX5_crownPart_1 4 rfl rfl)
theorem dX5_crownPart_29 : decode cX5_crownPart 29 = .ok (.i2d, 1) := dk_135 (dk_at dksX5_crownPart_1 5 rfl rfl)
theorem dX5_crownPart_30 : decode cX5_crownPart 30 = .ok (.ddiv, 1) := dk_111 (dk_at dksX5_crownPart_1 6 rfl rfl)
theorem dX5_crownPart_31 : decode cX5_crownPart 31 = .ok (.dreturn, 1) := dk_175 (dk_at dksX5_crownPart_1 7 rfl rfl)
abbrev cX5_rope : ByteArray := prog_21_method_98_code
def yX5_rope : MethodName := ⟨RX5, "rope", "(II)I"⟩
def dkwX5_rope_1 : List UInt8 := [182, 0, 173, 153, 0, 5, 3, 172, 42, 182, 1, 4, 42, 42, 27, 28, 182, 1, 7, 182, 1, 10, 172]
abbrev dktX5_rope_1 : List UInt8 := dkwX5_rope_1 ++ []
def dkwX5_rope_0 : List UInt8 := [42, 42, 27, 182, 0, 196, 153, 0, 15, 42, 28, 182, 0, 190, 153, 0, 7, 4, 167, 0, 4, 3]
abbrev dktX5_rope_0 : List UInt8 := dkwX5_rope_0 ++ dktX5_rope_1
theorem dksX5_rope_0 : cX5_rope.data.toList.drop 0 = dktX5_rope_0 := by decide +kernel
theorem dksX5_rope_1 : cX5_rope.data.toList.drop 22 = dktX5_rope_1 := dk_seg dksX5_rope_0 22 rfl rfl
theorem dX5_rope_0 : decode cX5_rope 0 = .ok (.aload_n 0, 1) := dk_42 (dk_at dksX5_rope_0 0 rfl rfl)
theorem dX5_rope_1 : decode cX5_rope 1 = .ok (.aload_n 0, 1) := dk_42 (dk_at dksX5_rope_0 1 rfl rfl)
theorem dX5_rope_2 : decode cX5_rope 2 = .ok (.iload_n 1, 1) := dk_27 (dk_at dksX5_rope_0 2 rfl rfl)
theorem dX5_rope_3 : decode cX5_rope 3 = .ok (.invokevirtual 196, 3) := dk_182 0 196 (dk_at dksX5_rope_0 3 rfl rfl)
theorem dX5_rope_6 : decode cX5_rope 6 = .ok (.ifCond .eq 15, 3) := dk_153 0 15 (dk_at dksX5_rope_0 6 rfl rfl)
theorem dX5_rope_9 : decode cX5_rope 9 = .ok (.aload_n 0, 1) := dk_42 (dk_at dksX5_rope_0 9 rfl rfl)
theorem dX5_rope_10 : decode cX5_rope 10 = .ok (.iload_n 2, 1) := dk_28 (dk_at dksX5_rope_0 10 rfl rfl)
theorem dX5_rope_11 : decode cX5_rope 11 = .ok (.invokevirtual 190, 3) := dk_182 0 190 (dk_at dksX5_rope_0 11 rfl rfl)
theorem dX5_rope_14 : decode cX5_rope 14 = .ok (.ifCond .eq 7, 3) := dk_153 0 7 (dk_at dksX5_rope_0 14 rfl rfl)
theorem dX5_rope_17 : decode cX5_rope 17 = .ok (.iconst 1, 1) := dk_4 (dk_at dksX5_rope_0 17 rfl rfl)
theorem dX5_rope_18 : decode cX5_rope 18 = .ok (.goto 4, 3) := dk_167 0 4 (dk_at dksX5_rope_0 18 rfl rfl)
theorem dX5_rope_21 : decode cX5_rope 21 = .ok (.iconst 0, 1) := dk_3 (dk_at dksX5_rope_0 21 rfl rfl)
theorem dX5_rope_22 : decode cX5_rope 22 = .ok (.invokevirtual 173, 3) := dk_182 0 173 (dk_at dksX5_rope_1 0 rfl rfl)
theorem dX5_rope_25 : decode cX5_rope 25 = .ok (.ifCond .eq 5, 3) := dk_153 0 5 (dk_at dksX5_rope_1 3 rfl rfl)
theorem dX5_rope_28 : decode cX5_rope 28 = .ok (.iconst 0, 1) := dk_3 (dk_at dksX5_rope_1 6 rfl rfl)
theorem dX5_rope_29 : decode cX5_rope 29 = .ok (.ireturn, 1) := dk_172 (dk_at dksX5_rope_1 7 rfl rfl)
theorem dX5_rope_30 : decode cX5_rope 30 = .ok (.aload_n 0, 1) := dk_42 (dk_at dksX5_rope_1 8 rfl rfl)
theorem dX5_rope_31 : decode cX5_rope 31 = .ok (.invokevirtual 260, 3) := dk_182 1 4 (dk_at dksX5_rope_1 9 rfl rfl)
theorem dX5_rope_34 : decode cX5_rope 34 = .ok (.aload_n 0, 1) := dk_42 (dk_at dksX5_rope_1 12 rfl rfl)
theorem dX5_rope_35 : decode cX5_rope 35 = .ok (.aload_n 0, 1) := dk_42 (dk_at dksX5_rope_1 13 rfl rfl)
theorem dX5_rope_36 : decode cX5_rope 36 = .ok (.iload_n 1, 1) := dk_27 (dk_at dksX5_rope_1 14 rfl rfl)
theorem dX5_rope_37 : decode cX5_rope 37 = .ok (.iload_n 2, 1) := dk_28 (dk_at dksX5_rope_1 15 rfl rfl)
theorem dX5_rope_38 : decode cX5_rope 38 = .ok (.invokevirtual 263, 3) := dk_182 1 7 (dk_at dksX5_rope_1 16 rfl rfl)
theorem dX5_rope_41 : decode cX5_rope 41 = .ok (.invokevirtual 266, 3) := dk_182 1 10 (dk_at dksX5_rope_1 19 rfl rfl)
theorem dX5_rope_44 : decode cX5_rope 44 = .ok (.ireturn, 1) := dk_172 (dk_at dksX5_rope_1 22 rfl rfl)
abbrev cX5_keep : ByteArray := prog_21_method_95_code
def yX5_keep : MethodName := ⟨RX5, "keep", "()V"⟩
def dkwX5_keep_0 : List UInt8 := [42, 180, 0, 9, 3, 42, 180, 0, 16, 3, 184, 0, 250, 177]
abbrev dktX5_keep_0 : List UInt8 := dkwX5_keep_0 ++ []
theorem dksX5_keep_0 : cX5_keep.data.toList.drop 0 = dktX5_keep_0 := by decide +kernel
theorem dX5_keep_0 : decode cX5_keep 0 = .ok (.aload_n 0, 1) := dk_42 (dk_at dksX5_keep_0 0 rfl rfl)
theorem dX5_keep_1 : decode cX5_keep 1 = .ok (.getfield 9, 3) := dk_180 0 9 (dk_at dksX5_keep_0 1 rfl rfl)
theorem dX5_keep_4 : decode cX5_keep 4 = .ok (.iconst 0, 1) := dk_3 (dk_at dksX5_keep_0 4 rfl rfl)
theorem dX5_keep_5 : decode cX5_keep 5 = .ok (.aload_n 0, 1) := dk_42 (dk_at dksX5_keep_0 5 rfl rfl)
theorem dX5_keep_6 : decode cX5_keep 6 = .ok (.getfield 16, 3) := dk_180 0 16 (dk_at dksX5_keep_0 6 rfl rfl)
theorem dX5_keep_9 : decode cX5_keep 9 = .ok (.iconst 0, 1) := dk_3 (dk_at dksX5_keep_0 9 rfl rfl)
theorem dX5_keep_10 : decode cX5_keep 10 = .ok (.invokestatic 250, 3) := dk_184 0 250 (dk_at dksX5_keep_0 10 rfl rfl)
theorem dX5_keep_13 : decode cX5_keep 13 = .ok (.return_, 1) := dk_177 (dk_at dksX5_keep_0 13 rfl rfl)
abbrev cX5_copy : ByteArray := prog_21_method_94_code
def yX5_copy : MethodName := ⟨RX5, "copy", "([II[II)V"⟩
def dkwX5_copy_0 : List UInt8 := [42, 17, 1, 212, 27, 104, 44, 17, 1, 212, 29, 104, 17, 1, 212, 184, 0, 244, 177]
abbrev dktX5_copy_0 : List UInt8 := dkwX5_copy_0 ++ []
theorem dksX5_copy_0 : cX5_copy.data.toList.drop 0 = dktX5_copy_0 := by decide +kernel
theorem dX5_copy_0 : decode cX5_copy 0 = .ok (.aload_n 0, 1) := dk_42 (dk_at dksX5_copy_0 0 rfl rfl)
theorem dX5_copy_1 : decode cX5_copy 1 = .ok (.sipush 468, 3) := dk_17 1 212 (dk_at dksX5_copy_0 1 rfl rfl)
theorem dX5_copy_4 : decode cX5_copy 4 = .ok (.iload_n 1, 1) := dk_27 (dk_at dksX5_copy_0 4 rfl rfl)
theorem dX5_copy_5 : decode cX5_copy 5 = .ok (.imul, 1) := dk_104 (dk_at dksX5_copy_0 5 rfl rfl)
theorem dX5_copy_6 : decode cX5_copy 6 = .ok (.aload_n 2, 1) := dk_44 (dk_at dksX5_copy_0 6 rfl rfl)
theorem dX5_copy_7 : decode cX5_copy 7 = .ok (.sipush 468, 3) := dk_17 1 212 (dk_at dksX5_copy_0 7 rfl rfl)
theorem dX5_copy_10 : decode cX5_copy 10 = .ok (.iload_n 3, 1) := dk_29 (dk_at dksX5_copy_0 10 rfl rfl)
theorem dX5_copy_11 : decode cX5_copy 11 = .ok (.imul, 1) := dk_104 (dk_at dksX5_copy_0 11 rfl rfl)
theorem dX5_copy_12 : decode cX5_copy 12 = .ok (.sipush 468, 3) := dk_17 1 212 (dk_at dksX5_copy_0 12 rfl rfl)
theorem dX5_copy_15 : decode cX5_copy 15 = .ok (.invokestatic 244, 3) := dk_184 0 244 (dk_at dksX5_copy_0 15 rfl rfl)
theorem dX5_copy_18 : decode cX5_copy 18 = .ok (.return_, 1) := dk_177 (dk_at dksX5_copy_0 18 rfl rfl)
abbrev cX5_doRope : ByteArray := prog_21_method_85_code
def yX5_doRope : MethodName := ⟨RX5, "doRope", "(II)I"⟩
def dkwX5_doRope_2 : List UInt8 := [16, 9, 182, 0, 106, 182, 0, 230, 172]
abbrev dktX5_doRope_2 : List UInt8 := dkwX5_doRope_2 ++ []
def dkwX5_doRope_1 : List UInt8 := [160, 0, 10, 42, 16, 253, 182, 0, 230, 172, 42, 27, 182, 0, 233, 42, 28, 27, 182, 0, 236, 42, 42, 28]
abbrev dktX5_doRope_1 : List UInt8 := dkwX5_doRope_1 ++ dktX5_doRope_2
def dkwX5_doRope_0 : List UInt8 := [42, 28, 3, 182, 0, 118, 154, 0, 10, 42, 16, 254, 182, 0, 230, 172, 42, 27, 4, 182, 0, 127, 28]
abbrev dktX5_doRope_0 : List UInt8 := dkwX5_doRope_0 ++ dktX5_doRope_1
theorem dksX5_doRope_0 : cX5_doRope.data.toList.drop 0 = dktX5_doRope_0 := by decide +kernel
theorem dksX5_doRope_1 : cX5_doRope.data.toList.drop 23 = dktX5_doRope_1 := dk_seg dksX5_doRope_0 23 rfl rfl
theorem dksX5_doRope_2 : cX5_doRope.data.toList.drop 47 = dktX5_doRope_2 := dk_seg dksX5_doRope_1 24 rfl rfl
theorem dX5_doRope_0 : decode cX5_doRope 0 = .ok (.aload_n 0, 1) := dk_42 (dk_at dksX5_doRope_0 0 rfl rfl)
theorem dX5_doRope_1 : decode cX5_doRope 1 = .ok (.iload_n 2, 1) := dk_28 (dk_at dksX5_doRope_0 1 rfl rfl)
theorem dX5_doRope_2 : decode cX5_doRope 2 = .ok (.iconst 0, 1) := dk_3 (dk_at dksX5_doRope_0 2 rfl rfl)
theorem dX5_doRope_3 : decode cX5_doRope 3 = .ok (.invokevirtual 118, 3) := dk_182 0 118 (dk_at dksX5_doRope_0 3 rfl rfl)
theorem dX5_doRope_6 : decode cX5_doRope 6 = .ok (.ifCond .ne 10, 3) := dk_154 0 10 (dk_at dksX5_doRope_0 6 rfl rfl)
theorem dX5_doRope_9 : decode cX5_doRope 9 = .ok (.aload_n 0, 1) := dk_42 (dk_at dksX5_doRope_0 9 rfl rfl)
theorem dX5_doRope_10 : decode cX5_doRope 10 = .ok (.bipush (-2), 2) := dk_16 254 (dk_at dksX5_doRope_0 10 rfl rfl)
theorem dX5_doRope_12 : decode cX5_doRope 12 = .ok (.invokevirtual 230, 3) := dk_182 0 230 (dk_at dksX5_doRope_0 12 rfl rfl)
theorem dX5_doRope_15 : decode cX5_doRope 15 = .ok (.ireturn, 1) := dk_172 (dk_at dksX5_doRope_0 15 rfl rfl)
theorem dX5_doRope_16 : decode cX5_doRope 16 = .ok (.aload_n 0, 1) := dk_42 (dk_at dksX5_doRope_0 16 rfl rfl)
theorem dX5_doRope_17 : decode cX5_doRope 17 = .ok (.iload_n 1, 1) := dk_27 (dk_at dksX5_doRope_0 17 rfl rfl)
theorem dX5_doRope_18 : decode cX5_doRope 18 = .ok (.iconst 1, 1) := dk_4 (dk_at dksX5_doRope_0 18 rfl rfl)
theorem dX5_doRope_19 : decode cX5_doRope 19 = .ok (.invokevirtual 127, 3) := dk_182 0 127 (dk_at dksX5_doRope_0 19 rfl rfl)
theorem dX5_doRope_22 : decode cX5_doRope 22 = .ok (.iload_n 2, 1) := dk_28 (dk_at dksX5_doRope_0 22 rfl rfl)
theorem dX5_doRope_23 : decode cX5_doRope 23 = .ok (.if_icmp .ne 10, 3) := dk_160 0 10 (dk_at dksX5_doRope_1 0 rfl rfl)
theorem dX5_doRope_26 : decode cX5_doRope 26 = .ok (.aload_n 0, 1) := dk_42 (dk_at dksX5_doRope_1 3 rfl rfl)
theorem dX5_doRope_27 : decode cX5_doRope 27 = .ok (.bipush (-3), 2) := dk_16 253 (dk_at dksX5_doRope_1 4 rfl rfl)
theorem dX5_doRope_29 : decode cX5_doRope 29 = .ok (.invokevirtual 230, 3) := dk_182 0 230 (dk_at dksX5_doRope_1 6 rfl rfl)
theorem dX5_doRope_32 : decode cX5_doRope 32 = .ok (.ireturn, 1) := dk_172 (dk_at dksX5_doRope_1 9 rfl rfl)
theorem dX5_doRope_33 : decode cX5_doRope 33 = .ok (.aload_n 0, 1) := dk_42 (dk_at dksX5_doRope_1 10 rfl rfl)
theorem dX5_doRope_34 : decode cX5_doRope 34 = .ok (.iload_n 1, 1) := dk_27 (dk_at dksX5_doRope_1 11 rfl rfl)
theorem dX5_doRope_35 : decode cX5_doRope 35 = .ok (.invokevirtual 233, 3) := dk_182 0 233 (dk_at dksX5_doRope_1 12 rfl rfl)
theorem dX5_doRope_38 : decode cX5_doRope 38 = .ok (.aload_n 0, 1) := dk_42 (dk_at dksX5_doRope_1 15 rfl rfl)
theorem dX5_doRope_39 : decode cX5_doRope 39 = .ok (.iload_n 2, 1) := dk_28 (dk_at dksX5_doRope_1 16 rfl rfl)
theorem dX5_doRope_40 : decode cX5_doRope 40 = .ok (.iload_n 1, 1) := dk_27 (dk_at dksX5_doRope_1 17 rfl rfl)
theorem dX5_doRope_41 : decode cX5_doRope 41 = .ok (.invokevirtual 236, 3) := dk_182 0 236 (dk_at dksX5_doRope_1 18 rfl rfl)
theorem dX5_doRope_44 : decode cX5_doRope 44 = .ok (.aload_n 0, 1) := dk_42 (dk_at dksX5_doRope_1 21 rfl rfl)
theorem dX5_doRope_45 : decode cX5_doRope 45 = .ok (.aload_n 0, 1) := dk_42 (dk_at dksX5_doRope_1 22 rfl rfl)
theorem dX5_doRope_46 : decode cX5_doRope 46 = .ok (.iload_n 2, 1) := dk_28 (dk_at dksX5_doRope_1 23 rfl rfl)
theorem dX5_doRope_47 : decode cX5_doRope 47 = .ok (.bipush 9, 2) := dk_16 9 (dk_at dksX5_doRope_2 0 rfl rfl)
theorem dX5_doRope_49 : decode cX5_doRope 49 = .ok (.invokevirtual 106, 3) := dk_182 0 106 (dk_at dksX5_doRope_2 2 rfl rfl)
theorem dX5_doRope_52 : decode cX5_doRope 52 = .ok (.invokevirtual 230, 3) := dk_182 0 230 (dk_at dksX5_doRope_2 5 rfl rfl)
theorem dX5_doRope_55 : decode cX5_doRope 55 = .ok (.ireturn, 1) := dk_172 (dk_at dksX5_doRope_2 8 rfl rfl)
abbrev cX5_ends : ByteArray := prog_21_method_84_code
def yX5_ends : MethodName := ⟨RX5, "ends", "(I)I"⟩
def dkwX5_ends_0 : List UInt8 := [42, 180, 0, 25, 27, 156, 0, 7, 4, 167, 0, 4, 3, 92, 46, 4, 96, 79, 27, 172]
abbrev dktX5_ends_0 : List UInt8 := dkwX5_ends_0 ++ []
theorem dksX5_ends_0 : cX5_ends.data.toList.drop 0 = dktX5_ends_0 := by decide +kernel
theorem dX5_ends_0 : decode cX5_ends 0 = .ok (.aload_n 0, 1) := dk_42 (dk_at dksX5_ends_0 0 rfl rfl)
theorem dX5_ends_1 : decode cX5_ends 1 = .ok (.getfield 25, 3) := dk_180 0 25 (dk_at dksX5_ends_0 1 rfl rfl)
theorem dX5_ends_4 : decode cX5_ends 4 = .ok (.iload_n 1, 1) := dk_27 (dk_at dksX5_ends_0 4 rfl rfl)
theorem dX5_ends_5 : decode cX5_ends 5 = .ok (.ifCond .ge 7, 3) := dk_156 0 7 (dk_at dksX5_ends_0 5 rfl rfl)
theorem dX5_ends_8 : decode cX5_ends 8 = .ok (.iconst 1, 1) := dk_4 (dk_at dksX5_ends_0 8 rfl rfl)
theorem dX5_ends_9 : decode cX5_ends 9 = .ok (.goto 4, 3) := dk_167 0 4 (dk_at dksX5_ends_0 9 rfl rfl)
theorem dX5_ends_12 : decode cX5_ends 12 = .ok (.iconst 0, 1) := dk_3 (dk_at dksX5_ends_0 12 rfl rfl)
theorem dX5_ends_13 : decode cX5_ends 13 = .ok (.dup2, 1) := dk_92 (dk_at dksX5_ends_0 13 rfl rfl)
theorem dX5_ends_14 : decode cX5_ends 14 = .ok (.iaload, 1) := dk_46 (dk_at dksX5_ends_0 14 rfl rfl)
theorem dX5_ends_15 : decode cX5_ends 15 = .ok (.iconst 1, 1) := dk_4 (dk_at dksX5_ends_0 15 rfl rfl)
theorem dX5_ends_16 : decode cX5_ends 16 = .ok (.iadd, 1) := dk_96 (dk_at dksX5_ends_0 16 rfl rfl)
theorem dX5_ends_17 : decode cX5_ends 17 = .ok (.iastore, 1) := dk_79 (dk_at dksX5_ends_0 17 rfl rfl)
theorem dX5_ends_18 : decode cX5_ends 18 = .ok (.iload_n 1, 1) := dk_27 (dk_at dksX5_ends_0 18 rfl rfl)
theorem dX5_ends_19 : decode cX5_ends 19 = .ok (.ireturn, 1) := dk_172 (dk_at dksX5_ends_0 19 rfl rfl)
abbrev cX5_removeHand : ByteArray := prog_21_method_25_code
def yX5_removeHand : MethodName := ⟨RX5, "removeHand", "(I)V"⟩
def dkwX5_removeHand_3 : List UInt8 := [4, 2, 182, 0, 95, 177]
abbrev dktX5_removeHand_3 : List UInt8 := dkwX5_removeHand_3 ++ []
def dkwX5_removeHand_2 : List UInt8 := [4, 96, 182, 0, 124, 182, 0, 99, 132, 4, 1, 167, 255, 228, 42, 28, 16, 9, 29, 182, 0, 99, 42, 27]
abbrev dktX5_removeHand_2 : List UInt8 := dkwX5_removeHand_2 ++ dktX5_removeHand_3
def dkwX5_removeHand_1 : List UInt8 := [28, 27, 182, 0, 130, 54, 4, 21, 4, 29, 162, 0, 28, 42, 28, 16, 10, 21, 4, 96, 42, 28, 21, 4]
abbrev dktX5_removeHand_1 : List UInt8 := dkwX5_removeHand_1 ++ dktX5_removeHand_2
def dkwX5_removeHand_0 : List UInt8 := [42, 27, 4, 182, 0, 127, 61, 28, 2, 160, 0, 4, 177, 42, 28, 16, 9, 182, 0, 106, 4, 100, 62, 42]
abbrev dktX5_removeHand_0 : List UInt8 := dkwX5_removeHand_0 ++ dktX5_removeHand_1
theorem dksX5_removeHand_0 : cX5_removeHand.data.toList.drop 0 = dktX5_removeHand_0 := by decide +kernel
theorem dksX5_removeHand_1 : cX5_removeHand.data.toList.drop 24 = dktX5_removeHand_1 := dk_seg dksX5_removeHand_0 24 rfl rfl
theorem dksX5_removeHand_2 : cX5_removeHand.data.toList.drop 48 = dktX5_removeHand_2 := dk_seg dksX5_removeHand_1 24 rfl rfl
theorem dksX5_removeHand_3 : cX5_removeHand.data.toList.drop 72 = dktX5_removeHand_3 := dk_seg dksX5_removeHand_2 24 rfl rfl
theorem dX5_removeHand_0 : decode cX5_removeHand 0 = .ok (.aload_n 0, 1) := dk_42 (dk_at dksX5_removeHand_0 0 rfl rfl)
theorem dX5_removeHand_1 : decode cX5_removeHand 1 = .ok (.iload_n 1, 1) := dk_27 (dk_at dksX5_removeHand_0 1 rfl rfl)
theorem dX5_removeHand_2 : decode cX5_removeHand 2 = .ok (.iconst 1, 1) := dk_4 (dk_at dksX5_removeHand_0 2 rfl rfl)
theorem dX5_removeHand_3 : decode cX5_removeHand 3 = .ok (.invokevirtual 127, 3) := dk_182 0 127 (dk_at dksX5_removeHand_0 3 rfl rfl)
theorem dX5_removeHand_6 : decode cX5_removeHand 6 = .ok (.istore_n 2, 1) := dk_61 (dk_at dksX5_removeHand_0 6 rfl rfl)
theorem dX5_removeHand_7 : decode cX5_removeHand 7 = .ok (.iload_n 2, 1) := dk_28 (dk_at dksX5_removeHand_0 7 rfl rfl)
theorem dX5_removeHand_8 : decode cX5_removeHand 8 = .ok (.iconst (-1), 1) := dk_2 (dk_at dksX5_removeHand_0 8 rfl rfl)
theorem dX5_removeHand_9 : decode cX5_removeHand 9 = .ok (.if_icmp .ne 4, 3) := dk_160 0 4 (dk_at dksX5_removeHand_0 9 rfl rfl)
theorem dX5_removeHand_12 : decode cX5_removeHand 12 = .ok (.return_, 1) := dk_177 (dk_at dksX5_removeHand_0 12 rfl rfl)
theorem dX5_removeHand_13 : decode cX5_removeHand 13 = .ok (.aload_n 0, 1) := dk_42 (dk_at dksX5_removeHand_0 13 rfl rfl)
theorem dX5_removeHand_14 : decode cX5_removeHand 14 = .ok (.iload_n 2, 1) := dk_28 (dk_at dksX5_removeHand_0 14 rfl rfl)
theorem dX5_removeHand_15 : decode cX5_removeHand 15 = .ok (.bipush 9, 2) := dk_16 9 (dk_at dksX5_removeHand_0 15 rfl rfl)
theorem dX5_removeHand_17 : decode cX5_removeHand 17 = .ok (.invokevirtual 106, 3) := dk_182 0 106 (dk_at dksX5_removeHand_0 17 rfl rfl)
theorem dX5_removeHand_20 : decode cX5_removeHand 20 = .ok (.iconst 1, 1) := dk_4 (dk_at dksX5_removeHand_0 20 rfl rfl)
theorem dX5_removeHand_21 : decode cX5_removeHand 21 = .ok (.isub, 1) := dk_100 (dk_at dksX5_removeHand_0 21 rfl rfl)
theorem dX5_removeHand_22 : decode cX5_removeHand 22 = .ok (.istore_n 3, 1) := dk_62 (dk_at dksX5_removeHand_0 22 rfl rfl)
theorem dX5_removeHand_23 : decode cX5_removeHand 23 = .ok (.aload_n 0, 1) := dk_42 (dk_at dksX5_removeHand_0 23 rfl rfl)
theorem dX5_removeHand_24 : decode cX5_removeHand 24 = .ok (.iload_n 2, 1) := dk_28 (dk_at dksX5_removeHand_1 0 rfl rfl)
theorem dX5_removeHand_25 : decode cX5_removeHand 25 = .ok (.iload_n 1, 1) := dk_27 (dk_at dksX5_removeHand_1 1 rfl rfl)
theorem dX5_removeHand_26 : decode cX5_removeHand 26 = .ok (.invokevirtual 130, 3) := dk_182 0 130 (dk_at dksX5_removeHand_1 2 rfl rfl)
theorem dX5_removeHand_29 : decode cX5_removeHand 29 = .ok (.istore 4, 2) := dk_54 4 (dk_at dksX5_removeHand_1 5 rfl rfl)
theorem dX5_removeHand_31 : decode cX5_removeHand 31 = .ok (.iload 4, 2) := dk_21 4 (dk_at dksX5_removeHand_1 7 rfl rfl)
theorem dX5_removeHand_33 : decode cX5_removeHand 33 = .ok (.iload_n 3, 1) := dk_29 (dk_at dksX5_removeHand_1 9 rfl rfl)
theorem dX5_removeHand_34 : decode cX5_removeHand 34 = .ok (.if_icmp .ge 28, 3) := dk_162 0 28 (dk_at dksX5_removeHand_1 10 rfl rfl)
theorem dX5_removeHand_37 : decode cX5_removeHand 37 = .ok (.aload_n 0, 1) := dk_42 (dk_at dksX5_removeHand_1 13 rfl rfl)
theorem dX5_removeHand_38 : decode cX5_removeHand 38 = .ok (.iload_n 2, 1) := dk_28 (dk_at dksX5_removeHand_1 14 rfl rfl)
theorem dX5_removeHand_39 : decode cX5_removeHand 39 = .ok (.bipush 10, 2) := dk_16 10 (dk_at dksX5_removeHand_1 15 rfl rfl)
theorem dX5_removeHand_41 : decode cX5_removeHand 41 = .ok (.iload 4, 2) := dk_21 4 (dk_at dksX5_removeHand_1 17 rfl rfl)
theorem dX5_removeHand_43 : decode cX5_removeHand 43 = .ok (.iadd, 1) := dk_96 (dk_at dksX5_removeHand_1 19 rfl rfl)
theorem dX5_removeHand_44 : decode cX5_removeHand 44 = .ok (.aload_n 0, 1) := dk_42 (dk_at dksX5_removeHand_1 20 rfl rfl)
theorem dX5_removeHand_45 : decode cX5_removeHand 45 = .ok (.iload_n 2, 1) := dk_28 (dk_at dksX5_removeHand_1 21 rfl rfl)
theorem dX5_removeHand_46 : decode cX5_removeHand 46 = .ok (.iload 4, 2) := dk_21 4 (dk_at dksX5_removeHand_1 22 rfl rfl)
theorem dX5_removeHand_48 : decode cX5_removeHand 48 = .ok (.iconst 1, 1) := dk_4 (dk_at dksX5_removeHand_2 0 rfl rfl)
theorem dX5_removeHand_49 : decode cX5_removeHand 49 = .ok (.iadd, 1) := dk_96 (dk_at dksX5_removeHand_2 1 rfl rfl)
theorem dX5_removeHand_50 : decode cX5_removeHand 50 = .ok (.invokevirtual 124, 3) := dk_182 0 124 (dk_at dksX5_removeHand_2 2 rfl rfl)
theorem dX5_removeHand_53 : decode cX5_removeHand 53 = .ok (.invokevirtual 99, 3) := dk_182 0 99 (dk_at dksX5_removeHand_2 5 rfl rfl)
theorem dX5_removeHand_56 : decode cX5_removeHand 56 = .ok (.iinc 4 1, 3) := dk_132 4 1 (dk_at dksX5_removeHand_2 8 rfl rfl)
theorem dX5_removeHand_59 : decode cX5_removeHand 59 = .ok (.goto (-28), 3) := dk_167 255 228 (dk_at dksX5_removeHand_2 11 rfl rfl)
theorem dX5_removeHand_62 : decode cX5_removeHand 62 = .ok (.aload_n 0, 1) := dk_42 (dk_at dksX5_removeHand_2 14 rfl rfl)
theorem dX5_removeHand_63 : decode cX5_removeHand 63 = .ok (.iload_n 2, 1) := dk_28 (dk_at dksX5_removeHand_2 15 rfl rfl)
theorem dX5_removeHand_64 : decode cX5_removeHand 64 = .ok (.bipush 9, 2) := dk_16 9 (dk_at dksX5_removeHand_2 16 rfl rfl)
theorem dX5_removeHand_66 : decode cX5_removeHand 66 = .ok (.iload_n 3, 1) := dk_29 (dk_at dksX5_removeHand_2 18 rfl rfl)
theorem dX5_removeHand_67 : decode cX5_removeHand 67 = .ok (.invokevirtual 99, 3) := dk_182 0 99 (dk_at dksX5_removeHand_2 19 rfl rfl)
theorem dX5_removeHand_70 : decode cX5_removeHand 70 = .ok (.aload_n 0, 1) := dk_42 (dk_at dksX5_removeHand_2 22 rfl rfl)
theorem dX5_removeHand_71 : decode cX5_removeHand 71 = .ok (.iload_n 1, 1) := dk_27 (dk_at dksX5_removeHand_2 23 rfl rfl)
theorem dX5_removeHand_72 : decode cX5_removeHand 72 = .ok (.iconst 1, 1) := dk_4 (dk_at dksX5_removeHand_3 0 rfl rfl)
theorem dX5_removeHand_73 : decode cX5_removeHand 73 = .ok (.iconst (-1), 1) := dk_2 (dk_at dksX5_removeHand_3 1 rfl rfl)
theorem dX5_removeHand_74 : decode cX5_removeHand 74 = .ok (.invokevirtual 95, 3) := dk_182 0 95 (dk_at dksX5_removeHand_3 2 rfl rfl)
theorem dX5_removeHand_77 : decode cX5_removeHand 77 = .ok (.return_, 1) := dk_177 (dk_at dksX5_removeHand_3 5 rfl rfl)
abbrev cX5_addHand : ByteArray := prog_21_method_24_code
def yX5_addHand : MethodName := ⟨RX5, "addHand", "(II)V"⟩
def dkwX5_addHand_1 : List UInt8 := [182, 0, 106, 4, 96, 182, 0, 99, 42, 28, 4, 27, 182, 0, 95, 177]
abbrev dktX5_addHand_1 : List UInt8 := dkwX5_addHand_1 ++ []
def dkwX5_addHand_0 : List UInt8 := [42, 27, 16, 10, 42, 27, 16, 9, 182, 0, 106, 96, 28, 182, 0, 99, 42, 27, 16, 9, 42, 27, 16, 9]
abbrev dktX5_addHand_0 : List UInt8 := dkwX5_addHand_0 ++ dktX5_addHand_1
theorem dksX5_addHand_0 : cX5_addHand.data.toList.drop 0 = dktX5_addHand_0 := by decide +kernel
theorem dksX5_addHand_1 : cX5_addHand.data.toList.drop 24 = dktX5_addHand_1 := dk_seg dksX5_addHand_0 24 rfl rfl
theorem dX5_addHand_0 : decode cX5_addHand 0 = .ok (.aload_n 0, 1) := dk_42 (dk_at dksX5_addHand_0 0 rfl rfl)
theorem dX5_addHand_1 : decode cX5_addHand 1 = .ok (.iload_n 1, 1) := dk_27 (dk_at dksX5_addHand_0 1 rfl rfl)
theorem dX5_addHand_2 : decode cX5_addHand 2 = .ok (.bipush 10, 2) := dk_16 10 (dk_at dksX5_addHand_0 2 rfl rfl)
theorem dX5_addHand_4 : decode cX5_addHand 4 = .ok (.aload_n 0, 1) := dk_42 (dk_at dksX5_addHand_0 4 rfl rfl)
theorem dX5_addHand_5 : decode cX5_addHand 5 = .ok (.iload_n 1, 1) := dk_27 (dk_at dksX5_addHand_0 5 rfl rfl)
theorem dX5_addHand_6 : decode cX5_addHand 6 = .ok (.bipush 9, 2) := dk_16 9 (dk_at dksX5_addHand_0 6 rfl rfl)
theorem dX5_addHand_8 : decode cX5_addHand 8 = .ok (.invokevirtual 106, 3) := dk_182 0 106 (dk_at dksX5_addHand_0 8 rfl rfl)
theorem dX5_addHand_11 : decode cX5_addHand 11 = .ok (.iadd, 1) := dk_96 (dk_at dksX5_addHand_0 11 rfl rfl)
theorem dX5_addHand_12 : decode cX5_addHand 12 = .ok (.iload_n 2, 1) := dk_28 (dk_at dksX5_addHand_0 12 rfl rfl)
theorem dX5_addHand_13 : decode cX5_addHand 13 = .ok (.invokevirtual 99, 3) := dk_182 0 99 (dk_at dksX5_addHand_0 13 rfl rfl)
theorem dX5_addHand_16 : decode cX5_addHand 16 = .ok (.aload_n 0, 1) := dk_42 (dk_at dksX5_addHand_0 16 rfl rfl)
theorem dX5_addHand_17 : decode cX5_addHand 17 = .ok (.iload_n 1, 1) := dk_27 (dk_at dksX5_addHand_0 17 rfl rfl)
theorem dX5_addHand_18 : decode cX5_addHand 18 = .ok (.bipush 9, 2) := dk_16 9 (dk_at dksX5_addHand_0 18 rfl rfl)
theorem dX5_addHand_20 : decode cX5_addHand 20 = .ok (.aload_n 0, 1) := dk_42 (dk_at dksX5_addHand_0 20 rfl rfl)
theorem dX5_addHand_21 : decode cX5_addHand 21 = .ok (.iload_n 1, 1) := dk_27 (dk_at dksX5_addHand_0 21 rfl rfl)
theorem dX5_addHand_22 : decode cX5_addHand 22 = .ok (.bipush 9, 2) := dk_16 9 (dk_at dksX5_addHand_0 22 rfl rfl)
theorem dX5_addHand_24 : decode cX5_addHand 24 = .ok (.invokevirtual 106, 3) := dk_182 0 106 (dk_at dksX5_addHand_1 0 rfl rfl)
theorem dX5_addHand_27 : decode cX5_addHand 27 = .ok (.iconst 1, 1) := dk_4 (dk_at dksX5_addHand_1 3 rfl rfl)
theorem dX5_addHand_28 : decode cX5_addHand 28 = .ok (.iadd, 1) := dk_96 (dk_at dksX5_addHand_1 4 rfl rfl)
theorem dX5_addHand_29 : decode cX5_addHand 29 = .ok (.invokevirtual 99, 3) := dk_182 0 99 (dk_at dksX5_addHand_1 5 rfl rfl)
theorem dX5_addHand_32 : decode cX5_addHand 32 = .ok (.aload_n 0, 1) := dk_42 (dk_at dksX5_addHand_1 8 rfl rfl)
theorem dX5_addHand_33 : decode cX5_addHand 33 = .ok (.iload_n 2, 1) := dk_28 (dk_at dksX5_addHand_1 9 rfl rfl)
theorem dX5_addHand_34 : decode cX5_addHand 34 = .ok (.iconst 1, 1) := dk_4 (dk_at dksX5_addHand_1 10 rfl rfl)
theorem dX5_addHand_35 : decode cX5_addHand 35 = .ok (.iload_n 1, 1) := dk_27 (dk_at dksX5_addHand_1 11 rfl rfl)
theorem dX5_addHand_36 : decode cX5_addHand 36 = .ok (.invokevirtual 95, 3) := dk_182 0 95 (dk_at dksX5_addHand_1 12 rfl rfl)
theorem dX5_addHand_39 : decode cX5_addHand 39 = .ok (.return_, 1) := dk_177 (dk_at dksX5_addHand_1 15 rfl rfl)
abbrev cX5_recorded : ByteArray := prog_21_method_97_code
def yX5_recorded : MethodName := ⟨RX5, "recorded", "(I)I"⟩
def dkwX5_recorded_0 : List UInt8 := [27, 155, 0, 7, 42, 182, 1, 1, 27, 172]
abbrev dktX5_recorded_0 : List UInt8 := dkwX5_recorded_0 ++ []
theorem dksX5_recorded_0 : cX5_recorded.data.toList.drop 0 = dktX5_recorded_0 := by decide +kernel
theorem dX5_recorded_0 : decode cX5_recorded 0 = .ok (.iload_n 1, 1) := dk_27 (dk_at dksX5_recorded_0 0 rfl rfl)
theorem dX5_recorded_1 : decode cX5_recorded 1 = .ok (.ifCond .lt 7, 3) := dk_155 0 7 (dk_at dksX5_recorded_0 1 rfl rfl)
theorem dX5_recorded_4 : decode cX5_recorded 4 = .ok (.aload_n 0, 1) := dk_42 (dk_at dksX5_recorded_0 4 rfl rfl)
theorem dX5_recorded_5 : decode cX5_recorded 5 = .ok (.invokevirtual 257, 3) := dk_182 1 1 (dk_at dksX5_recorded_0 5 rfl rfl)
theorem dX5_recorded_8 : decode cX5_recorded 8 = .ok (.iload_n 1, 1) := dk_27 (dk_at dksX5_recorded_0 8 rfl rfl)
theorem dX5_recorded_9 : decode cX5_recorded 9 = .ok (.ireturn, 1) := dk_172 (dk_at dksX5_recorded_0 9 rfl rfl)
abbrev cX5_record : ByteArray := prog_21_method_96_code
def yX5_record : MethodName := ⟨RX5, "record", "()V"⟩
def dkwX5_record_3 : List UInt8 := [4, 96, 181, 0, 254, 177]
abbrev dktX5_record_3 : List UInt8 := dkwX5_record_3 ++ []
def dkwX5_record_2 : List UInt8 := [181, 0, 254, 42, 180, 0, 16, 3, 42, 180, 0, 22, 42, 180, 0, 254, 184, 0, 250, 42, 89, 180, 0, 254]
abbrev dktX5_record_2 : List UInt8 := dkwX5_record_2 ++ dktX5_record_3
def dkwX5_record_1 : List UInt8 := [180, 0, 22, 27, 4, 100, 184, 0, 250, 132, 1, 1, 167, 255, 232, 42, 89, 180, 0, 254, 4, 100]
abbrev dktX5_record_1 : List UInt8 := dkwX5_record_1 ++ dktX5_record_2
def dkwX5_record_0 : List UInt8 := [42, 180, 0, 254, 16, 8, 160, 0, 42, 4, 60, 27, 16, 8, 162, 0, 24, 42, 180, 0, 22, 27, 42]
abbrev dktX5_record_0 : List UInt8 := dkwX5_record_0 ++ dktX5_record_1
theorem dksX5_record_0 : cX5_record.data.toList.drop 0 = dktX5_record_0 := by decide +kernel
theorem dksX5_record_1 : cX5_record.data.toList.drop 23 = dktX5_record_1 := dk_seg dksX5_record_0 23 rfl rfl
theorem dksX5_record_2 : cX5_record.data.toList.drop 45 = dktX5_record_2 := dk_seg dksX5_record_1 22 rfl rfl
theorem dksX5_record_3 : cX5_record.data.toList.drop 69 = dktX5_record_3 := dk_seg dksX5_record_2 24 rfl rfl
theorem dX5_record_0 : decode cX5_record 0 = .ok (.aload_n 0, 1) := dk_42 (dk_at dksX5_record_0 0 rfl rfl)
theorem dX5_record_1 : decode cX5_record 1 = .ok (.getfield 254, 3) := dk_180 0 254 (dk_at dksX5_record_0 1 rfl rfl)
theorem dX5_record_4 : decode cX5_record 4 = .ok (.bipush 8, 2) := dk_16 8 (dk_at dksX5_record_0 4 rfl rfl)
theorem dX5_record_6 : decode cX5_record 6 = .ok (.if_icmp .ne 42, 3) := dk_160 0 42 (dk_at dksX5_record_0 6 rfl rfl)
theorem dX5_record_9 : decode cX5_record 9 = .ok (.iconst 1, 1) := dk_4 (dk_at dksX5_record_0 9 rfl rfl)
theorem dX5_record_10 : decode cX5_record 10 = .ok (.istore_n 1, 1) := dk_60 (dk_at dksX5_record_0 10 rfl rfl)
theorem dX5_record_11 : decode cX5_record 11 = .ok (.iload_n 1, 1) := dk_27 (dk_at dksX5_record_0 11 rfl rfl)
theorem dX5_record_12 : decode cX5_record 12 = .ok (.bipush 8, 2) := dk_16 8 (dk_at dksX5_record_0 12 rfl rfl)
theorem dX5_record_14 : decode cX5_record 14 = .ok (.if_icmp .ge 24, 3) := dk_162 0 24 (dk_at dksX5_record_0 14 rfl rfl)
theorem dX5_record_17 : decode cX5_record 17 = .ok (.aload_n 0, 1) := dk_42 (dk_at dksX5_record_0 17 rfl rfl)
theorem dX5_record_18 : decode cX5_record 18 = .ok (.getfield 22, 3) := dk_180 0 22 (dk_at dksX5_record_0 18 rfl rfl)
theorem dX5_record_21 : decode cX5_record 21 = .ok (.iload_n 1, 1) := dk_27 (dk_at dksX5_record_0 21 rfl rfl)
theorem dX5_record_22 : decode cX5_record 22 = .ok (.aload_n 0, 1) := dk_42 (dk_at dksX5_record_0 22 rfl rfl)
theorem dX5_record_23 : decode cX5_record 23 = .ok (.getfield 22, 3) := dk_180 0 22 (dk_at dksX5_record_1 0 rfl rfl)
theorem dX5_record_26 : decode cX5_record 26 = .ok (.iload_n 1, 1) := dk_27 (dk_at dksX5_record_1 3 rfl rfl)
theorem dX5_record_27 : decode cX5_record 27 = .ok (.iconst 1, 1) := dk_4 (dk_at dksX5_record_1 4 rfl rfl)
theorem dX5_record_28 : decode cX5_record 28 = .ok (.isub, 1) := dk_100 (dk_at dksX5_record_1 5 rfl rfl)
theorem dX5_record_29 : decode cX5_record 29 = .ok (.invokestatic 250, 3) := dk_184 0 250 (dk_at dksX5_record_1 6 rfl rfl)
theorem dX5_record_32 : decode cX5_record 32 = .ok (.iinc 1 1, 3) := dk_132 1 1 (dk_at dksX5_record_1 9 rfl rfl)
theorem dX5_record_35 : decode cX5_record 35 = .ok (.goto (-24), 3) := dk_167 255 232 (dk_at dksX5_record_1 12 rfl rfl)
theorem dX5_record_38 : decode cX5_record 38 = .ok (.aload_n 0, 1) := dk_42 (dk_at dksX5_record_1 15 rfl rfl)
theorem dX5_record_39 : decode cX5_record 39 = .ok (.dup, 1) := dk_89 (dk_at dksX5_record_1 16 rfl rfl)
theorem dX5_record_40 : decode cX5_record 40 = .ok (.getfield 254, 3) := dk_180 0 254 (dk_at dksX5_record_1 17 rfl rfl)
theorem dX5_record_43 : decode cX5_record 43 = .ok (.iconst 1, 1) := dk_4 (dk_at dksX5_record_1 20 rfl rfl)
theorem dX5_record_44 : decode cX5_record 44 = .ok (.isub, 1) := dk_100 (dk_at dksX5_record_1 21 rfl rfl)
theorem dX5_record_45 : decode cX5_record 45 = .ok (.putfield 254, 3) := dk_181 0 254 (dk_at dksX5_record_2 0 rfl rfl)
theorem dX5_record_48 : decode cX5_record 48 = .ok (.aload_n 0, 1) := dk_42 (dk_at dksX5_record_2 3 rfl rfl)
theorem dX5_record_49 : decode cX5_record 49 = .ok (.getfield 16, 3) := dk_180 0 16 (dk_at dksX5_record_2 4 rfl rfl)
theorem dX5_record_52 : decode cX5_record 52 = .ok (.iconst 0, 1) := dk_3 (dk_at dksX5_record_2 7 rfl rfl)
theorem dX5_record_53 : decode cX5_record 53 = .ok (.aload_n 0, 1) := dk_42 (dk_at dksX5_record_2 8 rfl rfl)
theorem dX5_record_54 : decode cX5_record 54 = .ok (.getfield 22, 3) := dk_180 0 22 (dk_at dksX5_record_2 9 rfl rfl)
theorem dX5_record_57 : decode cX5_record 57 = .ok (.aload_n 0, 1) := dk_42 (dk_at dksX5_record_2 12 rfl rfl)
theorem dX5_record_58 : decode cX5_record 58 = .ok (.getfield 254, 3) := dk_180 0 254 (dk_at dksX5_record_2 13 rfl rfl)
theorem dX5_record_61 : decode cX5_record 61 = .ok (.invokestatic 250, 3) := dk_184 0 250 (dk_at dksX5_record_2 16 rfl rfl)
theorem dX5_record_64 : decode cX5_record 64 = .ok (.aload_n 0, 1) := dk_42 (dk_at dksX5_record_2 19 rfl rfl)
theorem dX5_record_65 : decode cX5_record 65 = .ok (.dup, 1) := dk_89 (dk_at dksX5_record_2 20 rfl rfl)
theorem dX5_record_66 : decode cX5_record 66 = .ok (.getfield 254, 3) := dk_180 0 254 (dk_at dksX5_record_2 21 rfl rfl)
theorem dX5_record_69 : decode cX5_record 69 = .ok (.iconst 1, 1) := dk_4 (dk_at dksX5_record_3 0 rfl rfl)
theorem dX5_record_70 : decode cX5_record 70 = .ok (.iadd, 1) := dk_96 (dk_at dksX5_record_3 1 rfl rfl)
theorem dX5_record_71 : decode cX5_record 71 = .ok (.putfield 254, 3) := dk_181 0 254 (dk_at dksX5_record_3 2 rfl rfl)
theorem dX5_record_74 : decode cX5_record 74 = .ok (.return_, 1) := dk_177 (dk_at dksX5_record_3 5 rfl rfl)
abbrev cX5_off : ByteArray := prog_21_method_99_code
def yX5_off : MethodName := ⟨RX5, "off", "(I)I"⟩
def dkwX5_off_1 : List UInt8 := [182, 1, 10, 172]
abbrev dktX5_off_1 : List UInt8 := dkwX5_off_1 ++ []
def dkwX5_off_0 : List UInt8 := [42, 42, 27, 182, 0, 196, 182, 0, 173, 153, 0, 5, 3, 172, 42, 182, 1, 4, 42, 42, 27, 182, 1, 13]
abbrev dktX5_off_0 : List UInt8 := dkwX5_off_0 ++ dktX5_off_1
theorem dksX5_off_0 : cX5_off.data.toList.drop 0 = dktX5_off_0 := by decide +kernel
theorem dksX5_off_1 : cX5_off.data.toList.drop 24 = dktX5_off_1 := dk_seg dksX5_off_0 24 rfl rfl
theorem dX5_off_0 : decode cX5_off 0 = .ok (.aload_n 0, 1) := dk_42 (dk_at dksX5_off_0 0 rfl rfl)
theorem dX5_off_1 : decode cX5_off 1 = .ok (.aload_n 0, 1) := dk_42 (dk_at dksX5_off_0 1 rfl rfl)
theorem dX5_off_2 : decode cX5_off 2 = .ok (.iload_n 1, 1) := dk_27 (dk_at dksX5_off_0 2 rfl rfl)
theorem dX5_off_3 : decode cX5_off 3 = .ok (.invokevirtual 196, 3) := dk_182 0 196 (dk_at dksX5_off_0 3 rfl rfl)
theorem dX5_off_6 : decode cX5_off 6 = .ok (.invokevirtual 173, 3) := dk_182 0 173 (dk_at dksX5_off_0 6 rfl rfl)
theorem dX5_off_9 : decode cX5_off 9 = .ok (.ifCond .eq 5, 3) := dk_153 0 5 (dk_at dksX5_off_0 9 rfl rfl)
theorem dX5_off_12 : decode cX5_off 12 = .ok (.iconst 0, 1) := dk_3 (dk_at dksX5_off_0 12 rfl rfl)
theorem dX5_off_13 : decode cX5_off 13 = .ok (.ireturn, 1) := dk_172 (dk_at dksX5_off_0 13 rfl rfl)
theorem dX5_off_14 : decode cX5_off 14 = .ok (.aload_n 0, 1) := dk_42 (dk_at dksX5_off_0 14 rfl rfl)
theorem dX5_off_15 : decode cX5_off 15 = .ok (.invokevirtual 260, 3) := dk_182 1 4 (dk_at dksX5_off_0 15 rfl rfl)
theorem dX5_off_18 : decode cX5_off 18 = .ok (.aload_n 0, 1) := dk_42 (dk_at dksX5_off_0 18 rfl rfl)
theorem dX5_off_19 : decode cX5_off 19 = .ok (.aload_n 0, 1) := dk_42 (dk_at dksX5_off_0 19 rfl rfl)
theorem dX5_off_20 : decode cX5_off 20 = .ok (.iload_n 1, 1) := dk_27 (dk_at dksX5_off_0 20 rfl rfl)
theorem dX5_off_21 : decode cX5_off 21 = .ok (.invokevirtual 269, 3) := dk_182 1 13 (dk_at dksX5_off_0 21 rfl rfl)
theorem dX5_off_24 : decode cX5_off 24 = .ok (.invokevirtual 266, 3) := dk_182 1 10 (dk_at dksX5_off_1 0 rfl rfl)
theorem dX5_off_27 : decode cX5_off 27 = .ok (.ireturn, 1) := dk_172 (dk_at dksX5_off_1 3 rfl rfl)
abbrev cX5_doOff : ByteArray := prog_21_method_86_code
def yX5_doOff : MethodName := ⟨RX5, "doOff", "(I)I"⟩
def dkwX5_doOff_1 : List UInt8 := [42, 28, 182, 0, 230, 172]
abbrev dktX5_doOff_1 : List UInt8 := dkwX5_doOff_1 ++ []
def dkwX5_doOff_0 : List UInt8 := [42, 27, 4, 182, 0, 127, 61, 28, 2, 160, 0, 10, 42, 16, 254, 182, 0, 230, 172, 42, 27, 182, 0, 233]
abbrev dktX5_doOff_0 : List UInt8 := dkwX5_doOff_0 ++ dktX5_doOff_1
theorem dksX5_doOff_0 : cX5_doOff.data.toList.drop 0 = dktX5_doOff_0 := by decide +kernel
theorem dksX5_doOff_1 : cX5_doOff.data.toList.drop 24 = dktX5_doOff_1 := dk_seg dksX5_doOff_0 24 rfl rfl
theorem dX5_doOff_0 : decode cX5_doOff 0 = .ok (.aload_n 0, 1) := dk_42 (dk_at dksX5_doOff_0 0 rfl rfl)
theorem dX5_doOff_1 : decode cX5_doOff 1 = .ok (.iload_n 1, 1) := dk_27 (dk_at dksX5_doOff_0 1 rfl rfl)
theorem dX5_doOff_2 : decode cX5_doOff 2 = .ok (.iconst 1, 1) := dk_4 (dk_at dksX5_doOff_0 2 rfl rfl)
theorem dX5_doOff_3 : decode cX5_doOff 3 = .ok (.invokevirtual 127, 3) := dk_182 0 127 (dk_at dksX5_doOff_0 3 rfl rfl)
theorem dX5_doOff_6 : decode cX5_doOff 6 = .ok (.istore_n 2, 1) := dk_61 (dk_at dksX5_doOff_0 6 rfl rfl)
theorem dX5_doOff_7 : decode cX5_doOff 7 = .ok (.iload_n 2, 1) := dk_28 (dk_at dksX5_doOff_0 7 rfl rfl)
theorem dX5_doOff_8 : decode cX5_doOff 8 = .ok (.iconst (-1), 1) := dk_2 (dk_at dksX5_doOff_0 8 rfl rfl)
theorem dX5_doOff_9 : decode cX5_doOff 9 = .ok (.if_icmp .ne 10, 3) := dk_160 0 10 (dk_at dksX5_doOff_0 9 rfl rfl)
theorem dX5_doOff_12 : decode cX5_doOff 12 = .ok (.aload_n 0, 1) := dk_42 (dk_at dksX5_doOff_0 12 rfl rfl)
theorem dX5_doOff_13 : decode cX5_doOff 13 = .ok (.bipush (-2), 2) := dk_16 254 (dk_at dksX5_doOff_0 13 rfl rfl)
theorem dX5_doOff_15 : decode cX5_doOff 15 = .ok (.invokevirtual 230, 3) := dk_182 0 230 (dk_at dksX5_doOff_0 15 rfl rfl)
theorem dX5_doOff_18 : decode cX5_doOff 18 = .ok (.ireturn, 1) := dk_172 (dk_at dksX5_doOff_0 18 rfl rfl)
theorem dX5_doOff_19 : decode cX5_doOff 19 = .ok (.aload_n 0, 1) := dk_42 (dk_at dksX5_doOff_0 19 rfl rfl)
theorem dX5_doOff_20 : decode cX5_doOff 20 = .ok (.iload_n 1, 1) := dk_27 (dk_at dksX5_doOff_0 20 rfl rfl)
theorem dX5_doOff_21 : decode cX5_doOff 21 = .ok (.invokevirtual 233, 3) := dk_182 0 233 (dk_at dksX5_doOff_0 21 rfl rfl)
theorem dX5_doOff_24 : decode cX5_doOff 24 = .ok (.aload_n 0, 1) := dk_42 (dk_at dksX5_doOff_1 0 rfl rfl)
theorem dX5_doOff_25 : decode cX5_doOff 25 = .ok (.iload_n 2, 1) := dk_28 (dk_at dksX5_doOff_1 1 rfl rfl)
theorem dX5_doOff_26 : decode cX5_doOff 26 = .ok (.invokevirtual 230, 3) := dk_182 0 230 (dk_at dksX5_doOff_1 2 rfl rfl)
theorem dX5_doOff_29 : decode cX5_doOff 29 = .ok (.ireturn, 1) := dk_172 (dk_at dksX5_doOff_1 5 rfl rfl)
abbrev cX5_offAll : ByteArray := prog_21_method_100_code
def yX5_offAll : MethodName := ⟨RX5, "offAll", "()I"⟩
def dkwX5_offAll_0 : List UInt8 := [42, 3, 181, 0, 92, 42, 182, 1, 4, 42, 42, 182, 1, 16, 182, 1, 10, 172]
abbrev dktX5_offAll_0 : List UInt8 := dkwX5_offAll_0 ++ []
theorem dksX5_offAll_0 : cX5_offAll.data.toList.drop 0 = dktX5_offAll_0 := by decide +kernel
theorem dX5_offAll_0 : decode cX5_offAll 0 = .ok (.aload_n 0, 1) := dk_42 (dk_at dksX5_offAll_0 0 rfl rfl)
theorem dX5_offAll_1 : decode cX5_offAll 1 = .ok (.iconst 0, 1) := dk_3 (dk_at dksX5_offAll_0 1 rfl rfl)
theorem dX5_offAll_2 : decode cX5_offAll 2 = .ok (.putfield 92, 3) := dk_181 0 92 (dk_at dksX5_offAll_0 2 rfl rfl)
theorem dX5_offAll_5 : decode cX5_offAll 5 = .ok (.aload_n 0, 1) := dk_42 (dk_at dksX5_offAll_0 5 rfl rfl)
theorem dX5_offAll_6 : decode cX5_offAll 6 = .ok (.invokevirtual 260, 3) := dk_182 1 4 (dk_at dksX5_offAll_0 6 rfl rfl)
theorem dX5_offAll_9 : decode cX5_offAll 9 = .ok (.aload_n 0, 1) := dk_42 (dk_at dksX5_offAll_0 9 rfl rfl)
theorem dX5_offAll_10 : decode cX5_offAll 10 = .ok (.aload_n 0, 1) := dk_42 (dk_at dksX5_offAll_0 10 rfl rfl)
theorem dX5_offAll_11 : decode cX5_offAll 11 = .ok (.invokevirtual 272, 3) := dk_182 1 16 (dk_at dksX5_offAll_0 11 rfl rfl)
theorem dX5_offAll_14 : decode cX5_offAll 14 = .ok (.invokevirtual 266, 3) := dk_182 1 10 (dk_at dksX5_offAll_0 14 rfl rfl)
theorem dX5_offAll_17 : decode cX5_offAll 17 = .ok (.ireturn, 1) := dk_172 (dk_at dksX5_offAll_0 17 rfl rfl)
abbrev cX5_doOffAll : ByteArray := prog_21_method_87_code
def yX5_doOffAll : MethodName := ⟨RX5, "doOffAll", "()I"⟩
def dkwX5_doOffAll_2 : List UInt8 := [154, 0, 8, 16, 254, 167, 0, 4, 27, 182, 0, 230, 172]
abbrev dktX5_doOffAll_2 : List UInt8 := dkwX5_doOffAll_2 ++ []
def dkwX5_doOffAll_1 : List UInt8 := [160, 0, 7, 3, 167, 0, 4, 4, 96, 60, 42, 28, 182, 0, 233, 132, 2, 1, 167, 255, 220, 42, 27]
abbrev dktX5_doOffAll_1 : List UInt8 := dkwX5_doOffAll_1 ++ dktX5_doOffAll_2
def dkwX5_doOffAll_0 : List UInt8 := [3, 60, 3, 61, 28, 42, 180, 0, 51, 7, 46, 162, 0, 32, 27, 42, 28, 4, 182, 0, 127, 2]
abbrev dktX5_doOffAll_0 : List UInt8 := dkwX5_doOffAll_0 ++ dktX5_doOffAll_1
theorem dksX5_doOffAll_0 : cX5_doOffAll.data.toList.drop 0 = dktX5_doOffAll_0 := by decide +kernel
theorem dksX5_doOffAll_1 : cX5_doOffAll.data.toList.drop 22 = dktX5_doOffAll_1 := dk_seg dksX5_doOffAll_0 22 rfl rfl
theorem dksX5_doOffAll_2 : cX5_doOffAll.data.toList.drop 45 = dktX5_doOffAll_2 := dk_seg dksX5_doOffAll_1 23 rfl rfl
theorem dX5_doOffAll_0 : decode cX5_doOffAll 0 = .ok (.iconst 0, 1) := dk_3 (dk_at dksX5_doOffAll_0 0 rfl rfl)
theorem dX5_doOffAll_1 : decode cX5_doOffAll 1 = .ok (.istore_n 1, 1) := dk_60 (dk_at dksX5_doOffAll_0 1 rfl rfl)
theorem dX5_doOffAll_2 : decode cX5_doOffAll 2 = .ok (.iconst 0, 1) := dk_3 (dk_at dksX5_doOffAll_0 2 rfl rfl)
theorem dX5_doOffAll_3 : decode cX5_doOffAll 3 = .ok (.istore_n 2, 1) := dk_61 (dk_at dksX5_doOffAll_0 3 rfl rfl)
theorem dX5_doOffAll_4 : decode cX5_doOffAll 4 = .ok (.iload_n 2, 1) := dk_28 (dk_at dksX5_doOffAll_0 4 rfl rfl)
theorem dX5_doOffAll_5 : decode cX5_doOffAll 5 = .ok (.aload_n 0, 1) := dk_42 (dk_at dksX5_doOffAll_0 5 rfl rfl)
theorem dX5_doOffAll_6 : decode cX5_doOffAll 6 = .ok (.getfield 51, 3) := dk_180 0 51 (dk_at dksX5_doOffAll_0 6 rfl rfl)
theorem dX5_doOffAll_9 : decode cX5_doOffAll 9 = .ok (.iconst 4, 1) := dk_7 (dk_at dksX5_doOffAll_0 9 rfl rfl)
theorem dX5_doOffAll_10 : decode cX5_doOffAll 10 = .ok (.iaload, 1) := dk_46 (dk_at dksX5_doOffAll_0 10 rfl rfl)
theorem dX5_doOffAll_11 : decode cX5_doOffAll 11 = .ok (.if_icmp .ge 32, 3) := dk_162 0 32 (dk_at dksX5_doOffAll_0 11 rfl rfl)
theorem dX5_doOffAll_14 : decode cX5_doOffAll 14 = .ok (.iload_n 1, 1) := dk_27 (dk_at dksX5_doOffAll_0 14 rfl rfl)
theorem dX5_doOffAll_15 : decode cX5_doOffAll 15 = .ok (.aload_n 0, 1) := dk_42 (dk_at dksX5_doOffAll_0 15 rfl rfl)
theorem dX5_doOffAll_16 : decode cX5_doOffAll 16 = .ok (.iload_n 2, 1) := dk_28 (dk_at dksX5_doOffAll_0 16 rfl rfl)
theorem dX5_doOffAll_17 : decode cX5_doOffAll 17 = .ok (.iconst 1, 1) := dk_4 (dk_at dksX5_doOffAll_0 17 rfl rfl)
theorem dX5_doOffAll_18 : decode cX5_doOffAll 18 = .ok (.invokevirtual 127, 3) := dk_182 0 127 (dk_at dksX5_doOffAll_0 18 rfl rfl)
theorem dX5_doOffAll_21 : decode cX5_doOffAll 21 = .ok (.iconst (-1), 1) := dk_2 (dk_at dksX5_doOffAll_0 21 rfl rfl)
theorem dX5_doOffAll_22 : decode cX5_doOffAll 22 = .ok (.if_icmp .ne 7, 3) := dk_160 0 7 (dk_at dksX5_doOffAll_1 0 rfl rfl)
theorem dX5_doOffAll_25 : decode cX5_doOffAll 25 = .ok (.iconst 0, 1) := dk_3 (dk_at dksX5_doOffAll_1 3 rfl rfl)
theorem dX5_doOffAll_26 : decode cX5_doOffAll 26 = .ok (.goto 4, 3) := dk_167 0 4 (dk_at dksX5_doOffAll_1 4 rfl rfl)
theorem dX5_doOffAll_29 : decode cX5_doOffAll 29 = .ok (.iconst 1, 1) := dk_4 (dk_at dksX5_doOffAll_1 7 rfl rfl)
theorem dX5_doOffAll_30 : decode cX5_doOffAll 30 = .ok (.iadd, 1) := dk_96 (dk_at dksX5_doOffAll_1 8 rfl rfl)
theorem dX5_doOffAll_31 : decode cX5_doOffAll 31 = .ok (.istore_n 1, 1) := dk_60 (dk_at dksX5_doOffAll_1 9 rfl rfl)
theorem dX5_doOffAll_32 : decode cX5_doOffAll 32 = .ok (.aload_n 0, 1) := dk_42 (dk_at dksX5_doOffAll_1 10 rfl rfl)
theorem dX5_doOffAll_33 : decode cX5_doOffAll 33 = .ok (.iload_n 2, 1) := dk_28 (dk_at dksX5_doOffAll_1 11 rfl rfl)
theorem dX5_doOffAll_34 : decode cX5_doOffAll 34 = .ok (.invokevirtual 233, 3) := dk_182 0 233 (dk_at dksX5_doOffAll_1 12 rfl rfl)
theorem dX5_doOffAll_37 : decode cX5_doOffAll 37 = .ok (.iinc 2 1, 3) := dk_132 2 1 (dk_at dksX5_doOffAll_1 15 rfl rfl)
theorem dX5_doOffAll_40 : decode cX5_doOffAll 40 = .ok (.goto (-36), 3) := dk_167 255 220 (dk_at dksX5_doOffAll_1 18 rfl rfl)
theorem dX5_doOffAll_43 : decode cX5_doOffAll 43 = .ok (.aload_n 0, 1) := dk_42 (dk_at dksX5_doOffAll_1 21 rfl rfl)
theorem dX5_doOffAll_44 : decode cX5_doOffAll 44 = .ok (.iload_n 1, 1) := dk_27 (dk_at dksX5_doOffAll_1 22 rfl rfl)
theorem dX5_doOffAll_45 : decode cX5_doOffAll 45 = .ok (.ifCond .ne 8, 3) := dk_154 0 8 (dk_at dksX5_doOffAll_2 0 rfl rfl)
theorem dX5_doOffAll_48 : decode cX5_doOffAll 48 = .ok (.bipush (-2), 2) := dk_16 254 (dk_at dksX5_doOffAll_2 3 rfl rfl)
theorem dX5_doOffAll_50 : decode cX5_doOffAll 50 = .ok (.goto 4, 3) := dk_167 0 4 (dk_at dksX5_doOffAll_2 5 rfl rfl)
theorem dX5_doOffAll_53 : decode cX5_doOffAll 53 = .ok (.iload_n 1, 1) := dk_27 (dk_at dksX5_doOffAll_2 8 rfl rfl)
theorem dX5_doOffAll_54 : decode cX5_doOffAll 54 = .ok (.invokevirtual 230, 3) := dk_182 0 230 (dk_at dksX5_doOffAll_2 9 rfl rfl)
theorem dX5_doOffAll_57 : decode cX5_doOffAll 57 = .ok (.ireturn, 1) := dk_172 (dk_at dksX5_doOffAll_2 12 rfl rfl)
abbrev cX5_pay : ByteArray := prog_21_method_101_code
def yX5_pay : MethodName := ⟨RX5, "pay", "(III)I"⟩
def dkwX5_pay_2 : List UInt8 := [172, 42, 182, 1, 4, 42, 42, 27, 28, 29, 182, 1, 19, 182, 1, 10, 172]
abbrev dktX5_pay_2 : List UInt8 := dkwX5_pay_2 ++ []
def dkwX5_pay_1 : List UInt8 := [182, 0, 173, 153, 0, 5, 3, 172, 29, 4, 17, 3, 231, 184, 0, 102, 154, 0, 9, 42, 5, 182, 0, 193]
abbrev dktX5_pay_1 : List UInt8 := dkwX5_pay_1 ++ dktX5_pay_2
def dkwX5_pay_0 : List UInt8 := [42, 42, 27, 182, 0, 196, 153, 0, 15, 42, 28, 182, 0, 196, 153, 0, 7, 4, 167, 0, 4, 3]
abbrev dktX5_pay_0 : List UInt8 := dkwX5_pay_0 ++ dktX5_pay_1
theorem dksX5_pay_0 : cX5_pay.data.toList.drop 0 = dktX5_pay_0 := by decide +kernel
theorem dksX5_pay_1 : cX5_pay.data.toList.drop 22 = dktX5_pay_1 := dk_seg dksX5_pay_0 22 rfl rfl
theorem dksX5_pay_2 : cX5_pay.data.toList.drop 46 = dktX5_pay_2 := dk_seg dksX5_pay_1 24 rfl rfl
theorem dX5_pay_0 : decode cX5_pay 0 = .ok (.aload_n 0, 1) := dk_42 (dk_at dksX5_pay_0 0 rfl rfl)
theorem dX5_pay_1 : decode cX5_pay 1 = .ok (.aload_n 0, 1) := dk_42 (dk_at dksX5_pay_0 1 rfl rfl)
theorem dX5_pay_2 : decode cX5_pay 2 = .ok (.iload_n 1, 1) := dk_27 (dk_at dksX5_pay_0 2 rfl rfl)
theorem dX5_pay_3 : decode cX5_pay 3 = .ok (.invokevirtual 196, 3) := dk_182 0 196 (dk_at dksX5_pay_0 3 rfl rfl)
theorem dX5_pay_6 : decode cX5_pay 6 = .ok (.ifCond .eq 15, 3) := dk_153 0 15 (dk_at dksX5_pay_0 6 rfl rfl)
theorem dX5_pay_9 : decode cX5_pay 9 = .ok (.aload_n 0, 1) := dk_42 (dk_at dksX5_pay_0 9 rfl rfl)
theorem dX5_pay_10 : decode cX5_pay 10 = .ok (.iload_n 2, 1) := dk_28 (dk_at dksX5_pay_0 10 rfl rfl)
theorem dX5_pay_11 : decode cX5_pay 11 = .ok (.invokevirtual 196, 3) := dk_182 0 196 (dk_at dksX5_pay_0 11 rfl rfl)
theorem dX5_pay_14 : decode cX5_pay 14 = .ok (.ifCond .eq 7, 3) := dk_153 0 7 (dk_at dksX5_pay_0 14 rfl rfl)
theorem dX5_pay_17 : decode cX5_pay 17 = .ok (.iconst 1, 1) := dk_4 (dk_at dksX5_pay_0 17 rfl rfl)
theorem dX5_pay_18 : decode cX5_pay 18 = .ok (.goto 4, 3) := dk_167 0 4 (dk_at dksX5_pay_0 18 rfl rfl)
theorem dX5_pay_21 : decode cX5_pay 21 = .ok (.iconst 0, 1) := dk_3 (dk_at dksX5_pay_0 21 rfl rfl)
theorem dX5_pay_22 : decode cX5_pay 22 = .ok (.invokevirtual 173, 3) := dk_182 0 173 (dk_at dksX5_pay_1 0 rfl rfl)
theorem dX5_pay_25 : decode cX5_pay 25 = .ok (.ifCond .eq 5, 3) := dk_153 0 5 (dk_at dksX5_pay_1 3 rfl rfl)
theorem dX5_pay_28 : decode cX5_pay 28 = .ok (.iconst 0, 1) := dk_3 (dk_at dksX5_pay_1 6 rfl rfl)
theorem dX5_pay_29 : decode cX5_pay 29 = .ok (.ireturn, 1) := dk_172 (dk_at dksX5_pay_1 7 rfl rfl)
theorem dX5_pay_30 : decode cX5_pay 30 = .ok (.iload_n 3, 1) := dk_29 (dk_at dksX5_pay_1 8 rfl rfl)
theorem dX5_pay_31 : decode cX5_pay 31 = .ok (.iconst 1, 1) := dk_4 (dk_at dksX5_pay_1 9 rfl rfl)
theorem dX5_pay_32 : decode cX5_pay 32 = .ok (.sipush 999, 3) := dk_17 3 231 (dk_at dksX5_pay_1 10 rfl rfl)
theorem dX5_pay_35 : decode cX5_pay 35 = .ok (.invokestatic 102, 3) := dk_184 0 102 (dk_at dksX5_pay_1 13 rfl rfl)
theorem dX5_pay_38 : decode cX5_pay 38 = .ok (.ifCond .ne 9, 3) := dk_154 0 9 (dk_at dksX5_pay_1 16 rfl rfl)
theorem dX5_pay_41 : decode cX5_pay 41 = .ok (.aload_n 0, 1) := dk_42 (dk_at dksX5_pay_1 19 rfl rfl)
theorem dX5_pay_42 : decode cX5_pay 42 = .ok (.iconst 2, 1) := dk_5 (dk_at dksX5_pay_1 20 rfl rfl)
theorem dX5_pay_43 : decode cX5_pay 43 = .ok (.invokevirtual 193, 3) := dk_182 0 193 (dk_at dksX5_pay_1 21 rfl rfl)
theorem dX5_pay_46 : decode cX5_pay 46 = .ok (.ireturn, 1) := dk_172 (dk_at dksX5_pay_2 0 rfl rfl)
theorem dX5_pay_47 : decode cX5_pay 47 = .ok (.aload_n 0, 1) := dk_42 (dk_at dksX5_pay_2 1 rfl rfl)
theorem dX5_pay_48 : decode cX5_pay 48 = .ok (.invokevirtual 260, 3) := dk_182 1 4 (dk_at dksX5_pay_2 2 rfl rfl)
theorem dX5_pay_51 : decode cX5_pay 51 = .ok (.aload_n 0, 1) := dk_42 (dk_at dksX5_pay_2 5 rfl rfl)
theorem dX5_pay_52 : decode cX5_pay 52 = .ok (.aload_n 0, 1) := dk_42 (dk_at dksX5_pay_2 6 rfl rfl)
theorem dX5_pay_53 : decode cX5_pay 53 = .ok (.iload_n 1, 1) := dk_27 (dk_at dksX5_pay_2 7 rfl rfl)
theorem dX5_pay_54 : decode cX5_pay 54 = .ok (.iload_n 2, 1) := dk_28 (dk_at dksX5_pay_2 8 rfl rfl)
theorem dX5_pay_55 : decode cX5_pay 55 = .ok (.iload_n 3, 1) := dk_29 (dk_at dksX5_pay_2 9 rfl rfl)
theorem dX5_pay_56 : decode cX5_pay 56 = .ok (.invokevirtual 275, 3) := dk_182 1 19 (dk_at dksX5_pay_2 10 rfl rfl)
theorem dX5_pay_59 : decode cX5_pay 59 = .ok (.invokevirtual 266, 3) := dk_182 1 10 (dk_at dksX5_pay_2 13 rfl rfl)
theorem dX5_pay_62 : decode cX5_pay 62 = .ok (.ireturn, 1) := dk_172 (dk_at dksX5_pay_2 16 rfl rfl)
abbrev cX5_doPay : ByteArray := prog_21_method_88_code
def yX5_doPay : MethodName := ⟨RX5, "doPay", "(III)I"⟩
def dkwX5_doPay_2 : List UInt8 := [28, 3, 182, 0, 127, 29, 96, 182, 0, 95, 42, 42, 28, 3, 182, 0, 127, 182, 0, 230, 172]
abbrev dktX5_doPay_2 : List UInt8 := dkwX5_doPay_2 ++ []
def dkwX5_doPay_1 : List UInt8 := [16, 253, 182, 0, 230, 172, 42, 27, 3, 42, 27, 3, 182, 0, 127, 29, 100, 182, 0, 95, 42, 28, 3, 42]
abbrev dktX5_doPay_1 : List UInt8 := dkwX5_doPay_1 ++ dktX5_doPay_2
def dkwX5_doPay_0 : List UInt8 := [27, 28, 160, 0, 10, 42, 16, 254, 182, 0, 230, 172, 29, 42, 27, 3, 182, 0, 127, 164, 0, 10, 42]
abbrev dktX5_doPay_0 : List UInt8 := dkwX5_doPay_0 ++ dktX5_doPay_1
theorem dksX5_doPay_0 : cX5_doPay.data.toList.drop 0 = dktX5_doPay_0 := by decide +kernel
theorem dksX5_doPay_1 : cX5_doPay.data.toList.drop 23 = dktX5_doPay_1 := dk_seg dksX5_doPay_0 23 rfl rfl
theorem dksX5_doPay_2 : cX5_doPay.data.toList.drop 47 = dktX5_doPay_2 := dk_seg dksX5_doPay_1 24 rfl rfl
theorem dX5_doPay_0 : decode cX5_doPay 0 = .ok (.iload_n 1, 1) := dk_27 (dk_at dksX5_doPay_0 0 rfl rfl)
theorem dX5_doPay_1 : decode cX5_doPay 1 = .ok (.iload_n 2, 1) := dk_28 (dk_at dksX5_doPay_0 1 rfl rfl)
theorem dX5_doPay_2 : decode cX5_doPay 2 = .ok (.if_icmp .ne 10, 3) := dk_160 0 10 (dk_at dksX5_doPay_0 2 rfl rfl)
theorem dX5_doPay_5 : decode cX5_doPay 5 = .ok (.aload_n 0, 1) := dk_42 (dk_at dksX5_doPay_0 5 rfl rfl)
theorem dX5_doPay_6 : decode cX5_doPay 6 = .ok (.bipush (-2), 2) := dk_16 254 (dk_at dksX5_doPay_0 6 rfl rfl)
theorem dX5_doPay_8 : decode cX5_doPay 8 = .ok (.invokevirtual 230, 3) := dk_182 0 230 (dk_at dksX5_doPay_0 8 rfl rfl)
theorem dX5_doPay_11 : decode cX5_doPay 11 = .ok (.ireturn, 1) := dk_172 (dk_at dksX5_doPay_0 11 rfl rfl)
theorem dX5_doPay_12 : decode cX5_doPay 12 = .ok (.iload_n 3, 1) := dk_29 (dk_at dksX5_doPay_0 12 rfl rfl)
theorem dX5_doPay_13 : decode cX5_doPay 13 = .ok (.aload_n 0, 1) := dk_42 (dk_at dksX5_doPay_0 13 rfl rfl)
theorem dX5_doPay_14 : decode cX5_doPay 14 = .ok (.iload_n 1, 1) := dk_27 (dk_at dksX5_doPay_0 14 rfl rfl)
theorem dX5_doPay_15 : decode cX5_doPay 15 = .ok (.iconst 0, 1) := dk_3 (dk_at dksX5_doPay_0 15 rfl rfl)
theorem dX5_doPay_16 : decode cX5_doPay 16 = .ok (.invokevirtual 127, 3) := dk_182 0 127 (dk_at dksX5_doPay_0 16 rfl rfl)
theorem dX5_doPay_19 : decode cX5_doPay 19 = .ok (.if_icmp .le 10, 3) := dk_164 0 10 (dk_at dksX5_doPay_0 19 rfl rfl)
theorem dX5_doPay_22 : decode cX5_doPay 22 = .ok (.aload_n 0, 1) := dk_42 (dk_at dksX5_doPay_0 22 rfl rfl)
theorem dX5_doPay_23 : decode cX5_doPay 23 = .ok (.bipush (-3), 2) := dk_16 253 (dk_at dksX5_doPay_1 0 rfl rfl)
theorem dX5_doPay_25 : decode cX5_doPay 25 = .ok (.invokevirtual 230, 3) := dk_182 0 230 (dk_at dksX5_doPay_1 2 rfl rfl)
theorem dX5_doPay_28 : decode cX5_doPay 28 = .ok (.ireturn, 1) := dk_172 (dk_at dksX5_doPay_1 5 rfl rfl)
theorem dX5_doPay_29 : decode cX5_doPay 29 = .ok (.aload_n 0, 1) := dk_42 (dk_at dksX5_doPay_1 6 rfl rfl)
theorem dX5_doPay_30 : decode cX5_doPay 30 = .ok (.iload_n 1, 1) := dk_27 (dk_at dksX5_doPay_1 7 rfl rfl)
theorem dX5_doPay_31 : decode cX5_doPay 31 = .ok (.iconst 0, 1) := dk_3 (dk_at dksX5_doPay_1 8 rfl rfl)
theorem dX5_doPay_32 : decode cX5_doPay 32 = .ok (.aload_n 0, 1) := dk_42 (dk_at dksX5_doPay_1 9 rfl rfl)
theorem dX5_doPay_33 : decode cX5_doPay 33 = .ok (.iload_n 1, 1) := dk_27 (dk_at dksX5_doPay_1 10 rfl rfl)
theorem dX5_doPay_34 : decode cX5_doPay 34 = .ok (.iconst 0, 1) := dk_3 (dk_at dksX5_doPay_1 11 rfl rfl)
theorem dX5_doPay_35 : decode cX5_doPay 35 = .ok (.invokevirtual 127, 3) := dk_182 0 127 (dk_at dksX5_doPay_1 12 rfl rfl)
theorem dX5_doPay_38 : decode cX5_doPay 38 = .ok (.iload_n 3, 1) := dk_29 (dk_at dksX5_doPay_1 15 rfl rfl)
theorem dX5_doPay_39 : decode cX5_doPay 39 = .ok (.isub, 1) := dk_100 (dk_at dksX5_doPay_1 16 rfl rfl)
theorem dX5_doPay_40 : decode cX5_doPay 40 = .ok (.invokevirtual 95, 3) := dk_182 0 95 (dk_at dksX5_doPay_1 17 rfl rfl)
theorem dX5_doPay_43 : decode cX5_doPay 43 = .ok (.aload_n 0, 1) := dk_42 (dk_at dksX5_doPay_1 20 rfl rfl)
theorem dX5_doPay_44 : decode cX5_doPay 44 = .ok (.iload_n 2, 1) := dk_28 (dk_at dksX5_doPay_1 21 rfl rfl)
theorem dX5_doPay_45 : decode cX5_doPay 45 = .ok (.iconst 0, 1) := dk_3 (dk_at dksX5_doPay_1 22 rfl rfl)
theorem dX5_doPay_46 : decode cX5_doPay 46 = .ok (.aload_n 0, 1) := dk_42 (dk_at dksX5_doPay_1 23 rfl rfl)
theorem dX5_doPay_47 : decode cX5_doPay 47 = .ok (.iload_n 2, 1) := dk_28 (dk_at dksX5_doPay_2 0 rfl rfl)
theorem dX5_doPay_48 : decode cX5_doPay 48 = .ok (.iconst 0, 1) := dk_3 (dk_at dksX5_doPay_2 1 rfl rfl)
theorem dX5_doPay_49 : decode cX5_doPay 49 = .ok (.invokevirtual 127, 3) := dk_182 0 127 (dk_at dksX5_doPay_2 2 rfl rfl)
theorem dX5_doPay_52 : decode cX5_doPay 52 = .ok (.iload_n 3, 1) := dk_29 (dk_at dksX5_doPay_2 5 rfl rfl)
theorem dX5_doPay_53 : decode cX5_doPay 53 = .ok (.iadd, 1) := dk_96 (dk_at dksX5_doPay_2 6 rfl rfl)
theorem dX5_doPay_54 : decode cX5_doPay 54 = .ok (.invokevirtual 95, 3) := dk_182 0 95 (dk_at dksX5_doPay_2 7 rfl rfl)
theorem dX5_doPay_57 : decode cX5_doPay 57 = .ok (.aload_n 0, 1) := dk_42 (dk_at dksX5_doPay_2 10 rfl rfl)
theorem dX5_doPay_58 : decode cX5_doPay 58 = .ok (.aload_n 0, 1) := dk_42 (dk_at dksX5_doPay_2 11 rfl rfl)
theorem dX5_doPay_59 : decode cX5_doPay 59 = .ok (.iload_n 2, 1) := dk_28 (dk_at dksX5_doPay_2 12 rfl rfl)
theorem dX5_doPay_60 : decode cX5_doPay 60 = .ok (.iconst 0, 1) := dk_3 (dk_at dksX5_doPay_2 13 rfl rfl)
theorem dX5_doPay_61 : decode cX5_doPay 61 = .ok (.invokevirtual 127, 3) := dk_182 0 127 (dk_at dksX5_doPay_2 14 rfl rfl)
theorem dX5_doPay_64 : decode cX5_doPay 64 = .ok (.invokevirtual 230, 3) := dk_182 0 230 (dk_at dksX5_doPay_2 17 rfl rfl)
theorem dX5_doPay_67 : decode cX5_doPay 67 = .ok (.ireturn, 1) := dk_172 (dk_at dksX5_doPay_2 20 rfl rfl)
abbrev cX5_haul : ByteArray := prog_21_method_102_code
def yX5_haul : MethodName := ⟨RX5, "haul", "(I)I"⟩
def dkwX5_haul_1 : List UInt8 := [182, 1, 10, 172]
abbrev dktX5_haul_1 : List UInt8 := dkwX5_haul_1 ++ []
def dkwX5_haul_0 : List UInt8 := [42, 42, 27, 182, 0, 190, 182, 0, 173, 153, 0, 5, 3, 172, 42, 182, 1, 4, 42, 42, 27, 182, 1, 23]
abbrev dktX5_haul_0 : List UInt8 := dkwX5_haul_0 ++ dktX5_haul_1
theorem dksX5_haul_0 : cX5_haul.data.toList.drop 0 = dktX5_haul_0 := by decide +kernel
theorem dksX5_haul_1 : cX5_haul.data.toList.drop 24 = dktX5_haul_1 := dk_seg dksX5_haul_0 24 rfl rfl
theorem dX5_haul_0 : decode cX5_haul 0 = .ok (.aload_n 0, 1) := dk_42 (dk_at dksX5_haul_0 0 rfl rfl)
theorem dX5_haul_1 : decode cX5_haul 1 = .ok (.aload_n 0, 1) := dk_42 (dk_at dksX5_haul_0 1 rfl rfl)
theorem dX5_haul_2 : decode cX5_haul 2 = .ok (.iload_n 1, 1) := dk_27 (dk_at dksX5_haul_0 2 rfl rfl)
theorem dX5_haul_3 : decode cX5_haul 3 = .ok (.invokevirtual 190, 3) := dk_182 0 190 (dk_at dksX5_haul_0 3 rfl rfl)
theorem dX5_haul_6 : decode cX5_haul 6 = .ok (.invokevirtual 173, 3) := dk_182 0 173 (dk_at dksX5_haul_0 6 rfl rfl)
theorem dX5_haul_9 : decode cX5_haul 9 = .ok (.ifCond .eq 5, 3) := dk_153 0 5 (dk_at dksX5_haul_0 9 rfl rfl)
theorem dX5_haul_12 : decode cX5_haul 12 = .ok (.iconst 0, 1) := dk_3 (dk_at dksX5_haul_0 12 rfl rfl)
theorem dX5_haul_13 : decode cX5_haul 13 = .ok (.ireturn, 1) := dk_172 (dk_at dksX5_haul_0 13 rfl rfl)
theorem dX5_haul_14 : decode cX5_haul 14 = .ok (.aload_n 0, 1) := dk_42 (dk_at dksX5_haul_0 14 rfl rfl)
theorem dX5_haul_15 : decode cX5_haul 15 = .ok (.invokevirtual 260, 3) := dk_182 1 4 (dk_at dksX5_haul_0 15 rfl rfl)
theorem dX5_haul_18 : decode cX5_haul 18 = .ok (.aload_n 0, 1) := dk_42 (dk_at dksX5_haul_0 18 rfl rfl)
theorem dX5_haul_19 : decode cX5_haul 19 = .ok (.aload_n 0, 1) := dk_42 (dk_at dksX5_haul_0 19 rfl rfl)
theorem dX5_haul_20 : decode cX5_haul 20 = .ok (.iload_n 1, 1) := dk_27 (dk_at dksX5_haul_0 20 rfl rfl)
theorem dX5_haul_21 : decode cX5_haul 21 = .ok (.invokevirtual 279, 3) := dk_182 1 23 (dk_at dksX5_haul_0 21 rfl rfl)
theorem dX5_haul_24 : decode cX5_haul 24 = .ok (.invokevirtual 266, 3) := dk_182 1 10 (dk_at dksX5_haul_1 0 rfl rfl)
theorem dX5_haul_27 : decode cX5_haul 27 = .ok (.ireturn, 1) := dk_172 (dk_at dksX5_haul_1 3 rfl rfl)
abbrev cX5_doHaul : ByteArray := prog_21_method_89_code
def yX5_doHaul : MethodName := ⟨RX5, "doHaul", "(I)I"⟩
def dkwX5_doHaul_3 : List UInt8 := [182, 0, 106, 182, 0, 230, 172]
abbrev dktX5_doHaul_3 : List UInt8 := dkwX5_doHaul_3 ++ []
def dkwX5_doHaul_2 : List UInt8 := [42, 6, 4, 182, 0, 163, 42, 7, 42, 27, 4, 182, 0, 106, 182, 0, 163, 42, 42, 27, 16, 7]
abbrev dktX5_doHaul_2 : List UInt8 := dkwX5_doHaul_2 ++ dktX5_doHaul_3
def dkwX5_doHaul_1 : List UInt8 := [4, 182, 0, 99, 42, 27, 16, 7, 42, 180, 0, 51, 3, 46, 42, 180, 0, 51, 6, 46, 96, 182, 0, 99]
abbrev dktX5_doHaul_1 : List UInt8 := dkwX5_doHaul_1 ++ dktX5_doHaul_2
def dkwX5_doHaul_0 : List UInt8 := [42, 27, 182, 0, 224, 61, 28, 153, 0, 9, 42, 28, 182, 0, 230, 172, 42, 27, 182, 0, 159, 42, 27, 8]
abbrev dktX5_doHaul_0 : List UInt8 := dkwX5_doHaul_0 ++ dktX5_doHaul_1
theorem dksX5_doHaul_0 : cX5_doHaul.data.toList.drop 0 = dktX5_doHaul_0 := by decide +kernel
theorem dksX5_doHaul_1 : cX5_doHaul.data.toList.drop 24 = dktX5_doHaul_1 := dk_seg dksX5_doHaul_0 24 rfl rfl
theorem dksX5_doHaul_2 : cX5_doHaul.data.toList.drop 48 = dktX5_doHaul_2 := dk_seg dksX5_doHaul_1 24 rfl rfl
theorem dksX5_doHaul_3 : cX5_doHaul.data.toList.drop 70 = dktX5_doHaul_3 := dk_seg dksX5_doHaul_2 22 rfl rfl
theorem dX5_doHaul_0 : decode cX5_doHaul 0 = .ok (.aload_n 0, 1) := dk_42 (dk_at dksX5_doHaul_0 0 rfl rfl)
theorem dX5_doHaul_1 : decode cX5_doHaul 1 = .ok (.iload_n 1, 1) := dk_27 (dk_at dksX5_doHaul_0 1 rfl rfl)
theorem dX5_doHaul_2 : decode cX5_doHaul 2 = .ok (.invokevirtual 224, 3) := dk_182 0 224 (dk_at dksX5_doHaul_0 2 rfl rfl)
theorem dX5_doHaul_5 : decode cX5_doHaul 5 = .ok (.istore_n 2, 1) := dk_61 (dk_at dksX5_doHaul_0 5 rfl rfl)
theorem dX5_doHaul_6 : decode cX5_doHaul 6 = .ok (.iload_n 2, 1) := dk_28 (dk_at dksX5_doHaul_0 6 rfl rfl)
theorem dX5_doHaul_7 : decode cX5_doHaul 7 = .ok (.ifCond .eq 9, 3) := dk_153 0 9 (dk_at dksX5_doHaul_0 7 rfl rfl)
theorem dX5_doHaul_10 : decode cX5_doHaul 10 = .ok (.aload_n 0, 1) := dk_42 (dk_at dksX5_doHaul_0 10 rfl rfl)
theorem dX5_doHaul_11 : decode cX5_doHaul 11 = .ok (.iload_n 2, 1) := dk_28 (dk_at dksX5_doHaul_0 11 rfl rfl)
theorem dX5_doHaul_12 : decode cX5_doHaul 12 = .ok (.invokevirtual 230, 3) := dk_182 0 230 (dk_at dksX5_doHaul_0 12 rfl rfl)
theorem dX5_doHaul_15 : decode cX5_doHaul 15 = .ok (.ireturn, 1) := dk_172 (dk_at dksX5_doHaul_0 15 rfl rfl)
theorem dX5_doHaul_16 : decode cX5_doHaul 16 = .ok (.aload_n 0, 1) := dk_42 (dk_at dksX5_doHaul_0 16 rfl rfl)
theorem dX5_doHaul_17 : decode cX5_doHaul 17 = .ok (.iload_n 1, 1) := dk_27 (dk_at dksX5_doHaul_0 17 rfl rfl)
theorem dX5_doHaul_18 : decode cX5_doHaul 18 = .ok (.invokevirtual 159, 3) := dk_182 0 159 (dk_at dksX5_doHaul_0 18 rfl rfl)
theorem dX5_doHaul_21 : decode cX5_doHaul 21 = .ok (.aload_n 0, 1) := dk_42 (dk_at dksX5_doHaul_0 21 rfl rfl)
theorem dX5_doHaul_22 : decode cX5_doHaul 22 = .ok (.iload_n 1, 1) := dk_27 (dk_at dksX5_doHaul_0 22 rfl rfl)
theorem dX5_doHaul_23 : decode cX5_doHaul 23 = .ok (.iconst 5, 1) := dk_8 (dk_at dksX5_doHaul_0 23 rfl rfl)
theorem dX5_doHaul_24 : decode cX5_doHaul 24 = .ok (.iconst 1, 1) := dk_4 (dk_at dksX5_doHaul_1 0 rfl rfl)
theorem dX5_doHaul_25 : decode cX5_doHaul 25 = .ok (.invokevirtual 99, 3) := dk_182 0 99 (dk_at dksX5_doHaul_1 1 rfl rfl)
theorem dX5_doHaul_28 : decode cX5_doHaul 28 = .ok (.aload_n 0, 1) := dk_42 (dk_at dksX5_doHaul_1 4 rfl rfl)
theorem dX5_doHaul_29 : decode cX5_doHaul 29 = .ok (.iload_n 1, 1) := dk_27 (dk_at dksX5_doHaul_1 5 rfl rfl)
theorem dX5_doHaul_30 : decode cX5_doHaul 30 = .ok (.bipush 7, 2) := dk_16 7 (dk_at dksX5_doHaul_1 6 rfl rfl)
theorem dX5_doHaul_32 : decode cX5_doHaul 32 = .ok (.aload_n 0, 1) := dk_42 (dk_at dksX5_doHaul_1 8 rfl rfl)
theorem dX5_doHaul_33 : decode cX5_doHaul 33 = .ok (.getfield 51, 3) := dk_180 0 51 (dk_at dksX5_doHaul_1 9 rfl rfl)
theorem dX5_doHaul_36 : decode cX5_doHaul 36 = .ok (.iconst 0, 1) := dk_3 (dk_at dksX5_doHaul_1 12 rfl rfl)
theorem dX5_doHaul_37 : decode cX5_doHaul 37 = .ok (.iaload, 1) := dk_46 (dk_at dksX5_doHaul_1 13 rfl rfl)
theorem dX5_doHaul_38 : decode cX5_doHaul 38 = .ok (.aload_n 0, 1) := dk_42 (dk_at dksX5_doHaul_1 14 rfl rfl)
theorem dX5_doHaul_39 : decode cX5_doHaul 39 = .ok (.getfield 51, 3) := dk_180 0 51 (dk_at dksX5_doHaul_1 15 rfl rfl)
theorem dX5_doHaul_42 : decode cX5_doHaul 42 = .ok (.iconst 3, 1) := dk_6 (dk_at dksX5_doHaul_1 18 rfl rfl)
theorem dX5_doHaul_43 : decode cX5_doHaul 43 = .ok (.iaload, 1) := dk_46 (dk_at dksX5_doHaul_1 19 rfl rfl)
theorem dX5_doHaul_44 : decode cX5_doHaul 44 = .ok (.iadd, 1) := dk_96 (dk_at dksX5_doHaul_1 20 rfl rfl)
theorem dX5_doHaul_45 : decode cX5_doHaul 45 = .ok (.invokevirtual 99, 3) := dk_182 0 99 (dk_at dksX5_doHaul_1 21 rfl rfl)
theorem dX5_doHaul_48 : decode cX5_doHaul 48 = .ok (.aload_n 0, 1) := dk_42 (dk_at dksX5_doHaul_2 0 rfl rfl)
theorem dX5_doHaul_49 : decode cX5_doHaul 49 = .ok (.iconst 3, 1) := dk_6 (dk_at dksX5_doHaul_2 1 rfl rfl)
theorem dX5_doHaul_50 : decode cX5_doHaul 50 = .ok (.iconst 1, 1) := dk_4 (dk_at dksX5_doHaul_2 2 rfl rfl)
theorem dX5_doHaul_51 : decode cX5_doHaul 51 = .ok (.invokevirtual 163, 3) := dk_182 0 163 (dk_at dksX5_doHaul_2 3 rfl rfl)
theorem dX5_doHaul_54 : decode cX5_doHaul 54 = .ok (.aload_n 0, 1) := dk_42 (dk_at dksX5_doHaul_2 6 rfl rfl)
theorem dX5_doHaul_55 : decode cX5_doHaul 55 = .ok (.iconst 4, 1) := dk_7 (dk_at dksX5_doHaul_2 7 rfl rfl)
theorem dX5_doHaul_56 : decode cX5_doHaul 56 = .ok (.aload_n 0, 1) := dk_42 (dk_at dksX5_doHaul_2 8 rfl rfl)
theorem dX5_doHaul_57 : decode cX5_doHaul 57 = .ok (.iload_n 1, 1) := dk_27 (dk_at dksX5_doHaul_2 9 rfl rfl)
theorem dX5_doHaul_58 : decode cX5_doHaul 58 = .ok (.iconst 1, 1) := dk_4 (dk_at dksX5_doHaul_2 10 rfl rfl)
theorem dX5_doHaul_59 : decode cX5_doHaul 59 = .ok (.invokevirtual 106, 3) := dk_182 0 106 (dk_at dksX5_doHaul_2 11 rfl rfl)
theorem dX5_doHaul_62 : decode cX5_doHaul 62 = .ok (.invokevirtual 163, 3) := dk_182 0 163 (dk_at dksX5_doHaul_2 14 rfl rfl)
theorem dX5_doHaul_65 : decode cX5_doHaul 65 = .ok (.aload_n 0, 1) := dk_42 (dk_at dksX5_doHaul_2 17 rfl rfl)
theorem dX5_doHaul_66 : decode cX5_doHaul 66 = .ok (.aload_n 0, 1) := dk_42 (dk_at dksX5_doHaul_2 18 rfl rfl)
theorem dX5_doHaul_67 : decode cX5_doHaul 67 = .ok (.iload_n 1, 1) := dk_27 (dk_at dksX5_doHaul_2 19 rfl rfl)
theorem dX5_doHaul_68 : decode cX5_doHaul 68 = .ok (.bipush 7, 2) := dk_16 7 (dk_at dksX5_doHaul_2 20 rfl rfl)
theorem dX5_doHaul_70 : decode cX5_doHaul 70 = .ok (.invokevirtual 106, 3) := dk_182 0 106 (dk_at dksX5_doHaul_3 0 rfl rfl)
theorem dX5_doHaul_73 : decode cX5_doHaul 73 = .ok (.invokevirtual 230, 3) := dk_182 0 230 (dk_at dksX5_doHaul_3 3 rfl rfl)
theorem dX5_doHaul_76 : decode cX5_doHaul 76 = .ok (.ireturn, 1) := dk_172 (dk_at dksX5_doHaul_3 6 rfl rfl)
abbrev cX5_letGo : ByteArray := prog_21_method_26_code
def yX5_letGo : MethodName := ⟨RX5, "letGo", "(I)V"⟩
def dkwX5_letGo_1 : List UInt8 := [182, 0, 95, 132, 2, 1, 167, 255, 230, 177]
abbrev dktX5_letGo_1 : List UInt8 := dkwX5_letGo_1 ++ []
def dkwX5_letGo_0 : List UInt8 := [3, 61, 28, 42, 27, 16, 9, 182, 0, 106, 162, 0, 21, 42, 42, 27, 28, 182, 0, 124, 4, 2]
abbrev dktX5_letGo_0 : List UInt8 := dkwX5_letGo_0 ++ dktX5_letGo_1
theorem dksX5_letGo_0 : cX5_letGo.data.toList.drop 0 = dktX5_letGo_0 := by decide +kernel
theorem dksX5_letGo_1 : cX5_letGo.data.toList.drop 22 = dktX5_letGo_1 := dk_seg dksX5_letGo_0 22 rfl rfl
theorem dX5_letGo_0 : decode cX5_letGo 0 = .ok (.iconst 0, 1) := dk_3 (dk_at dksX5_letGo_0 0 rfl rfl)
theorem dX5_letGo_1 : decode cX5_letGo 1 = .ok (.istore_n 2, 1) := dk_61 (dk_at dksX5_letGo_0 1 rfl rfl)
theorem dX5_letGo_2 : decode cX5_letGo 2 = .ok (.iload_n 2, 1) := dk_28 (dk_at dksX5_letGo_0 2 rfl rfl)
theorem dX5_letGo_3 : decode cX5_letGo 3 = .ok (.aload_n 0, 1) := dk_42 (dk_at dksX5_letGo_0 3 rfl rfl)
theorem dX5_letGo_4 : decode cX5_letGo 4 = .ok (.iload_n 1, 1) := dk_27 (dk_at dksX5_letGo_0 4 rfl rfl)
theorem dX5_letGo_5 : decode cX5_letGo 5 = .ok (.bipush 9, 2) := dk_16 9 (dk_at dksX5_letGo_0 5 rfl rfl)
theorem dX5_letGo_7 : decode cX5_letGo 7 = .ok (.invokevirtual 106, 3) := dk_182 0 106 (dk_at dksX5_letGo_0 7 rfl rfl)
theorem dX5_letGo_10 : decode cX5_letGo 10 = .ok (.if_icmp .ge 21, 3) := dk_162 0 21 (dk_at dksX5_letGo_0 10 rfl rfl)
theorem dX5_letGo_13 : decode cX5_letGo 13 = .ok (.aload_n 0, 1) := dk_42 (dk_at dksX5_letGo_0 13 rfl rfl)
theorem dX5_letGo_14 : decode cX5_letGo 14 = .ok (.aload_n 0, 1) := dk_42 (dk_at dksX5_letGo_0 14 rfl rfl)
theorem dX5_letGo_15 : decode cX5_letGo 15 = .ok (.iload_n 1, 1) := dk_27 (dk_at dksX5_letGo_0 15 rfl rfl)
theorem dX5_letGo_16 : decode cX5_letGo 16 = .ok (.iload_n 2, 1) := dk_28 (dk_at dksX5_letGo_0 16 rfl rfl)
theorem dX5_letGo_17 : decode cX5_letGo 17 = .ok (.invokevirtual 124, 3) := dk_182 0 124 (dk_at dksX5_letGo_0 17 rfl rfl)
theorem dX5_letGo_20 : decode cX5_letGo 20 = .ok (.iconst 1, 1) := dk_4 (dk_at dksX5_letGo_0 20 rfl rfl)
theorem dX5_letGo_21 : decode cX5_letGo 21 = .ok (.iconst (-1), 1) := dk_2 (dk_at dksX5_letGo_0 21 rfl rfl)
theorem dX5_letGo_22 : decode cX5_letGo 22 = .ok (.invokevirtual 95, 3) := dk_182 0 95 (dk_at dksX5_letGo_1 0 rfl rfl)
theorem dX5_letGo_25 : decode cX5_letGo 25 = .ok (.iinc 2 1, 3) := dk_132 2 1 (dk_at dksX5_letGo_1 3 rfl rfl)
theorem dX5_letGo_28 : decode cX5_letGo 28 = .ok (.goto (-26), 3) := dk_167 255 230 (dk_at dksX5_letGo_1 6 rfl rfl)
theorem dX5_letGo_31 : decode cX5_letGo 31 = .ok (.return_, 1) := dk_177 (dk_at dksX5_letGo_1 9 rfl rfl)
abbrev cX5_tally : ByteArray := prog_21_method_7_code
def yX5_tally : MethodName := ⟨RX5, "tally", "(II)V"⟩
def dkwX5_tally_0 : List UInt8 := [42, 180, 0, 51, 16, 7, 27, 96, 6, 100, 92, 46, 28, 96, 79, 177]
abbrev dktX5_tally_0 : List UInt8 := dkwX5_tally_0 ++ []
theorem dksX5_tally_0 : cX5_tally.data.toList.drop 0 = dktX5_tally_0 := by decide +kernel
theorem dX5_tally_0 : decode cX5_tally 0 = .ok (.aload_n 0, 1) := dk_42 (dk_at dksX5_tally_0 0 rfl rfl)
theorem dX5_tally_1 : decode cX5_tally 1 = .ok (.getfield 51, 3) := dk_180 0 51 (dk_at dksX5_tally_0 1 rfl rfl)
theorem dX5_tally_4 : decode cX5_tally 4 = .ok (.bipush 7, 2) := dk_16 7 (dk_at dksX5_tally_0 4 rfl rfl)
theorem dX5_tally_6 : decode cX5_tally 6 = .ok (.iload_n 1, 1) := dk_27 (dk_at dksX5_tally_0 6 rfl rfl)
theorem dX5_tally_7 : decode cX5_tally 7 = .ok (.iadd, 1) := dk_96 (dk_at dksX5_tally_0 7 rfl rfl)
theorem dX5_tally_8 : decode cX5_tally 8 = .ok (.iconst 3, 1) := dk_6 (dk_at dksX5_tally_0 8 rfl rfl)
theorem dX5_tally_9 : decode cX5_tally 9 = .ok (.isub, 1) := dk_100 (dk_at dksX5_tally_0 9 rfl rfl)
theorem dX5_tally_10 : decode cX5_tally 10 = .ok (.dup2, 1) := dk_92 (dk_at dksX5_tally_0 10 rfl rfl)
theorem dX5_tally_11 : decode cX5_tally 11 = .ok (.iaload, 1) := dk_46 (dk_at dksX5_tally_0 11 rfl rfl)
theorem dX5_tally_12 : decode cX5_tally 12 = .ok (.iload_n 2, 1) := dk_28 (dk_at dksX5_tally_0 12 rfl rfl)
theorem dX5_tally_13 : decode cX5_tally 13 = .ok (.iadd, 1) := dk_96 (dk_at dksX5_tally_0 13 rfl rfl)
theorem dX5_tally_14 : decode cX5_tally 14 = .ok (.iastore, 1) := dk_79 (dk_at dksX5_tally_0 14 rfl rfl)
theorem dX5_tally_15 : decode cX5_tally 15 = .ok (.return_, 1) := dk_177 (dk_at dksX5_tally_0 15 rfl rfl)
abbrev cX5_claim : ByteArray := prog_21_method_103_code
def yX5_claim : MethodName := ⟨RX5, "claim", "(I)I"⟩
def dkwX5_claim_1 : List UInt8 := [182, 1, 10, 172]
abbrev dktX5_claim_1 : List UInt8 := dkwX5_claim_1 ++ []
def dkwX5_claim_0 : List UInt8 := [42, 27, 184, 0, 202, 182, 0, 173, 153, 0, 5, 3, 172, 42, 182, 1, 4, 42, 42, 27, 182, 1, 26]
abbrev dktX5_claim_0 : List UInt8 := dkwX5_claim_0 ++ dktX5_claim_1
theorem dksX5_claim_0 : cX5_claim.data.toList.drop 0 = dktX5_claim_0 := by decide +kernel
theorem dksX5_claim_1 : cX5_claim.data.toList.drop 23 = dktX5_claim_1 := dk_seg dksX5_claim_0 23 rfl rfl
theorem dX5_claim_0 : decode cX5_claim 0 = .ok (.aload_n 0, 1) := dk_42 (dk_at dksX5_claim_0 0 rfl rfl)
theorem dX5_claim_1 : decode cX5_claim 1 = .ok (.iload_n 1, 1) := dk_27 (dk_at dksX5_claim_0 1 rfl rfl)
theorem dX5_claim_2 : decode cX5_claim 2 = .ok (.invokestatic 202, 3) := dk_184 0 202 (dk_at dksX5_claim_0 2 rfl rfl)
theorem dX5_claim_5 : decode cX5_claim 5 = .ok (.invokevirtual 173, 3) := dk_182 0 173 (dk_at dksX5_claim_0 5 rfl rfl)
theorem dX5_claim_8 : decode cX5_claim 8 = .ok (.ifCond .eq 5, 3) := dk_153 0 5 (dk_at dksX5_claim_0 8 rfl rfl)
theorem dX5_claim_11 : decode cX5_claim 11 = .ok (.iconst 0, 1) := dk_3 (dk_at dksX5_claim_0 11 rfl rfl)
theorem dX5_claim_12 : decode cX5_claim 12 = .ok (.ireturn, 1) := dk_172 (dk_at dksX5_claim_0 12 rfl rfl)
theorem dX5_claim_13 : decode cX5_claim 13 = .ok (.aload_n 0, 1) := dk_42 (dk_at dksX5_claim_0 13 rfl rfl)
theorem dX5_claim_14 : decode cX5_claim 14 = .ok (.invokevirtual 260, 3) := dk_182 1 4 (dk_at dksX5_claim_0 14 rfl rfl)
theorem dX5_claim_17 : decode cX5_claim 17 = .ok (.aload_n 0, 1) := dk_42 (dk_at dksX5_claim_0 17 rfl rfl)
theorem dX5_claim_18 : decode cX5_claim 18 = .ok (.aload_n 0, 1) := dk_42 (dk_at dksX5_claim_0 18 rfl rfl)
theorem dX5_claim_19 : decode cX5_claim 19 = .ok (.iload_n 1, 1) := dk_27 (dk_at dksX5_claim_0 19 rfl rfl)
theorem dX5_claim_20 : decode cX5_claim 20 = .ok (.invokevirtual 282, 3) := dk_182 1 26 (dk_at dksX5_claim_0 20 rfl rfl)
theorem dX5_claim_23 : decode cX5_claim 23 = .ok (.invokevirtual 266, 3) := dk_182 1 10 (dk_at dksX5_claim_1 0 rfl rfl)
theorem dX5_claim_26 : decode cX5_claim 26 = .ok (.ireturn, 1) := dk_172 (dk_at dksX5_claim_1 3 rfl rfl)
abbrev cX5_doClaim : ByteArray := prog_21_method_90_code
def yX5_doClaim : MethodName := ⟨RX5, "doClaim", "(I)I"⟩
def dkwX5_doClaim_4 : List UInt8 := [154, 0, 8, 16, 254, 167, 0, 4, 28, 182, 0, 230, 172]
abbrev dktX5_doClaim_4 : List UInt8 := dkwX5_doClaim_4 ++ []
def dkwX5_doClaim_3 : List UInt8 := [16, 8, 4, 182, 0, 99, 132, 2, 1, 132, 3, 1, 167, 255, 177, 42, 16, 9, 28, 182, 0, 163, 42, 28]
abbrev dktX5_doClaim_3 : List UInt8 := dkwX5_doClaim_3 ++ dktX5_doClaim_4
def dkwX5_doClaim_2 : List UInt8 := [21, 4, 153, 0, 30, 42, 180, 0, 51, 3, 46, 42, 29, 16, 7, 182, 0, 106, 163, 0, 14, 42, 29]
abbrev dktX5_doClaim_2 : List UInt8 := dkwX5_doClaim_2 ++ dktX5_doClaim_3
def dkwX5_doClaim_1 : List UInt8 := [29, 5, 182, 0, 106, 27, 160, 0, 15, 42, 29, 182, 0, 143, 154, 0, 7, 4, 167, 0, 4, 3, 54, 4]
abbrev dktX5_doClaim_1 : List UInt8 := dkwX5_doClaim_1 ++ dktX5_doClaim_2
def dkwX5_doClaim_0 : List UInt8 := [3, 61, 3, 62, 29, 42, 180, 0, 51, 8, 46, 162, 0, 75, 42, 29, 4, 182, 0, 118, 153, 0, 25, 42]
abbrev dktX5_doClaim_0 : List UInt8 := dkwX5_doClaim_0 ++ dktX5_doClaim_1
theorem dksX5_doClaim_0 : cX5_doClaim.data.toList.drop 0 = dktX5_doClaim_0 := by decide +kernel
theorem dksX5_doClaim_1 : cX5_doClaim.data.toList.drop 24 = dktX5_doClaim_1 := dk_seg dksX5_doClaim_0 24 rfl rfl
theorem dksX5_doClaim_2 : cX5_doClaim.data.toList.drop 48 = dktX5_doClaim_2 := dk_seg dksX5_doClaim_1 24 rfl rfl
theorem dksX5_doClaim_3 : cX5_doClaim.data.toList.drop 71 = dktX5_doClaim_3 := dk_seg dksX5_doClaim_2 23 rfl rfl
theorem dksX5_doClaim_4 : cX5_doClaim.data.toList.drop 95 = dktX5_doClaim_4 := dk_seg dksX5_doClaim_3 24 rfl rfl
theorem dX5_doClaim_0 : decode cX5_doClaim 0 = .ok (.iconst 0, 1) := dk_3 (dk_at dksX5_doClaim_0 0 rfl rfl)
theorem dX5_doClaim_1 : decode cX5_doClaim 1 = .ok (.istore_n 2, 1) := dk_61 (dk_at dksX5_doClaim_0 1 rfl rfl)
theorem dX5_doClaim_2 : decode cX5_doClaim 2 = .ok (.iconst 0, 1) := dk_3 (dk_at dksX5_doClaim_0 2 rfl rfl)
theorem dX5_doClaim_3 : decode cX5_doClaim 3 = .ok (.istore_n 3, 1) := dk_62 (dk_at dksX5_doClaim_0 3 rfl rfl)
theorem dX5_doClaim_4 : decode cX5_doClaim 4 = .ok (.iload_n 3, 1) := dk_29 (dk_at dksX5_doClaim_0 4 rfl rfl)
theorem dX5_doClaim_5 : decode cX5_doClaim 5 = .ok (.aload_n 0, 1) := dk_42 (dk_at dksX5_doClaim_0 5 rfl rfl)
theorem dX5_doClaim_6 : decode cX5_doClaim 6 = .ok (.getfield 51, 3) := dk_180 0 51 (dk_at dksX5_doClaim_0 6 rfl rfl)
theorem dX5_doClaim_9 : decode cX5_doClaim 9 = .ok (.iconst 5, 1) := dk_8 (dk_at dksX5_doClaim_0 9 rfl rfl)
theorem dX5_doClaim_10 : decode cX5_doClaim 10 = .ok (.iaload, 1) := dk_46 (dk_at dksX5_doClaim_0 10 rfl rfl)
theorem dX5_doClaim_11 : decode cX5_doClaim 11 = .ok (.if_icmp .ge 75, 3) := dk_162 0 75 (dk_at dksX5_doClaim_0 11 rfl rfl)
theorem dX5_doClaim_14 : decode cX5_doClaim 14 = .ok (.aload_n 0, 1) := dk_42 (dk_at dksX5_doClaim_0 14 rfl rfl)
theorem dX5_doClaim_15 : decode cX5_doClaim 15 = .ok (.iload_n 3, 1) := dk_29 (dk_at dksX5_doClaim_0 15 rfl rfl)
theorem dX5_doClaim_16 : decode cX5_doClaim 16 = .ok (.iconst 1, 1) := dk_4 (dk_at dksX5_doClaim_0 16 rfl rfl)
theorem dX5_doClaim_17 : decode cX5_doClaim 17 = .ok (.invokevirtual 118, 3) := dk_182 0 118 (dk_at dksX5_doClaim_0 17 rfl rfl)
theorem dX5_doClaim_20 : decode cX5_doClaim 20 = .ok (.ifCond .eq 25, 3) := dk_153 0 25 (dk_at dksX5_doClaim_0 20 rfl rfl)
theorem dX5_doClaim_23 : decode cX5_doClaim 23 = .ok (.aload_n 0, 1) := dk_42 (dk_at dksX5_doClaim_0 23 rfl rfl)
theorem dX5_doClaim_24 : decode cX5_doClaim 24 = .ok (.iload_n 3, 1) := dk_29 (dk_at dksX5_doClaim_1 0 rfl rfl)
theorem dX5_doClaim_25 : decode cX5_doClaim 25 = .ok (.iconst 2, 1) := dk_5 (dk_at dksX5_doClaim_1 1 rfl rfl)
theorem dX5_doClaim_26 : decode cX5_doClaim 26 = .ok (.invokevirtual 106, 3) := dk_182 0 106 (dk_at dksX5_doClaim_1 2 rfl rfl)
theorem dX5_doClaim_29 : decode cX5_doClaim 29 = .ok (.iload_n 1, 1) := dk_27 (dk_at dksX5_doClaim_1 5 rfl rfl)
theorem dX5_doClaim_30 : decode cX5_doClaim 30 = .ok (.if_icmp .ne 15, 3) := dk_160 0 15 (dk_at dksX5_doClaim_1 6 rfl rfl)
theorem dX5_doClaim_33 : decode cX5_doClaim 33 = .ok (.aload_n 0, 1) := dk_42 (dk_at dksX5_doClaim_1 9 rfl rfl)
theorem dX5_doClaim_34 : decode cX5_doClaim 34 = .ok (.iload_n 3, 1) := dk_29 (dk_at dksX5_doClaim_1 10 rfl rfl)
theorem dX5_doClaim_35 : decode cX5_doClaim 35 = .ok (.invokevirtual 143, 3) := dk_182 0 143 (dk_at dksX5_doClaim_1 11 rfl rfl)
theorem dX5_doClaim_38 : decode cX5_doClaim 38 = .ok (.ifCond .ne 7, 3) := dk_154 0 7 (dk_at dksX5_doClaim_1 14 rfl rfl)
theorem dX5_doClaim_41 : decode cX5_doClaim 41 = .ok (.iconst 1, 1) := dk_4 (dk_at dksX5_doClaim_1 17 rfl rfl)
theorem dX5_doClaim_42 : decode cX5_doClaim 42 = .ok (.goto 4, 3) := dk_167 0 4 (dk_at dksX5_doClaim_1 18 rfl rfl)
theorem dX5_doClaim_45 : decode cX5_doClaim 45 = .ok (.iconst 0, 1) := dk_3 (dk_at dksX5_doClaim_1 21 rfl rfl)
theorem dX5_doClaim_46 : decode cX5_doClaim 46 = .ok (.istore 4, 2) := dk_54 4 (dk_at dksX5_doClaim_1 22 rfl rfl)
theorem dX5_doClaim_48 : decode cX5_doClaim 48 = .ok (.iload 4, 2) := dk_21 4 (dk_at dksX5_doClaim_2 0 rfl rfl)
theorem dX5_doClaim_50 : decode cX5_doClaim 50 = .ok (.ifCond .eq 30, 3) := dk_153 0 30 (dk_at dksX5_doClaim_2 2 rfl rfl)
theorem dX5_doClaim_53 : decode cX5_doClaim 53 = .ok (.aload_n 0, 1) := dk_42 (dk_at dksX5_doClaim_2 5 rfl rfl)
theorem dX5_doClaim_54 : decode cX5_doClaim 54 = .ok (.getfield 51, 3) := dk_180 0 51 (dk_at dksX5_doClaim_2 6 rfl rfl)
theorem dX5_doClaim_57 : decode cX5_doClaim 57 = .ok (.iconst 0, 1) := dk_3 (dk_at dksX5_doClaim_2 9 rfl rfl)
theorem dX5_doClaim_58 : decode cX5_doClaim 58 = .ok (.iaload, 1) := dk_46 (dk_at dksX5_doClaim_2 10 rfl rfl)
theorem dX5_doClaim_59 : decode cX5_doClaim 59 = .ok (.aload_n 0, 1) := dk_42 (dk_at dksX5_doClaim_2 11 rfl rfl)
theorem dX5_doClaim_60 : decode cX5_doClaim 60 = .ok (.iload_n 3, 1) := dk_29 (dk_at dksX5_doClaim_2 12 rfl rfl)
theorem dX5_doClaim_61 : decode cX5_doClaim 61 = .ok (.bipush 7, 2) := dk_16 7 (dk_at dksX5_doClaim_2 13 rfl rfl)
theorem dX5_doClaim_63 : decode cX5_doClaim 63 = .ok (.invokevirtual 106, 3) := dk_182 0 106 (dk_at dksX5_doClaim_2 15 rfl rfl)
theorem dX5_doClaim_66 : decode cX5_doClaim 66 = .ok (.if_icmp .gt 14, 3) := dk_163 0 14 (dk_at dksX5_doClaim_2 18 rfl rfl)
theorem dX5_doClaim_69 : decode cX5_doClaim 69 = .ok (.aload_n 0, 1) := dk_42 (dk_at dksX5_doClaim_2 21 rfl rfl)
theorem dX5_doClaim_70 : decode cX5_doClaim 70 = .ok (.iload_n 3, 1) := dk_29 (dk_at dksX5_doClaim_2 22 rfl rfl)
theorem dX5_doClaim_71 : decode cX5_doClaim 71 = .ok (.bipush 8, 2) := dk_16 8 (dk_at dksX5_doClaim_3 0 rfl rfl)
theorem dX5_doClaim_73 : decode cX5_doClaim 73 = .ok (.iconst 1, 1) := dk_4 (dk_at dksX5_doClaim_3 2 rfl rfl)
theorem dX5_doClaim_74 : decode cX5_doClaim 74 = .ok (.invokevirtual 99, 3) := dk_182 0 99 (dk_at dksX5_doClaim_3 3 rfl rfl)
theorem dX5_doClaim_77 : decode cX5_doClaim 77 = .ok (.iinc 2 1, 3) := dk_132 2 1 (dk_at dksX5_doClaim_3 6 rfl rfl)
theorem dX5_doClaim_80 : decode cX5_doClaim 80 = .ok (.iinc 3 1, 3) := dk_132 3 1 (dk_at dksX5_doClaim_3 9 rfl rfl)
theorem dX5_doClaim_83 : decode cX5_doClaim 83 = .ok (.goto (-79), 3) := dk_167 255 177 (dk_at dksX5_doClaim_3 12 rfl rfl)
theorem dX5_doClaim_86 : decode cX5_doClaim 86 = .ok (.aload_n 0, 1) := dk_42 (dk_at dksX5_doClaim_3 15 rfl rfl)
theorem dX5_doClaim_87 : decode cX5_doClaim 87 = .ok (.bipush 9, 2) := dk_16 9 (dk_at dksX5_doClaim_3 16 rfl rfl)
theorem dX5_doClaim_89 : decode cX5_doClaim 89 = .ok (.iload_n 2, 1) := dk_28 (dk_at dksX5_doClaim_3 18 rfl rfl)
theorem dX5_doClaim_90 : decode cX5_doClaim 90 = .ok (.invokevirtual 163, 3) := dk_182 0 163 (dk_at dksX5_doClaim_3 19 rfl rfl)
theorem dX5_doClaim_93 : decode cX5_doClaim 93 = .ok (.aload_n 0, 1) := dk_42 (dk_at dksX5_doClaim_3 22 rfl rfl)
theorem dX5_doClaim_94 : decode cX5_doClaim 94 = .ok (.iload_n 2, 1) := dk_28 (dk_at dksX5_doClaim_3 23 rfl rfl)
theorem dX5_doClaim_95 : decode cX5_doClaim 95 = .ok (.ifCond .ne 8, 3) := dk_154 0 8 (dk_at dksX5_doClaim_4 0 rfl rfl)
theorem dX5_doClaim_98 : decode cX5_doClaim 98 = .ok (.bipush (-2), 2) := dk_16 254 (dk_at dksX5_doClaim_4 3 rfl rfl)
theorem dX5_doClaim_100 : decode cX5_doClaim 100 = .ok (.goto 4, 3) := dk_167 0 4 (dk_at dksX5_doClaim_4 5 rfl rfl)
theorem dX5_doClaim_103 : decode cX5_doClaim 103 = .ok (.iload_n 2, 1) := dk_28 (dk_at dksX5_doClaim_4 8 rfl rfl)
theorem dX5_doClaim_104 : decode cX5_doClaim 104 = .ok (.invokevirtual 230, 3) := dk_182 0 230 (dk_at dksX5_doClaim_4 9 rfl rfl)
theorem dX5_doClaim_107 : decode cX5_doClaim 107 = .ok (.ireturn, 1) := dk_172 (dk_at dksX5_doClaim_4 12 rfl rfl)
abbrev cX5_divide : ByteArray := prog_21_method_104_code
def yX5_divide : MethodName := ⟨RX5, "divide", "(I)I"⟩
def dkwX5_divide_1 : List UInt8 := [182, 1, 10, 172]
abbrev dktX5_divide_1 : List UInt8 := dkwX5_divide_1 ++ []
def dkwX5_divide_0 : List UInt8 := [42, 42, 27, 182, 0, 190, 182, 0, 173, 153, 0, 5, 3, 172, 42, 182, 1, 4, 42, 42, 27, 182, 1, 29]
abbrev dktX5_divide_0 : List UInt8 := dkwX5_divide_0 ++ dktX5_divide_1
theorem dksX5_divide_0 : cX5_divide.data.toList.drop 0 = dktX5_divide_0 := by decide +kernel
theorem dksX5_divide_1 : cX5_divide.data.toList.drop 24 = dktX5_divide_1 := dk_seg dksX5_divide_0 24 rfl rfl
theorem dX5_divide_0 : decode cX5_divide 0 = .ok (.aload_n 0, 1) := dk_42 (dk_at dksX5_divide_0 0 rfl rfl)
theorem dX5_divide_1 : decode cX5_divide 1 = .ok (.aload_n 0, 1) := dk_42 (dk_at dksX5_divide_0 1 rfl rfl)
theorem dX5_divide_2 : decode cX5_divide 2 = .ok (.iload_n 1, 1) := dk_27 (dk_at dksX5_divide_0 2 rfl rfl)
theorem dX5_divide_3 : decode cX5_divide 3 = .ok (.invokevirtual 190, 3) := dk_182 0 190 (dk_at dksX5_divide_0 3 rfl rfl)
theorem dX5_divide_6 : decode cX5_divide 6 = .ok (.invokevirtual 173, 3) := dk_182 0 173 (dk_at dksX5_divide_0 6 rfl rfl)
theorem dX5_divide_9 : decode cX5_divide 9 = .ok (.ifCond .eq 5, 3) := dk_153 0 5 (dk_at dksX5_divide_0 9 rfl rfl)
theorem dX5_divide_12 : decode cX5_divide 12 = .ok (.iconst 0, 1) := dk_3 (dk_at dksX5_divide_0 12 rfl rfl)
theorem dX5_divide_13 : decode cX5_divide 13 = .ok (.ireturn, 1) := dk_172 (dk_at dksX5_divide_0 13 rfl rfl)
theorem dX5_divide_14 : decode cX5_divide 14 = .ok (.aload_n 0, 1) := dk_42 (dk_at dksX5_divide_0 14 rfl rfl)
theorem dX5_divide_15 : decode cX5_divide 15 = .ok (.invokevirtual 260, 3) := dk_182 1 4 (dk_at dksX5_divide_0 15 rfl rfl)
theorem dX5_divide_18 : decode cX5_divide 18 = .ok (.aload_n 0, 1) := dk_42 (dk_at dksX5_divide_0 18 rfl rfl)
theorem dX5_divide_19 : decode cX5_divide 19 = .ok (.aload_n 0, 1) := dk_42 (dk_at dksX5_divide_0 19 rfl rfl)
theorem dX5_divide_20 : decode cX5_divide 20 = .ok (.iload_n 1, 1) := dk_27 (dk_at dksX5_divide_0 20 rfl rfl)
theorem dX5_divide_21 : decode cX5_divide 21 = .ok (.invokevirtual 285, 3) := dk_182 1 29 (dk_at dksX5_divide_0 21 rfl rfl)
theorem dX5_divide_24 : decode cX5_divide 24 = .ok (.invokevirtual 266, 3) := dk_182 1 10 (dk_at dksX5_divide_1 0 rfl rfl)
theorem dX5_divide_27 : decode cX5_divide 27 = .ok (.ireturn, 1) := dk_172 (dk_at dksX5_divide_1 3 rfl rfl)
abbrev cX5_doDivide : ByteArray := prog_21_method_91_code
def yX5_doDivide : MethodName := ⟨RX5, "doDivide", "(I)I"⟩
def dkwX5_doDivide_1 : List UInt8 := [42, 27, 182, 0, 143, 182, 0, 140, 182, 0, 230, 172]
abbrev dktX5_doDivide_1 : List UInt8 := dkwX5_doDivide_1 ++ []
def dkwX5_doDivide_0 : List UInt8 := [42, 27, 182, 0, 227, 61, 28, 153, 0, 9, 42, 28, 182, 0, 230, 172, 42, 27, 182, 0, 239, 42, 42, 27]
abbrev dktX5_doDivide_0 : List UInt8 := dkwX5_doDivide_0 ++ dktX5_doDivide_1
theorem dksX5_doDivide_0 : cX5_doDivide.data.toList.drop 0 = dktX5_doDivide_0 := by decide +kernel
theorem dksX5_doDivide_1 : cX5_doDivide.data.toList.drop 24 = dktX5_doDivide_1 := dk_seg dksX5_doDivide_0 24 rfl rfl
theorem dX5_doDivide_0 : decode cX5_doDivide 0 = .ok (.aload_n 0, 1) := dk_42 (dk_at dksX5_doDivide_0 0 rfl rfl)
theorem dX5_doDivide_1 : decode cX5_doDivide 1 = .ok (.iload_n 1, 1) := dk_27 (dk_at dksX5_doDivide_0 1 rfl rfl)
theorem dX5_doDivide_2 : decode cX5_doDivide 2 = .ok (.invokevirtual 227, 3) := dk_182 0 227 (dk_at dksX5_doDivide_0 2 rfl rfl)
theorem dX5_doDivide_5 : decode cX5_doDivide 5 = .ok (.istore_n 2, 1) := dk_61 (dk_at dksX5_doDivide_0 5 rfl rfl)
theorem dX5_doDivide_6 : decode cX5_doDivide 6 = .ok (.iload_n 2, 1) := dk_28 (dk_at dksX5_doDivide_0 6 rfl rfl)
theorem dX5_doDivide_7 : decode cX5_doDivide 7 = .ok (.ifCond .eq 9, 3) := dk_153 0 9 (dk_at dksX5_doDivide_0 7 rfl rfl)
theorem dX5_doDivide_10 : decode cX5_doDivide 10 = .ok (.aload_n 0, 1) := dk_42 (dk_at dksX5_doDivide_0 10 rfl rfl)
theorem dX5_doDivide_11 : decode cX5_doDivide 11 = .ok (.iload_n 2, 1) := dk_28 (dk_at dksX5_doDivide_0 11 rfl rfl)
theorem dX5_doDivide_12 : decode cX5_doDivide 12 = .ok (.invokevirtual 230, 3) := dk_182 0 230 (dk_at dksX5_doDivide_0 12 rfl rfl)
theorem dX5_doDivide_15 : decode cX5_doDivide 15 = .ok (.ireturn, 1) := dk_172 (dk_at dksX5_doDivide_0 15 rfl rfl)
theorem dX5_doDivide_16 : decode cX5_doDivide 16 = .ok (.aload_n 0, 1) := dk_42 (dk_at dksX5_doDivide_0 16 rfl rfl)
theorem dX5_doDivide_17 : decode cX5_doDivide 17 = .ok (.iload_n 1, 1) := dk_27 (dk_at dksX5_doDivide_0 17 rfl rfl)
theorem dX5_doDivide_18 : decode cX5_doDivide 18 = .ok (.invokevirtual 239, 3) := dk_182 0 239 (dk_at dksX5_doDivide_0 18 rfl rfl)
theorem dX5_doDivide_21 : decode cX5_doDivide 21 = .ok (.aload_n 0, 1) := dk_42 (dk_at dksX5_doDivide_0 21 rfl rfl)
theorem dX5_doDivide_22 : decode cX5_doDivide 22 = .ok (.aload_n 0, 1) := dk_42 (dk_at dksX5_doDivide_0 22 rfl rfl)
theorem dX5_doDivide_23 : decode cX5_doDivide 23 = .ok (.iload_n 1, 1) := dk_27 (dk_at dksX5_doDivide_0 23 rfl rfl)
theorem dX5_doDivide_24 : decode cX5_doDivide 24 = .ok (.aload_n 0, 1) := dk_42 (dk_at dksX5_doDivide_1 0 rfl rfl)
theorem dX5_doDivide_25 : decode cX5_doDivide 25 = .ok (.iload_n 1, 1) := dk_27 (dk_at dksX5_doDivide_1 1 rfl rfl)
theorem dX5_doDivide_26 : decode cX5_doDivide 26 = .ok (.invokevirtual 143, 3) := dk_182 0 143 (dk_at dksX5_doDivide_1 2 rfl rfl)
theorem dX5_doDivide_29 : decode cX5_doDivide 29 = .ok (.invokevirtual 140, 3) := dk_182 0 140 (dk_at dksX5_doDivide_1 5 rfl rfl)
theorem dX5_doDivide_32 : decode cX5_doDivide 32 = .ok (.invokevirtual 230, 3) := dk_182 0 230 (dk_at dksX5_doDivide_1 8 rfl rfl)
theorem dX5_doDivide_35 : decode cX5_doDivide 35 = .ok (.ireturn, 1) := dk_172 (dk_at dksX5_doDivide_1 11 rfl rfl)
abbrev cX5_divideNow : ByteArray := prog_21_method_42_code
def yX5_divideNow : MethodName := ⟨RX5, "divideNow", "(I)V"⟩
def dkwX5_divideNow_5 : List UInt8 := [182, 0, 106, 182, 0, 163, 42, 27, 8, 5, 182, 0, 99, 177]
abbrev dktX5_divideNow_5 : List UInt8 := dkwX5_divideNow_5 ++ []
def dkwX5_divideNow_4 : List UInt8 := [79, 42, 16, 10, 42, 27, 182, 0, 153, 182, 0, 163, 42, 8, 4, 182, 0, 163, 42, 16, 6, 42, 27, 4]
abbrev dktX5_divideNow_4 : List UInt8 := dkwX5_divideNow_4 ++ dktX5_divideNow_5
def dkwX5_divideNow_3 : List UInt8 := [42, 180, 0, 51, 16, 15, 42, 27, 5, 182, 0, 106, 96, 4, 100, 92, 46, 42, 27, 4, 182, 0, 136, 96]
abbrev dktX5_divideNow_3 : List UInt8 := dkwX5_divideNow_3 ++ dktX5_divideNow_4
def dkwX5_divideNow_2 : List UInt8 := [182, 0, 143, 61, 42, 180, 0, 51, 16, 6, 92, 46, 42, 27, 28, 182, 0, 140, 96, 79, 28, 153, 0, 28]
abbrev dktX5_divideNow_2 : List UInt8 := dkwX5_divideNow_2 ++ dktX5_divideNow_3
def dkwX5_divideNow_1 : List UInt8 := [29, 3, 182, 0, 127, 42, 27, 28, 182, 0, 156, 96, 182, 0, 95, 132, 2, 1, 167, 255, 216, 42, 27]
abbrev dktX5_divideNow_1 : List UInt8 := dkwX5_divideNow_1 ++ dktX5_divideNow_2
def dkwX5_divideNow_0 : List UInt8 := [3, 61, 28, 42, 27, 16, 9, 182, 0, 106, 162, 0, 35, 42, 27, 28, 182, 0, 124, 62, 42, 29, 3, 42]
abbrev dktX5_divideNow_0 : List UInt8 := dkwX5_divideNow_0 ++ dktX5_divideNow_1
theorem dksX5_divideNow_0 : cX5_divideNow.data.toList.drop 0 = dktX5_divideNow_0 := by decide +kernel
theorem dksX5_divideNow_1 : cX5_divideNow.data.toList.drop 24 = dktX5_divideNow_1 := dk_seg dksX5_divideNow_0 24 rfl rfl
theorem dksX5_divideNow_2 : cX5_divideNow.data.toList.drop 47 = dktX5_divideNow_2 := dk_seg dksX5_divideNow_1 23 rfl rfl
theorem dksX5_divideNow_3 : cX5_divideNow.data.toList.drop 71 = dktX5_divideNow_3 := dk_seg dksX5_divideNow_2 24 rfl rfl
theorem dksX5_divideNow_4 : cX5_divideNow.data.toList.drop 95 = dktX5_divideNow_4 := dk_seg dksX5_divideNow_3 24 rfl rfl
theorem dksX5_divideNow_5 : cX5_divideNow.data.toList.drop 119 = dktX5_divideNow_5 := dk_seg dksX5_divideNow_4 24 rfl rfl
theorem dX5_divideNow_0 : decode cX5_divideNow 0 = .ok (.iconst 0, 1) := dk_3 (dk_at dksX5_divideNow_0 0 rfl rfl)
theorem dX5_divideNow_1 : decode cX5_divideNow 1 = .ok (.istore_n 2, 1) := dk_61 (dk_at dksX5_divideNow_0 1 rfl rfl)
theorem dX5_divideNow_2 : decode cX5_divideNow 2 = .ok (.iload_n 2, 1) := dk_28 (dk_at dksX5_divideNow_0 2 rfl rfl)
theorem dX5_divideNow_3 : decode cX5_divideNow 3 = .ok (.aload_n 0, 1) := dk_42 (dk_at dksX5_divideNow_0 3 rfl rfl)
theorem dX5_divideNow_4 : decode cX5_divideNow 4 = .ok (.iload_n 1, 1) := dk_27 (dk_at dksX5_divideNow_0 4 rfl rfl)
theorem dX5_divideNow_5 : decode cX5_divideNow 5 = .ok (.bipush 9, 2) := dk_16 9 (dk_at dksX5_divideNow_0 5 rfl rfl)
theorem dX5_divideNow_7 : decode cX5_divideNow 7 = .ok (.invokevirtual 106, 3) := dk_182 0 106 (dk_at dksX5_divideNow_0 7 rfl rfl)
theorem dX5_divideNow_10 : decode cX5_divideNow 10 = .ok (.if_icmp .ge 35, 3) := dk_162 0 35 (dk_at dksX5_divideNow_0 10 rfl rfl)
theorem dX5_divideNow_13 : decode cX5_divideNow 13 = .ok (.aload_n 0, 1) := dk_42 (dk_at dksX5_divideNow_0 13 rfl rfl)
theorem dX5_divideNow_14 : decode cX5_divideNow 14 = .ok (.iload_n 1, 1) := dk_27 (dk_at dksX5_divideNow_0 14 rfl rfl)
theorem dX5_divideNow_15 : decode cX5_divideNow 15 = .ok (.iload_n 2, 1) := dk_28 (dk_at dksX5_divideNow_0 15 rfl rfl)
theorem dX5_divideNow_16 : decode cX5_divideNow 16 = .ok (.invokevirtual 124, 3) := dk_182 0 124 (dk_at dksX5_divideNow_0 16 rfl rfl)
theorem dX5_divideNow_19 : decode cX5_divideNow 19 = .ok (.istore_n 3, 1) := dk_62 (dk_at dksX5_divideNow_0 19 rfl rfl)
theorem dX5_divideNow_20 : decode cX5_divideNow 20 = .ok (.aload_n 0, 1) := dk_42 (dk_at dksX5_divideNow_0 20 rfl rfl)
theorem dX5_divideNow_21 : decode cX5_divideNow 21 = .ok (.iload_n 3, 1) := dk_29 (dk_at dksX5_divideNow_0 21 rfl rfl)
theorem dX5_divideNow_22 : decode cX5_divideNow 22 = .ok (.iconst 0, 1) := dk_3 (dk_at dksX5_divideNow_0 22 rfl rfl)
theorem dX5_divideNow_23 : decode cX5_divideNow 23 = .ok (.aload_n 0, 1) := dk_42 (dk_at dksX5_divideNow_0 23 rfl rfl)
theorem dX5_divideNow_24 : decode cX5_divideNow 24 = .ok (.iload_n 3, 1) := dk_29 (dk_at dksX5_divideNow_1 0 rfl rfl)
theorem dX5_divideNow_25 : decode cX5_divideNow 25 = .ok (.iconst 0, 1) := dk_3 (dk_at dksX5_divideNow_1 1 rfl rfl)
theorem dX5_divideNow_26 : decode cX5_divideNow 26 = .ok (.invokevirtual 127, 3) := dk_182 0 127 (dk_at dksX5_divideNow_1 2 rfl rfl)
theorem dX5_divideNow_29 : decode cX5_divideNow 29 = .ok (.aload_n 0, 1) := dk_42 (dk_at dksX5_divideNow_1 5 rfl rfl)
theorem dX5_divideNow_30 : decode cX5_divideNow 30 = .ok (.iload_n 1, 1) := dk_27 (dk_at dksX5_divideNow_1 6 rfl rfl)
theorem dX5_divideNow_31 : decode cX5_divideNow 31 = .ok (.iload_n 2, 1) := dk_28 (dk_at dksX5_divideNow_1 7 rfl rfl)
theorem dX5_divideNow_32 : decode cX5_divideNow 32 = .ok (.invokevirtual 156, 3) := dk_182 0 156 (dk_at dksX5_divideNow_1 8 rfl rfl)
theorem dX5_divideNow_35 : decode cX5_divideNow 35 = .ok (.iadd, 1) := dk_96 (dk_at dksX5_divideNow_1 11 rfl rfl)
theorem dX5_divideNow_36 : decode cX5_divideNow 36 = .ok (.invokevirtual 95, 3) := dk_182 0 95 (dk_at dksX5_divideNow_1 12 rfl rfl)
theorem dX5_divideNow_39 : decode cX5_divideNow 39 = .ok (.iinc 2 1, 3) := dk_132 2 1 (dk_at dksX5_divideNow_1 15 rfl rfl)
theorem dX5_divideNow_42 : decode cX5_divideNow 42 = .ok (.goto (-40), 3) := dk_167 255 216 (dk_at dksX5_divideNow_1 18 rfl rfl)
theorem dX5_divideNow_45 : decode cX5_divideNow 45 = .ok (.aload_n 0, 1) := dk_42 (dk_at dksX5_divideNow_1 21 rfl rfl)
theorem dX5_divideNow_46 : decode cX5_divideNow 46 = .ok (.iload_n 1, 1) := dk_27 (dk_at dksX5_divideNow_1 22 rfl rfl)
theorem dX5_divideNow_47 : decode cX5_divideNow 47 = .ok (.invokevirtual 143, 3) := dk_182 0 143 (dk_at dksX5_divideNow_2 0 rfl rfl)
theorem dX5_divideNow_50 : decode cX5_divideNow 50 = .ok (.istore_n 2, 1) := dk_61 (dk_at dksX5_divideNow_2 3 rfl rfl)
theorem dX5_divideNow_51 : decode cX5_divideNow 51 = .ok (.aload_n 0, 1) := dk_42 (dk_at dksX5_divideNow_2 4 rfl rfl)
theorem dX5_divideNow_52 : decode cX5_divideNow 52 = .ok (.getfield 51, 3) := dk_180 0 51 (dk_at dksX5_divideNow_2 5 rfl rfl)
theorem dX5_divideNow_55 : decode cX5_divideNow 55 = .ok (.bipush 6, 2) := dk_16 6 (dk_at dksX5_divideNow_2 8 rfl rfl)
theorem dX5_divideNow_57 : decode cX5_divideNow 57 = .ok (.dup2, 1) := dk_92 (dk_at dksX5_divideNow_2 10 rfl rfl)
theorem dX5_divideNow_58 : decode cX5_divideNow 58 = .ok (.iaload, 1) := dk_46 (dk_at dksX5_divideNow_2 11 rfl rfl)
theorem dX5_divideNow_59 : decode cX5_divideNow 59 = .ok (.aload_n 0, 1) := dk_42 (dk_at dksX5_divideNow_2 12 rfl rfl)
theorem dX5_divideNow_60 : decode cX5_divideNow 60 = .ok (.iload_n 1, 1) := dk_27 (dk_at dksX5_divideNow_2 13 rfl rfl)
theorem dX5_divideNow_61 : decode cX5_divideNow 61 = .ok (.iload_n 2, 1) := dk_28 (dk_at dksX5_divideNow_2 14 rfl rfl)
theorem dX5_divideNow_62 : decode cX5_divideNow 62 = .ok (.invokevirtual 140, 3) := dk_182 0 140 (dk_at dksX5_divideNow_2 15 rfl rfl)
theorem dX5_divideNow_65 : decode cX5_divideNow 65 = .ok (.iadd, 1) := dk_96 (dk_at dksX5_divideNow_2 18 rfl rfl)
theorem dX5_divideNow_66 : decode cX5_divideNow 66 = .ok (.iastore, 1) := dk_79 (dk_at dksX5_divideNow_2 19 rfl rfl)
theorem dX5_divideNow_67 : decode cX5_divideNow 67 = .ok (.iload_n 2, 1) := dk_28 (dk_at dksX5_divideNow_2 20 rfl rfl)
theorem dX5_divideNow_68 : decode cX5_divideNow 68 = .ok (.ifCond .eq 28, 3) := dk_153 0 28 (dk_at dksX5_divideNow_2 21 rfl rfl)
theorem dX5_divideNow_71 : decode cX5_divideNow 71 = .ok (.aload_n 0, 1) := dk_42 (dk_at dksX5_divideNow_3 0 rfl rfl)
theorem dX5_divideNow_72 : decode cX5_divideNow 72 = .ok (.getfield 51, 3) := dk_180 0 51 (dk_at dksX5_divideNow_3 1 rfl rfl)
theorem dX5_divideNow_75 : decode cX5_divideNow 75 = .ok (.bipush 15, 2) := dk_16 15 (dk_at dksX5_divideNow_3 4 rfl rfl)
theorem dX5_divideNow_77 : decode cX5_divideNow 77 = .ok (.aload_n 0, 1) := dk_42 (dk_at dksX5_divideNow_3 6 rfl rfl)
theorem dX5_divideNow_78 : decode cX5_divideNow 78 = .ok (.iload_n 1, 1) := dk_27 (dk_at dksX5_divideNow_3 7 rfl rfl)
theorem dX5_divideNow_79 : decode cX5_divideNow 79 = .ok (.iconst 2, 1) := dk_5 (dk_at dksX5_divideNow_3 8 rfl rfl)
theorem dX5_divideNow_80 : decode cX5_divideNow 80 = .ok (.invokevirtual 106, 3) := dk_182 0 106 (dk_at dksX5_divideNow_3 9 rfl rfl)
theorem dX5_divideNow_83 : decode cX5_divideNow 83 = .ok (.iadd, 1) := dk_96 (dk_at dksX5_divideNow_3 12 rfl rfl)
theorem dX5_divideNow_84 : decode cX5_divideNow 84 = .ok (.iconst 1, 1) := dk_4 (dk_at dksX5_divideNow_3 13 rfl rfl)
theorem dX5_divideNow_85 : decode cX5_divideNow 85 = .ok (.isub, 1) := dk_100 (dk_at dksX5_divideNow_3 14 rfl rfl)
theorem dX5_divideNow_86 : decode cX5_divideNow 86 = .ok (.dup2, 1) := dk_92 (dk_at dksX5_divideNow_3 15 rfl rfl)
theorem dX5_divideNow_87 : decode cX5_divideNow 87 = .ok (.iaload, 1) := dk_46 (dk_at dksX5_divideNow_3 16 rfl rfl)
theorem dX5_divideNow_88 : decode cX5_divideNow 88 = .ok (.aload_n 0, 1) := dk_42 (dk_at dksX5_divideNow_3 17 rfl rfl)
theorem dX5_divideNow_89 : decode cX5_divideNow 89 = .ok (.iload_n 1, 1) := dk_27 (dk_at dksX5_divideNow_3 18 rfl rfl)
theorem dX5_divideNow_90 : decode cX5_divideNow 90 = .ok (.iconst 1, 1) := dk_4 (dk_at dksX5_divideNow_3 19 rfl rfl)
theorem dX5_divideNow_91 : decode cX5_divideNow 91 = .ok (.invokevirtual 136, 3) := dk_182 0 136 (dk_at dksX5_divideNow_3 20 rfl rfl)
theorem dX5_divideNow_94 : decode cX5_divideNow 94 = .ok (.iadd, 1) := dk_96 (dk_at dksX5_divideNow_3 23 rfl rfl)
theorem dX5_divideNow_95 : decode cX5_divideNow 95 = .ok (.iastore, 1) := dk_79 (dk_at dksX5_divideNow_4 0 rfl rfl)
theorem dX5_divideNow_96 : decode cX5_divideNow 96 = .ok (.aload_n 0, 1) := dk_42 (dk_at dksX5_divideNow_4 1 rfl rfl)
theorem dX5_divideNow_97 : decode cX5_divideNow 97 = .ok (.bipush 10, 2) := dk_16 10 (dk_at dksX5_divideNow_4 2 rfl rfl)
theorem dX5_divideNow_99 : decode cX5_divideNow 99 = .ok (.aload_n 0, 1) := dk_42 (dk_at dksX5_divideNow_4 4 rfl rfl)
theorem dX5_divideNow_100 : decode cX5_divideNow 100 = .ok (.iload_n 1, 1) := dk_27 (dk_at dksX5_divideNow_4 5 rfl rfl)
theorem dX5_divideNow_101 : decode cX5_divideNow 101 = .ok (.invokevirtual 153, 3) := dk_182 0 153 (dk_at dksX5_divideNow_4 6 rfl rfl)
theorem dX5_divideNow_104 : decode cX5_divideNow 104 = .ok (.invokevirtual 163, 3) := dk_182 0 163 (dk_at dksX5_divideNow_4 9 rfl rfl)
theorem dX5_divideNow_107 : decode cX5_divideNow 107 = .ok (.aload_n 0, 1) := dk_42 (dk_at dksX5_divideNow_4 12 rfl rfl)
theorem dX5_divideNow_108 : decode cX5_divideNow 108 = .ok (.iconst 5, 1) := dk_8 (dk_at dksX5_divideNow_4 13 rfl rfl)
theorem dX5_divideNow_109 : decode cX5_divideNow 109 = .ok (.iconst 1, 1) := dk_4 (dk_at dksX5_divideNow_4 14 rfl rfl)
theorem dX5_divideNow_110 : decode cX5_divideNow 110 = .ok (.invokevirtual 163, 3) := dk_182 0 163 (dk_at dksX5_divideNow_4 15 rfl rfl)
theorem dX5_divideNow_113 : decode cX5_divideNow 113 = .ok (.aload_n 0, 1) := dk_42 (dk_at dksX5_divideNow_4 18 rfl rfl)
theorem dX5_divideNow_114 : decode cX5_divideNow 114 = .ok (.bipush 6, 2) := dk_16 6 (dk_at dksX5_divideNow_4 19 rfl rfl)
theorem dX5_divideNow_116 : decode cX5_divideNow 116 = .ok (.aload_n 0, 1) := dk_42 (dk_at dksX5_divideNow_4 21 rfl rfl)
theorem dX5_divideNow_117 : decode cX5_divideNow 117 = .ok (.iload_n 1, 1) := dk_27 (dk_at dksX5_divideNow_4 22 rfl rfl)
theorem dX5_divideNow_118 : decode cX5_divideNow 118 = .ok (.iconst 1, 1) := dk_4 (dk_at dksX5_divideNow_4 23 rfl rfl)
theorem dX5_divideNow_119 : decode cX5_divideNow 119 = .ok (.invokevirtual 106, 3) := dk_182 0 106 (dk_at dksX5_divideNow_5 0 rfl rfl)
theorem dX5_divideNow_122 : decode cX5_divideNow 122 = .ok (.invokevirtual 163, 3) := dk_182 0 163 (dk_at dksX5_divideNow_5 3 rfl rfl)
theorem dX5_divideNow_125 : decode cX5_divideNow 125 = .ok (.aload_n 0, 1) := dk_42 (dk_at dksX5_divideNow_5 6 rfl rfl)
theorem dX5_divideNow_126 : decode cX5_divideNow 126 = .ok (.iload_n 1, 1) := dk_27 (dk_at dksX5_divideNow_5 7 rfl rfl)
theorem dX5_divideNow_127 : decode cX5_divideNow 127 = .ok (.iconst 5, 1) := dk_8 (dk_at dksX5_divideNow_5 8 rfl rfl)
theorem dX5_divideNow_128 : decode cX5_divideNow 128 = .ok (.iconst 2, 1) := dk_5 (dk_at dksX5_divideNow_5 9 rfl rfl)
theorem dX5_divideNow_129 : decode cX5_divideNow 129 = .ok (.invokevirtual 99, 3) := dk_182 0 99 (dk_at dksX5_divideNow_5 10 rfl rfl)
theorem dX5_divideNow_132 : decode cX5_divideNow 132 = .ok (.return_, 1) := dk_177 (dk_at dksX5_divideNow_5 13 rfl rfl)
abbrev cX5_divideAll : ByteArray := prog_21_method_105_code
def yX5_divideAll : MethodName := ⟨RX5, "divideAll", "()I"⟩
def dkwX5_divideAll_0 : List UInt8 := [42, 3, 181, 0, 92, 42, 182, 1, 4, 42, 42, 182, 1, 32, 182, 1, 10, 172]
abbrev dktX5_divideAll_0 : List UInt8 := dkwX5_divideAll_0 ++ []
theorem dksX5_divideAll_0 : cX5_divideAll.data.toList.drop 0 = dktX5_divideAll_0 := by decide +kernel
theorem dX5_divideAll_0 : decode cX5_divideAll 0 = .ok (.aload_n 0, 1) := dk_42 (dk_at dksX5_divideAll_0 0 rfl rfl)
theorem dX5_divideAll_1 : decode cX5_divideAll 1 = .ok (.iconst 0, 1) := dk_3 (dk_at dksX5_divideAll_0 1 rfl rfl)
theorem dX5_divideAll_2 : decode cX5_divideAll 2 = .ok (.putfield 92, 3) := dk_181 0 92 (dk_at dksX5_divideAll_0 2 rfl rfl)
theorem dX5_divideAll_5 : decode cX5_divideAll 5 = .ok (.aload_n 0, 1) := dk_42 (dk_at dksX5_divideAll_0 5 rfl rfl)
theorem dX5_divideAll_6 : decode cX5_divideAll 6 = .ok (.invokevirtual 260, 3) := dk_182 1 4 (dk_at dksX5_divideAll_0 6 rfl rfl)
theorem dX5_divideAll_9 : decode cX5_divideAll 9 = .ok (.aload_n 0, 1) := dk_42 (dk_at dksX5_divideAll_0 9 rfl rfl)
theorem dX5_divideAll_10 : decode cX5_divideAll 10 = .ok (.aload_n 0, 1) := dk_42 (dk_at dksX5_divideAll_0 10 rfl rfl)
theorem dX5_divideAll_11 : decode cX5_divideAll 11 = .ok (.invokevirtual 288, 3) := dk_182 1 32 (dk_at dksX5_divideAll_0 11 rfl rfl)
theorem dX5_divideAll_14 : decode cX5_divideAll 14 = .ok (.invokevirtual 266, 3) := dk_182 1 10 (dk_at dksX5_divideAll_0 14 rfl rfl)
theorem dX5_divideAll_17 : decode cX5_divideAll 17 = .ok (.ireturn, 1) := dk_172 (dk_at dksX5_divideAll_0 17 rfl rfl)
abbrev cX5_doDivideAll : ByteArray := prog_21_method_92_code
def yX5_doDivideAll : MethodName := ⟨RX5, "doDivideAll", "()I"⟩
def dkwX5_doDivideAll_2 : List UInt8 := [182, 0, 230, 172]
abbrev dktX5_doDivideAll_2 : List UInt8 := dkwX5_doDivideAll_2 ++ []
def dkwX5_doDivideAll_1 : List UInt8 := [182, 0, 239, 132, 1, 1, 132, 2, 1, 167, 255, 227, 42, 27, 154, 0, 8, 16, 254, 167, 0, 4, 27]
abbrev dktX5_doDivideAll_1 : List UInt8 := dkwX5_doDivideAll_1 ++ dktX5_doDivideAll_2
def dkwX5_doDivideAll_0 : List UInt8 := [3, 60, 3, 61, 28, 42, 180, 0, 51, 8, 46, 162, 0, 25, 42, 28, 182, 0, 227, 154, 0, 11, 42, 28]
abbrev dktX5_doDivideAll_0 : List UInt8 := dkwX5_doDivideAll_0 ++ dktX5_doDivideAll_1
theorem dksX5_doDivideAll_0 : cX5_doDivideAll.data.toList.drop 0 = dktX5_doDivideAll_0 := by decide +kernel
theorem dksX5_doDivideAll_1 : cX5_doDivideAll.data.toList.drop 24 = dktX5_doDivideAll_1 := dk_seg dksX5_doDivideAll_0 24 rfl rfl
theorem dksX5_doDivideAll_2 : cX5_doDivideAll.data.toList.drop 47 = dktX5_doDivideAll_2 := dk_seg dksX5_doDivideAll_1 23 rfl rfl
theorem dX5_doDivideAll_0 : decode cX5_doDivideAll 0 = .ok (.iconst 0, 1) := dk_3 (dk_at dksX5_doDivideAll_0 0 rfl rfl)
theorem dX5_doDivideAll_1 : decode cX5_doDivideAll 1 = .ok (.istore_n 1, 1) := dk_60 (dk_at dksX5_doDivideAll_0 1 rfl rfl)
theorem dX5_doDivideAll_2 : decode cX5_doDivideAll 2 = .ok (.iconst 0, 1) := dk_3 (dk_at dksX5_doDivideAll_0 2 rfl rfl)
theorem dX5_doDivideAll_3 : decode cX5_doDivideAll 3 = .ok (.istore_n 2, 1) := dk_61 (dk_at dksX5_doDivideAll_0 3 rfl rfl)
theorem dX5_doDivideAll_4 : decode cX5_doDivideAll 4 = .ok (.iload_n 2, 1) := dk_28 (dk_at dksX5_doDivideAll_0 4 rfl rfl)
theorem dX5_doDivideAll_5 : decode cX5_doDivideAll 5 = .ok (.aload_n 0, 1) := dk_42 (dk_at dksX5_doDivideAll_0 5 rfl rfl)
theorem dX5_doDivideAll_6 : decode cX5_doDivideAll 6 = .ok (.getfield 51, 3) := dk_180 0 51 (dk_at dksX5_doDivideAll_0 6 rfl rfl)
theorem dX5_doDivideAll_9 : decode cX5_doDivideAll 9 = .ok (.iconst 5, 1) := dk_8 (dk_at dksX5_doDivideAll_0 9 rfl rfl)
theorem dX5_doDivideAll_10 : decode cX5_doDivideAll 10 = .ok (.iaload, 1) := dk_46 (dk_at dksX5_doDivideAll_0 10 rfl rfl)
theorem dX5_doDivideAll_11 : decode cX5_doDivideAll 11 = .ok (.if_icmp .ge 25, 3) := dk_162 0 25 (dk_at dksX5_doDivideAll_0 11 rfl rfl)
theorem dX5_doDivideAll_14 : decode cX5_doDivideAll 14 = .ok (.aload_n 0, 1) := dk_42 (dk_at dksX5_doDivideAll_0 14 rfl rfl)
theorem dX5_doDivideAll_15 : decode cX5_doDivideAll 15 = .ok (.iload_n 2, 1) := dk_28 (dk_at dksX5_doDivideAll_0 15 rfl rfl)
theorem dX5_doDivideAll_16 : decode cX5_doDivideAll 16 = .ok (.invokevirtual 227, 3) := dk_182 0 227 (dk_at dksX5_doDivideAll_0 16 rfl rfl)
theorem dX5_doDivideAll_19 : decode cX5_doDivideAll 19 = .ok (.ifCond .ne 11, 3) := dk_154 0 11 (dk_at dksX5_doDivideAll_0 19 rfl rfl)
theorem dX5_doDivideAll_22 : decode cX5_doDivideAll 22 = .ok (.aload_n 0, 1) := dk_42 (dk_at dksX5_doDivideAll_0 22 rfl rfl)
theorem dX5_doDivideAll_23 : decode cX5_doDivideAll 23 = .ok (.iload_n 2, 1) := dk_28 (dk_at dksX5_doDivideAll_0 23 rfl rfl)
theorem dX5_doDivideAll_24 : decode cX5_doDivideAll 24 = .ok (.invokevirtual 239, 3) := dk_182 0 239 (dk_at dksX5_doDivideAll_1 0 rfl rfl)
theorem dX5_doDivideAll_27 : decode cX5_doDivideAll 27 = .ok (.iinc 1 1, 3) := dk_132 1 1 (dk_at dksX5_doDivideAll_1 3 rfl rfl)
theorem dX5_doDivideAll_30 : decode cX5_doDivideAll 30 = .ok (.iinc 2 1, 3) := dk_132 2 1 (dk_at dksX5_doDivideAll_1 6 rfl rfl)
theorem dX5_doDivideAll_33 : decode cX5_doDivideAll 33 = .ok (.goto (-29), 3) := dk_167 255 227 (dk_at dksX5_doDivideAll_1 9 rfl rfl)
theorem dX5_doDivideAll_36 : decode cX5_doDivideAll 36 = .ok (.aload_n 0, 1) := dk_42 (dk_at dksX5_doDivideAll_1 12 rfl rfl)
theorem dX5_doDivideAll_37 : decode cX5_doDivideAll 37 = .ok (.iload_n 1, 1) := dk_27 (dk_at dksX5_doDivideAll_1 13 rfl rfl)
theorem dX5_doDivideAll_38 : decode cX5_doDivideAll 38 = .ok (.ifCond .ne 8, 3) := dk_154 0 8 (dk_at dksX5_doDivideAll_1 14 rfl rfl)
theorem dX5_doDivideAll_41 : decode cX5_doDivideAll 41 = .ok (.bipush (-2), 2) := dk_16 254 (dk_at dksX5_doDivideAll_1 17 rfl rfl)
theorem dX5_doDivideAll_43 : decode cX5_doDivideAll 43 = .ok (.goto 4, 3) := dk_167 0 4 (dk_at dksX5_doDivideAll_1 19 rfl rfl)
theorem dX5_doDivideAll_46 : decode cX5_doDivideAll 46 = .ok (.iload_n 1, 1) := dk_27 (dk_at dksX5_doDivideAll_1 22 rfl rfl)
theorem dX5_doDivideAll_47 : decode cX5_doDivideAll 47 = .ok (.invokevirtual 230, 3) := dk_182 0 230 (dk_at dksX5_doDivideAll_2 0 rfl rfl)
theorem dX5_doDivideAll_50 : decode cX5_doDivideAll 50 = .ok (.ireturn, 1) := dk_172 (dk_at dksX5_doDivideAll_2 3 rfl rfl)
abbrev cX5_ticks : ByteArray := prog_21_method_106_code
def yX5_ticks : MethodName := ⟨RX5, "ticks", "(I)I"⟩
def dkwX5_ticks_1 : List UInt8 := [182, 1, 35, 182, 1, 10, 172]
abbrev dktX5_ticks_1 : List UInt8 := dkwX5_ticks_1 ++ []
def dkwX5_ticks_0 : List UInt8 := [42, 27, 4, 17, 0, 200, 184, 0, 102, 182, 0, 173, 153, 0, 5, 3, 172, 42, 182, 1, 4, 42, 42, 27]
abbrev dktX5_ticks_0 : List UInt8 := dkwX5_ticks_0 ++ dktX5_ticks_1
theorem dksX5_ticks_0 : cX5_ticks.data.toList.drop 0 = dktX5_ticks_0 := by decide +kernel
theorem dksX5_ticks_1 : cX5_ticks.data.toList.drop 24 = dktX5_ticks_1 := dk_seg dksX5_ticks_0 24 rfl rfl
theorem dX5_ticks_0 : decode cX5_ticks 0 = .ok (.aload_n 0, 1) := dk_42 (dk_at dksX5_ticks_0 0 rfl rfl)
theorem dX5_ticks_1 : decode cX5_ticks 1 = .ok (.iload_n 1, 1) := dk_27 (dk_at dksX5_ticks_0 1 rfl rfl)
theorem dX5_ticks_2 : decode cX5_ticks 2 = .ok (.iconst 1, 1) := dk_4 (dk_at dksX5_ticks_0 2 rfl rfl)
theorem dX5_ticks_3 : decode cX5_ticks 3 = .ok (.sipush 200, 3) := dk_17 0 200 (dk_at dksX5_ticks_0 3 rfl rfl)
theorem dX5_ticks_6 : decode cX5_ticks 6 = .ok (.invokestatic 102, 3) := dk_184 0 102 (dk_at dksX5_ticks_0 6 rfl rfl)
theorem dX5_ticks_9 : decode cX5_ticks 9 = .ok (.invokevirtual 173, 3) := dk_182 0 173 (dk_at dksX5_ticks_0 9 rfl rfl)
theorem dX5_ticks_12 : decode cX5_ticks 12 = .ok (.ifCond .eq 5, 3) := dk_153 0 5 (dk_at dksX5_ticks_0 12 rfl rfl)
theorem dX5_ticks_15 : decode cX5_ticks 15 = .ok (.iconst 0, 1) := dk_3 (dk_at dksX5_ticks_0 15 rfl rfl)
theorem dX5_ticks_16 : decode cX5_ticks 16 = .ok (.ireturn, 1) := dk_172 (dk_at dksX5_ticks_0 16 rfl rfl)
theorem dX5_ticks_17 : decode cX5_ticks 17 = .ok (.aload_n 0, 1) := dk_42 (dk_at dksX5_ticks_0 17 rfl rfl)
theorem dX5_ticks_18 : decode cX5_ticks 18 = .ok (.invokevirtual 260, 3) := dk_182 1 4 (dk_at dksX5_ticks_0 18 rfl rfl)
theorem dX5_ticks_21 : decode cX5_ticks 21 = .ok (.aload_n 0, 1) := dk_42 (dk_at dksX5_ticks_0 21 rfl rfl)
theorem dX5_ticks_22 : decode cX5_ticks 22 = .ok (.aload_n 0, 1) := dk_42 (dk_at dksX5_ticks_0 22 rfl rfl)
theorem dX5_ticks_23 : decode cX5_ticks 23 = .ok (.iload_n 1, 1) := dk_27 (dk_at dksX5_ticks_0 23 rfl rfl)
theorem dX5_ticks_24 : decode cX5_ticks 24 = .ok (.invokevirtual 291, 3) := dk_182 1 35 (dk_at dksX5_ticks_1 0 rfl rfl)
theorem dX5_ticks_27 : decode cX5_ticks 27 = .ok (.invokevirtual 266, 3) := dk_182 1 10 (dk_at dksX5_ticks_1 3 rfl rfl)
theorem dX5_ticks_30 : decode cX5_ticks 30 = .ok (.ireturn, 1) := dk_172 (dk_at dksX5_ticks_1 6 rfl rfl)
abbrev cX5_doTicks : ByteArray := prog_21_method_93_code
def yX5_doTicks : MethodName := ⟨RX5, "doTicks", "(I)I"⟩
def dkwX5_doTicks_2 : List UInt8 := [16, 7, 182, 0, 187, 28, 100, 182, 0, 230, 172]
abbrev dktX5_doTicks_2 : List UInt8 := dkwX5_doTicks_2 ++ []
def dkwX5_doTicks_1 : List UInt8 := [182, 0, 187, 61, 3, 62, 29, 27, 162, 0, 13, 42, 182, 0, 242, 132, 3, 1, 167, 255, 244, 42, 42]
abbrev dktX5_doTicks_1 : List UInt8 := dkwX5_doTicks_1 ++ dktX5_doTicks_2
def dkwX5_doTicks_0 : List UInt8 := [42, 180, 0, 51, 3, 46, 27, 96, 17, 39, 15, 164, 0, 10, 42, 16, 254, 182, 0, 230, 172, 42, 16, 7]
abbrev dktX5_doTicks_0 : List UInt8 := dkwX5_doTicks_0 ++ dktX5_doTicks_1
theorem dksX5_doTicks_0 : cX5_doTicks.data.toList.drop 0 = dktX5_doTicks_0 := by decide +kernel
theorem dksX5_doTicks_1 : cX5_doTicks.data.toList.drop 24 = dktX5_doTicks_1 := dk_seg dksX5_doTicks_0 24 rfl rfl
theorem dksX5_doTicks_2 : cX5_doTicks.data.toList.drop 47 = dktX5_doTicks_2 := dk_seg dksX5_doTicks_1 23 rfl rfl
theorem dX5_doTicks_0 : decode cX5_doTicks 0 = .ok (.aload_n 0, 1) := dk_42 (dk_at dksX5_doTicks_0 0 rfl rfl)
theorem dX5_doTicks_1 : decode cX5_doTicks 1 = .ok (.getfield 51, 3) := dk_180 0 51 (dk_at dksX5_doTicks_0 1 rfl rfl)
theorem dX5_doTicks_4 : decode cX5_doTicks 4 = .ok (.iconst 0, 1) := dk_3 (dk_at dksX5_doTicks_0 4 rfl rfl)
theorem dX5_doTicks_5 : decode cX5_doTicks 5 = .ok (.iaload, 1) := dk_46 (dk_at dksX5_doTicks_0 5 rfl rfl)
theorem dX5_doTicks_6 : decode cX5_doTicks 6 = .ok (.iload_n 1, 1) := dk_27 (dk_at dksX5_doTicks_0 6 rfl rfl)
theorem dX5_doTicks_7 : decode cX5_doTicks 7 = .ok (.iadd, 1) := dk_96 (dk_at dksX5_doTicks_0 7 rfl rfl)
theorem dX5_doTicks_8 : decode cX5_doTicks 8 = .ok (.sipush 9999, 3) := dk_17 39 15 (dk_at dksX5_doTicks_0 8 rfl rfl)
theorem dX5_doTicks_11 : decode cX5_doTicks 11 = .ok (.if_icmp .le 10, 3) := dk_164 0 10 (dk_at dksX5_doTicks_0 11 rfl rfl)
theorem dX5_doTicks_14 : decode cX5_doTicks 14 = .ok (.aload_n 0, 1) := dk_42 (dk_at dksX5_doTicks_0 14 rfl rfl)
theorem dX5_doTicks_15 : decode cX5_doTicks 15 = .ok (.bipush (-2), 2) := dk_16 254 (dk_at dksX5_doTicks_0 15 rfl rfl)
theorem dX5_doTicks_17 : decode cX5_doTicks 17 = .ok (.invokevirtual 230, 3) := dk_182 0 230 (dk_at dksX5_doTicks_0 17 rfl rfl)
theorem dX5_doTicks_20 : decode cX5_doTicks 20 = .ok (.ireturn, 1) := dk_172 (dk_at dksX5_doTicks_0 20 rfl rfl)
theorem dX5_doTicks_21 : decode cX5_doTicks 21 = .ok (.aload_n 0, 1) := dk_42 (dk_at dksX5_doTicks_0 21 rfl rfl)
theorem dX5_doTicks_22 : decode cX5_doTicks 22 = .ok (.bipush 7, 2) := dk_16 7 (dk_at dksX5_doTicks_0 22 rfl rfl)
theorem dX5_doTicks_24 : decode cX5_doTicks 24 = .ok (.invokevirtual 187, 3) := dk_182 0 187 (dk_at dksX5_doTicks_1 0 rfl rfl)
theorem dX5_doTicks_27 : decode cX5_doTicks 27 = .ok (.istore_n 2, 1) := dk_61 (dk_at dksX5_doTicks_1 3 rfl rfl)
theorem dX5_doTicks_28 : decode cX5_doTicks 28 = .ok (.iconst 0, 1) := dk_3 (dk_at dksX5_doTicks_1 4 rfl rfl)
theorem dX5_doTicks_29 : decode cX5_doTicks 29 = .ok (.istore_n 3, 1) := dk_62 (dk_at dksX5_doTicks_1 5 rfl rfl)
theorem dX5_doTicks_30 : decode cX5_doTicks 30 = .ok (.iload_n 3, 1) := dk_29 (dk_at dksX5_doTicks_1 6 rfl rfl)
theorem dX5_doTicks_31 : decode cX5_doTicks 31 = .ok (.iload_n 1, 1) := dk_27 (dk_at dksX5_doTicks_1 7 rfl rfl)
theorem dX5_doTicks_32 : decode cX5_doTicks 32 = .ok (.if_icmp .ge 13, 3) := dk_162 0 13 (dk_at dksX5_doTicks_1 8 rfl rfl)
theorem dX5_doTicks_35 : decode cX5_doTicks 35 = .ok (.aload_n 0, 1) := dk_42 (dk_at dksX5_doTicks_1 11 rfl rfl)
theorem dX5_doTicks_36 : decode cX5_doTicks 36 = .ok (.invokevirtual 242, 3) := dk_182 0 242 (dk_at dksX5_doTicks_1 12 rfl rfl)
theorem dX5_doTicks_39 : decode cX5_doTicks 39 = .ok (.iinc 3 1, 3) := dk_132 3 1 (dk_at dksX5_doTicks_1 15 rfl rfl)
theorem dX5_doTicks_42 : decode cX5_doTicks 42 = .ok (.goto (-12), 3) := dk_167 255 244 (dk_at dksX5_doTicks_1 18 rfl rfl)
theorem dX5_doTicks_45 : decode cX5_doTicks 45 = .ok (.aload_n 0, 1) := dk_42 (dk_at dksX5_doTicks_1 21 rfl rfl)
theorem dX5_doTicks_46 : decode cX5_doTicks 46 = .ok (.aload_n 0, 1) := dk_42 (dk_at dksX5_doTicks_1 22 rfl rfl)
theorem dX5_doTicks_47 : decode cX5_doTicks 47 = .ok (.bipush 7, 2) := dk_16 7 (dk_at dksX5_doTicks_2 0 rfl rfl)
theorem dX5_doTicks_49 : decode cX5_doTicks 49 = .ok (.invokevirtual 187, 3) := dk_182 0 187 (dk_at dksX5_doTicks_2 2 rfl rfl)
theorem dX5_doTicks_52 : decode cX5_doTicks 52 = .ok (.iload_n 2, 1) := dk_28 (dk_at dksX5_doTicks_2 5 rfl rfl)
theorem dX5_doTicks_53 : decode cX5_doTicks 53 = .ok (.isub, 1) := dk_100 (dk_at dksX5_doTicks_2 6 rfl rfl)
theorem dX5_doTicks_54 : decode cX5_doTicks 54 = .ok (.invokevirtual 230, 3) := dk_182 0 230 (dk_at dksX5_doTicks_2 7 rfl rfl)
theorem dX5_doTicks_57 : decode cX5_doTicks 57 = .ok (.ireturn, 1) := dk_172 (dk_at dksX5_doTicks_2 10 rfl rfl)
abbrev cX5_tick : ByteArray := prog_21_method_39_code
def yX5_tick : MethodName := ⟨RX5, "tick", "()V"⟩
def dkwX5_tick_2 : List UInt8 := [182, 0, 170, 132, 1, 1, 167, 255, 215, 177]
abbrev dktX5_tick_2 : List UInt8 := dkwX5_tick_2 ++ []
def dkwX5_tick_1 : List UInt8 := [3, 182, 0, 118, 153, 0, 22, 42, 27, 42, 180, 0, 51, 3, 46, 182, 0, 114, 154, 0, 8, 42, 27]
abbrev dktX5_tick_1 : List UInt8 := dkwX5_tick_1 ++ dktX5_tick_2
def dkwX5_tick_0 : List UInt8 := [42, 180, 0, 51, 3, 92, 46, 4, 96, 79, 3, 60, 27, 42, 180, 0, 51, 8, 46, 162, 0, 37, 42, 27]
abbrev dktX5_tick_0 : List UInt8 := dkwX5_tick_0 ++ dktX5_tick_1
theorem dksX5_tick_0 : cX5_tick.data.toList.drop 0 = dktX5_tick_0 := by decide +kernel
theorem dksX5_tick_1 : cX5_tick.data.toList.drop 24 = dktX5_tick_1 := dk_seg dksX5_tick_0 24 rfl rfl
theorem dksX5_tick_2 : cX5_tick.data.toList.drop 47 = dktX5_tick_2 := dk_seg dksX5_tick_1 23 rfl rfl
theorem dX5_tick_0 : decode cX5_tick 0 = .ok (.aload_n 0, 1) := dk_42 (dk_at dksX5_tick_0 0 rfl rfl)
theorem dX5_tick_1 : decode cX5_tick 1 = .ok (.getfield 51, 3) := dk_180 0 51 (dk_at dksX5_tick_0 1 rfl rfl)
theorem dX5_tick_4 : decode cX5_tick 4 = .ok (.iconst 0, 1) := dk_3 (dk_at dksX5_tick_0 4 rfl rfl)
theorem dX5_tick_5 : decode cX5_tick 5 = .ok (.dup2, 1) := dk_92 (dk_at dksX5_tick_0 5 rfl rfl)
theorem dX5_tick_6 : decode cX5_tick 6 = .ok (.iaload, 1) := dk_46 (dk_at dksX5_tick_0 6 rfl rfl)
theorem dX5_tick_7 : decode cX5_tick 7 = .ok (.iconst 1, 1) := dk_4 (dk_at dksX5_tick_0 7 rfl rfl)
theorem dX5_tick_8 : decode cX5_tick 8 = .ok (.iadd, 1) := dk_96 (dk_at dksX5_tick_0 8 rfl rfl)
theorem dX5_tick_9 : decode cX5_tick 9 = .ok (.iastore, 1) := dk_79 (dk_at dksX5_tick_0 9 rfl rfl)
theorem dX5_tick_10 : decode cX5_tick 10 = .ok (.iconst 0, 1) := dk_3 (dk_at dksX5_tick_0 10 rfl rfl)
theorem dX5_tick_11 : decode cX5_tick 11 = .ok (.istore_n 1, 1) := dk_60 (dk_at dksX5_tick_0 11 rfl rfl)
theorem dX5_tick_12 : decode cX5_tick 12 = .ok (.iload_n 1, 1) := dk_27 (dk_at dksX5_tick_0 12 rfl rfl)
theorem dX5_tick_13 : decode cX5_tick 13 = .ok (.aload_n 0, 1) := dk_42 (dk_at dksX5_tick_0 13 rfl rfl)
theorem dX5_tick_14 : decode cX5_tick 14 = .ok (.getfield 51, 3) := dk_180 0 51 (dk_at dksX5_tick_0 14 rfl rfl)
theorem dX5_tick_17 : decode cX5_tick 17 = .ok (.iconst 5, 1) := dk_8 (dk_at dksX5_tick_0 17 rfl rfl)
theorem dX5_tick_18 : decode cX5_tick 18 = .ok (.iaload, 1) := dk_46 (dk_at dksX5_tick_0 18 rfl rfl)
theorem dX5_tick_19 : decode cX5_tick 19 = .ok (.if_icmp .ge 37, 3) := dk_162 0 37 (dk_at dksX5_tick_0 19 rfl rfl)
theorem dX5_tick_22 : decode cX5_tick 22 = .ok (.aload_n 0, 1) := dk_42 (dk_at dksX5_tick_0 22 rfl rfl)
theorem dX5_tick_23 : decode cX5_tick 23 = .ok (.iload_n 1, 1) := dk_27 (dk_at dksX5_tick_0 23 rfl rfl)
theorem dX5_tick_24 : decode cX5_tick 24 = .ok (.iconst 0, 1) := dk_3 (dk_at dksX5_tick_1 0 rfl rfl)
theorem dX5_tick_25 : decode cX5_tick 25 = .ok (.invokevirtual 118, 3) := dk_182 0 118 (dk_at dksX5_tick_1 1 rfl rfl)
theorem dX5_tick_28 : decode cX5_tick 28 = .ok (.ifCond .eq 22, 3) := dk_153 0 22 (dk_at dksX5_tick_1 4 rfl rfl)
theorem dX5_tick_31 : decode cX5_tick 31 = .ok (.aload_n 0, 1) := dk_42 (dk_at dksX5_tick_1 7 rfl rfl)
theorem dX5_tick_32 : decode cX5_tick 32 = .ok (.iload_n 1, 1) := dk_27 (dk_at dksX5_tick_1 8 rfl rfl)
theorem dX5_tick_33 : decode cX5_tick 33 = .ok (.aload_n 0, 1) := dk_42 (dk_at dksX5_tick_1 9 rfl rfl)
theorem dX5_tick_34 : decode cX5_tick 34 = .ok (.getfield 51, 3) := dk_180 0 51 (dk_at dksX5_tick_1 10 rfl rfl)
theorem dX5_tick_37 : decode cX5_tick 37 = .ok (.iconst 0, 1) := dk_3 (dk_at dksX5_tick_1 13 rfl rfl)
theorem dX5_tick_38 : decode cX5_tick 38 = .ok (.iaload, 1) := dk_46 (dk_at dksX5_tick_1 14 rfl rfl)
theorem dX5_tick_39 : decode cX5_tick 39 = .ok (.invokevirtual 114, 3) := dk_182 0 114 (dk_at dksX5_tick_1 15 rfl rfl)
theorem dX5_tick_42 : decode cX5_tick 42 = .ok (.ifCond .ne 8, 3) := dk_154 0 8 (dk_at dksX5_tick_1 18 rfl rfl)
theorem dX5_tick_45 : decode cX5_tick 45 = .ok (.aload_n 0, 1) := dk_42 (dk_at dksX5_tick_1 21 rfl rfl)
theorem dX5_tick_46 : decode cX5_tick 46 = .ok (.iload_n 1, 1) := dk_27 (dk_at dksX5_tick_1 22 rfl rfl)
theorem dX5_tick_47 : decode cX5_tick 47 = .ok (.invokevirtual 170, 3) := dk_182 0 170 (dk_at dksX5_tick_2 0 rfl rfl)
theorem dX5_tick_50 : decode cX5_tick 50 = .ok (.iinc 1 1, 3) := dk_132 1 1 (dk_at dksX5_tick_2 3 rfl rfl)
theorem dX5_tick_53 : decode cX5_tick 53 = .ok (.goto (-41), 3) := dk_167 255 215 (dk_at dksX5_tick_2 6 rfl rfl)
theorem dX5_tick_56 : decode cX5_tick 56 = .ok (.return_, 1) := dk_177 (dk_at dksX5_tick_2 9 rfl rfl)
abbrev cX5_wash : ByteArray := prog_21_method_38_code
def yX5_wash : MethodName := ⟨RX5, "wash", "(I)V"⟩
def dkwX5_wash_1 : List UInt8 := [180, 0, 51, 5, 46, 160, 0, 8, 42, 27, 182, 0, 167, 177]
abbrev dktX5_wash_1 : List UInt8 := dkwX5_wash_1 ++ []
def dkwX5_wash_0 : List UInt8 := [42, 27, 16, 6, 42, 27, 16, 6, 182, 0, 106, 4, 96, 182, 0, 99, 42, 27, 16, 6, 182, 0, 106, 42]
abbrev dktX5_wash_0 : List UInt8 := dkwX5_wash_0 ++ dktX5_wash_1
theorem dksX5_wash_0 : cX5_wash.data.toList.drop 0 = dktX5_wash_0 := by decide +kernel
theorem dksX5_wash_1 : cX5_wash.data.toList.drop 24 = dktX5_wash_1 := dk_seg dksX5_wash_0 24 rfl rfl
theorem dX5_wash_0 : decode cX5_wash 0 = .ok (.aload_n 0, 1) := dk_42 (dk_at dksX5_wash_0 0 rfl rfl)
theorem dX5_wash_1 : decode cX5_wash 1 = .ok (.iload_n 1, 1) := dk_27 (dk_at dksX5_wash_0 1 rfl rfl)
theorem dX5_wash_2 : decode cX5_wash 2 = .ok (.bipush 6, 2) := dk_16 6 (dk_at dksX5_wash_0 2 rfl rfl)
theorem dX5_wash_4 : decode cX5_wash 4 = .ok (.aload_n 0, 1) := dk_42 (dk_at dksX5_wash_0 4 rfl rfl)
theorem dX5_wash_5 : decode cX5_wash 5 = .ok (.iload_n 1, 1) := dk_27 (dk_at dksX5_wash_0 5 rfl rfl)
theorem dX5_wash_6 : decode cX5_wash 6 = .ok (.bipush 6, 2) := dk_16 6 (dk_at dksX5_wash_0 6 rfl rfl)
theorem dX5_wash_8 : decode cX5_wash 8 = .ok (.invokevirtual 106, 3) := dk_182 0 106 (dk_at dksX5_wash_0 8 rfl rfl)
theorem dX5_wash_11 : decode cX5_wash 11 = .ok (.iconst 1, 1) := dk_4 (dk_at dksX5_wash_0 11 rfl rfl)
theorem dX5_wash_12 : decode cX5_wash 12 = .ok (.iadd, 1) := dk_96 (dk_at dksX5_wash_0 12 rfl rfl)
theorem dX5_wash_13 : decode cX5_wash 13 = .ok (.invokevirtual 99, 3) := dk_182 0 99 (dk_at dksX5_wash_0 13 rfl rfl)
theorem dX5_wash_16 : decode cX5_wash 16 = .ok (.aload_n 0, 1) := dk_42 (dk_at dksX5_wash_0 16 rfl rfl)
theorem dX5_wash_17 : decode cX5_wash 17 = .ok (.iload_n 1, 1) := dk_27 (dk_at dksX5_wash_0 17 rfl rfl)
theorem dX5_wash_18 : decode cX5_wash 18 = .ok (.bipush 6, 2) := dk_16 6 (dk_at dksX5_wash_0 18 rfl rfl)
theorem dX5_wash_20 : decode cX5_wash 20 = .ok (.invokevirtual 106, 3) := dk_182 0 106 (dk_at dksX5_wash_0 20 rfl rfl)
theorem dX5_wash_23 : decode cX5_wash 23 = .ok (.aload_n 0, 1) := dk_42 (dk_at dksX5_wash_0 23 rfl rfl)
theorem dX5_wash_24 : decode cX5_wash 24 = .ok (.getfield 51, 3) := dk_180 0 51 (dk_at dksX5_wash_1 0 rfl rfl)
theorem dX5_wash_27 : decode cX5_wash 27 = .ok (.iconst 2, 1) := dk_5 (dk_at dksX5_wash_1 3 rfl rfl)
theorem dX5_wash_28 : decode cX5_wash 28 = .ok (.iaload, 1) := dk_46 (dk_at dksX5_wash_1 4 rfl rfl)
theorem dX5_wash_29 : decode cX5_wash 29 = .ok (.if_icmp .ne 8, 3) := dk_160 0 8 (dk_at dksX5_wash_1 5 rfl rfl)
theorem dX5_wash_32 : decode cX5_wash 32 = .ok (.aload_n 0, 1) := dk_42 (dk_at dksX5_wash_1 8 rfl rfl)
theorem dX5_wash_33 : decode cX5_wash 33 = .ok (.iload_n 1, 1) := dk_27 (dk_at dksX5_wash_1 9 rfl rfl)
theorem dX5_wash_34 : decode cX5_wash 34 = .ok (.invokevirtual 167, 3) := dk_182 0 167 (dk_at dksX5_wash_1 10 rfl rfl)
theorem dX5_wash_37 : decode cX5_wash 37 = .ok (.return_, 1) := dk_177 (dk_at dksX5_wash_1 13 rfl rfl)
abbrev cX5_lose : ByteArray := prog_21_method_37_code
def yX5_lose : MethodName := ⟨RX5, "lose", "(I)V"⟩
def dkwX5_lose_1 : List UInt8 := [182, 0, 163, 42, 16, 8, 42, 27, 4, 182, 0, 106, 182, 0, 163, 177]
abbrev dktX5_lose_1 : List UInt8 := dkwX5_lose_1 ++ []
def dkwX5_lose_0 : List UInt8 := [42, 27, 182, 0, 159, 42, 27, 16, 9, 3, 182, 0, 99, 42, 27, 8, 6, 182, 0, 99, 42, 16, 7, 4]
abbrev dktX5_lose_0 : List UInt8 := dkwX5_lose_0 ++ dktX5_lose_1
theorem dksX5_lose_0 : cX5_lose.data.toList.drop 0 = dktX5_lose_0 := by decide +kernel
theorem dksX5_lose_1 : cX5_lose.data.toList.drop 24 = dktX5_lose_1 := dk_seg dksX5_lose_0 24 rfl rfl
theorem dX5_lose_0 : decode cX5_lose 0 = .ok (.aload_n 0, 1) := dk_42 (dk_at dksX5_lose_0 0 rfl rfl)
theorem dX5_lose_1 : decode cX5_lose 1 = .ok (.iload_n 1, 1) := dk_27 (dk_at dksX5_lose_0 1 rfl rfl)
theorem dX5_lose_2 : decode cX5_lose 2 = .ok (.invokevirtual 159, 3) := dk_182 0 159 (dk_at dksX5_lose_0 2 rfl rfl)
theorem dX5_lose_5 : decode cX5_lose 5 = .ok (.aload_n 0, 1) := dk_42 (dk_at dksX5_lose_0 5 rfl rfl)
theorem dX5_lose_6 : decode cX5_lose 6 = .ok (.iload_n 1, 1) := dk_27 (dk_at dksX5_lose_0 6 rfl rfl)
theorem dX5_lose_7 : decode cX5_lose 7 = .ok (.bipush 9, 2) := dk_16 9 (dk_at dksX5_lose_0 7 rfl rfl)
theorem dX5_lose_9 : decode cX5_lose 9 = .ok (.iconst 0, 1) := dk_3 (dk_at dksX5_lose_0 9 rfl rfl)
theorem dX5_lose_10 : decode cX5_lose 10 = .ok (.invokevirtual 99, 3) := dk_182 0 99 (dk_at dksX5_lose_0 10 rfl rfl)
theorem dX5_lose_13 : decode cX5_lose 13 = .ok (.aload_n 0, 1) := dk_42 (dk_at dksX5_lose_0 13 rfl rfl)
theorem dX5_lose_14 : decode cX5_lose 14 = .ok (.iload_n 1, 1) := dk_27 (dk_at dksX5_lose_0 14 rfl rfl)
theorem dX5_lose_15 : decode cX5_lose 15 = .ok (.iconst 5, 1) := dk_8 (dk_at dksX5_lose_0 15 rfl rfl)
theorem dX5_lose_16 : decode cX5_lose 16 = .ok (.iconst 3, 1) := dk_6 (dk_at dksX5_lose_0 16 rfl rfl)
theorem dX5_lose_17 : decode cX5_lose 17 = .ok (.invokevirtual 99, 3) := dk_182 0 99 (dk_at dksX5_lose_0 17 rfl rfl)
theorem dX5_lose_20 : decode cX5_lose 20 = .ok (.aload_n 0, 1) := dk_42 (dk_at dksX5_lose_0 20 rfl rfl)
theorem dX5_lose_21 : decode cX5_lose 21 = .ok (.bipush 7, 2) := dk_16 7 (dk_at dksX5_lose_0 21 rfl rfl)
theorem dX5_lose_23 : decode cX5_lose 23 = .ok (.iconst 1, 1) := dk_4 (dk_at dksX5_lose_0 23 rfl rfl)
theorem dX5_lose_24 : decode cX5_lose 24 = .ok (.invokevirtual 163, 3) := dk_182 0 163 (dk_at dksX5_lose_1 0 rfl rfl)
theorem dX5_lose_27 : decode cX5_lose 27 = .ok (.aload_n 0, 1) := dk_42 (dk_at dksX5_lose_1 3 rfl rfl)
theorem dX5_lose_28 : decode cX5_lose 28 = .ok (.bipush 8, 2) := dk_16 8 (dk_at dksX5_lose_1 4 rfl rfl)
theorem dX5_lose_30 : decode cX5_lose 30 = .ok (.aload_n 0, 1) := dk_42 (dk_at dksX5_lose_1 6 rfl rfl)
theorem dX5_lose_31 : decode cX5_lose 31 = .ok (.iload_n 1, 1) := dk_27 (dk_at dksX5_lose_1 7 rfl rfl)
theorem dX5_lose_32 : decode cX5_lose 32 = .ok (.iconst 1, 1) := dk_4 (dk_at dksX5_lose_1 8 rfl rfl)
theorem dX5_lose_33 : decode cX5_lose 33 = .ok (.invokevirtual 106, 3) := dk_182 0 106 (dk_at dksX5_lose_1 9 rfl rfl)
theorem dX5_lose_36 : decode cX5_lose 36 = .ok (.invokevirtual 163, 3) := dk_182 0 163 (dk_at dksX5_lose_1 12 rfl rfl)
theorem dX5_lose_39 : decode cX5_lose 39 = .ok (.return_, 1) := dk_177 (dk_at dksX5_lose_1 15 rfl rfl)
abbrev cX5_format : ByteArray := prog_21_method_109_code
def yX5_format : MethodName := ⟨RX5, "format", "(I)I"⟩
def dkwX5_format_5 : List UInt8 := [172]
abbrev dktX5_format_5 : List UInt8 := dkwX5_format_5 ++ []
def dkwX5_format_4 : List UInt8 := [132, 2, 1, 167, 255, 222, 42, 27, 182, 0, 143, 153, 0, 9, 42, 16, 42, 182, 1, 41, 42, 180, 1, 38]
abbrev dktX5_format_4 : List UInt8 := dkwX5_format_4 ++ dktX5_format_5
def dkwX5_format_3 : List UInt8 := [162, 0, 29, 28, 158, 0, 9, 42, 16, 44, 182, 1, 41, 42, 42, 27, 28, 182, 0, 124, 182, 1, 44]
abbrev dktX5_format_3 : List UInt8 := dkwX5_format_3 ++ dktX5_format_4
def dkwX5_format_2 : List UInt8 := [180, 0, 34, 42, 27, 8, 182, 0, 106, 46, 182, 1, 41, 3, 61, 28, 42, 27, 16, 9, 182, 0, 106]
abbrev dktX5_format_2 : List UInt8 := dkwX5_format_2 ++ dktX5_format_3
def dkwX5_format_1 : List UInt8 := [42, 27, 3, 182, 0, 106, 46, 182, 1, 41, 42, 42, 27, 4, 182, 0, 106, 182, 1, 44, 42, 42]
abbrev dktX5_format_1 : List UInt8 := dkwX5_format_1 ++ dktX5_format_2
def dkwX5_format_0 : List UInt8 := [42, 42, 27, 182, 0, 190, 182, 0, 173, 153, 0, 5, 3, 172, 42, 3, 181, 1, 38, 42, 42, 180, 0, 31]
abbrev dktX5_format_0 : List UInt8 := dkwX5_format_0 ++ dktX5_format_1
theorem dksX5_format_0 : cX5_format.data.toList.drop 0 = dktX5_format_0 := by decide +kernel
theorem dksX5_format_1 : cX5_format.data.toList.drop 24 = dktX5_format_1 := dk_seg dksX5_format_0 24 rfl rfl
theorem dksX5_format_2 : cX5_format.data.toList.drop 46 = dktX5_format_2 := dk_seg dksX5_format_1 22 rfl rfl
theorem dksX5_format_3 : cX5_format.data.toList.drop 69 = dktX5_format_3 := dk_seg dksX5_format_2 23 rfl rfl
theorem dksX5_format_4 : cX5_format.data.toList.drop 92 = dktX5_format_4 := dk_seg dksX5_format_3 23 rfl rfl
theorem dksX5_format_5 : cX5_format.data.toList.drop 116 = dktX5_format_5 := dk_seg dksX5_format_4 24 rfl rfl
theorem dX5_format_0 : decode cX5_format 0 = .ok (.aload_n 0, 1) := dk_42 (dk_at dksX5_format_0 0 rfl rfl)
theorem dX5_format_1 : decode cX5_format 1 = .ok (.aload_n 0, 1) := dk_42 (dk_at dksX5_format_0 1 rfl rfl)
theorem dX5_format_2 : decode cX5_format 2 = .ok (.iload_n 1, 1) := dk_27 (dk_at dksX5_format_0 2 rfl rfl)
theorem dX5_format_3 : decode cX5_format 3 = .ok (.invokevirtual 190, 3) := dk_182 0 190 (dk_at dksX5_format_0 3 rfl rfl)
theorem dX5_format_6 : decode cX5_format 6 = .ok (.invokevirtual 173, 3) := dk_182 0 173 (dk_at dksX5_format_0 6 rfl rfl)
theorem dX5_format_9 : decode cX5_format 9 = .ok (.ifCond .eq 5, 3) := dk_153 0 5 (dk_at dksX5_format_0 9 rfl rfl)
theorem dX5_format_12 : decode cX5_format 12 = .ok (.iconst 0, 1) := dk_3 (dk_at dksX5_format_0 12 rfl rfl)
theorem dX5_format_13 : decode cX5_format 13 = .ok (.ireturn, 1) := dk_172 (dk_at dksX5_format_0 13 rfl rfl)
theorem dX5_format_14 : decode cX5_format 14 = .ok (.aload_n 0, 1) := dk_42 (dk_at dksX5_format_0 14 rfl rfl)
theorem dX5_format_15 : decode cX5_format 15 = .ok (.iconst 0, 1) := dk_3 (dk_at dksX5_format_0 15 rfl rfl)
theorem dX5_format_16 : decode cX5_format 16 = .ok (.putfield 294, 3) := dk_181 1 38 (dk_at dksX5_format_0 16 rfl rfl)
theorem dX5_format_19 : decode cX5_format 19 = .ok (.aload_n 0, 1) := dk_42 (dk_at dksX5_format_0 19 rfl rfl)
theorem dX5_format_20 : decode cX5_format 20 = .ok (.aload_n 0, 1) := dk_42 (dk_at dksX5_format_0 20 rfl rfl)
theorem dX5_format_21 : decode cX5_format 21 = .ok (.getfield 31, 3) := dk_180 0 31 (dk_at dksX5_format_0 21 rfl rfl)
theorem dX5_format_24 : decode cX5_format 24 = .ok (.aload_n 0, 1) := dk_42 (dk_at dksX5_format_1 0 rfl rfl)
theorem dX5_format_25 : decode cX5_format 25 = .ok (.iload_n 1, 1) := dk_27 (dk_at dksX5_format_1 1 rfl rfl)
theorem dX5_format_26 : decode cX5_format 26 = .ok (.iconst 0, 1) := dk_3 (dk_at dksX5_format_1 2 rfl rfl)
theorem dX5_format_27 : decode cX5_format 27 = .ok (.invokevirtual 106, 3) := dk_182 0 106 (dk_at dksX5_format_1 3 rfl rfl)
theorem dX5_format_30 : decode cX5_format 30 = .ok (.iaload, 1) := dk_46 (dk_at dksX5_format_1 6 rfl rfl)
theorem dX5_format_31 : decode cX5_format 31 = .ok (.invokevirtual 297, 3) := dk_182 1 41 (dk_at dksX5_format_1 7 rfl rfl)
theorem dX5_format_34 : decode cX5_format 34 = .ok (.aload_n 0, 1) := dk_42 (dk_at dksX5_format_1 10 rfl rfl)
theorem dX5_format_35 : decode cX5_format 35 = .ok (.aload_n 0, 1) := dk_42 (dk_at dksX5_format_1 11 rfl rfl)
theorem dX5_format_36 : decode cX5_format 36 = .ok (.iload_n 1, 1) := dk_27 (dk_at dksX5_format_1 12 rfl rfl)
theorem dX5_format_37 : decode cX5_format 37 = .ok (.iconst 1, 1) := dk_4 (dk_at dksX5_format_1 13 rfl rfl)
theorem dX5_format_38 : decode cX5_format 38 = .ok (.invokevirtual 106, 3) := dk_182 0 106 (dk_at dksX5_format_1 14 rfl rfl)
theorem dX5_format_41 : decode cX5_format 41 = .ok (.invokevirtual 300, 3) := dk_182 1 44 (dk_at dksX5_format_1 17 rfl rfl)
theorem dX5_format_44 : decode cX5_format 44 = .ok (.aload_n 0, 1) := dk_42 (dk_at dksX5_format_1 20 rfl rfl)
theorem dX5_format_45 : decode cX5_format 45 = .ok (.aload_n 0, 1) := dk_42 (dk_at dksX5_format_1 21 rfl rfl)
theorem dX5_format_46 : decode cX5_format 46 = .ok (.getfield 34, 3) := dk_180 0 34 (dk_at dksX5_format_2 0 rfl rfl)
theorem dX5_format_49 : decode cX5_format 49 = .ok (.aload_n 0, 1) := dk_42 (dk_at dksX5_format_2 3 rfl rfl)
theorem dX5_format_50 : decode cX5_format 50 = .ok (.iload_n 1, 1) := dk_27 (dk_at dksX5_format_2 4 rfl rfl)
theorem dX5_format_51 : decode cX5_format 51 = .ok (.iconst 5, 1) := dk_8 (dk_at dksX5_format_2 5 rfl rfl)
theorem dX5_format_52 : decode cX5_format 52 = .ok (.invokevirtual 106, 3) := dk_182 0 106 (dk_at dksX5_format_2 6 rfl rfl)
theorem dX5_format_55 : decode cX5_format 55 = .ok (.iaload, 1) := dk_46 (dk_at dksX5_format_2 9 rfl rfl)
theorem dX5_format_56 : decode cX5_format 56 = .ok (.invokevirtual 297, 3) := dk_182 1 41 (dk_at dksX5_format_2 10 rfl rfl)
theorem dX5_format_59 : decode cX5_format 59 = .ok (.iconst 0, 1) := dk_3 (dk_at dksX5_format_2 13 rfl rfl)
theorem dX5_format_60 : decode cX5_format 60 = .ok (.istore_n 2, 1) := dk_61 (dk_at dksX5_format_2 14 rfl rfl)
theorem dX5_format_61 : decode cX5_format 61 = .ok (.iload_n 2, 1) := dk_28 (dk_at dksX5_format_2 15 rfl rfl)
theorem dX5_format_62 : decode cX5_format 62 = .ok (.aload_n 0, 1) := dk_42 (dk_at dksX5_format_2 16 rfl rfl)
theorem dX5_format_63 : decode cX5_format 63 = .ok (.iload_n 1, 1) := dk_27 (dk_at dksX5_format_2 17 rfl rfl)
theorem dX5_format_64 : decode cX5_format 64 = .ok (.bipush 9, 2) := dk_16 9 (dk_at dksX5_format_2 18 rfl rfl)
theorem dX5_format_66 : decode cX5_format 66 = .ok (.invokevirtual 106, 3) := dk_182 0 106 (dk_at dksX5_format_2 20 rfl rfl)
theorem dX5_format_69 : decode cX5_format 69 = .ok (.if_icmp .ge 29, 3) := dk_162 0 29 (dk_at dksX5_format_3 0 rfl rfl)
theorem dX5_format_72 : decode cX5_format 72 = .ok (.iload_n 2, 1) := dk_28 (dk_at dksX5_format_3 3 rfl rfl)
theorem dX5_format_73 : decode cX5_format 73 = .ok (.ifCond .le 9, 3) := dk_158 0 9 (dk_at dksX5_format_3 4 rfl rfl)
theorem dX5_format_76 : decode cX5_format 76 = .ok (.aload_n 0, 1) := dk_42 (dk_at dksX5_format_3 7 rfl rfl)
theorem dX5_format_77 : decode cX5_format 77 = .ok (.bipush 44, 2) := dk_16 44 (dk_at dksX5_format_3 8 rfl rfl)
theorem dX5_format_79 : decode cX5_format 79 = .ok (.invokevirtual 297, 3) := dk_182 1 41 (dk_at dksX5_format_3 10 rfl rfl)
theorem dX5_format_82 : decode cX5_format 82 = .ok (.aload_n 0, 1) := dk_42 (dk_at dksX5_format_3 13 rfl rfl)
theorem dX5_format_83 : decode cX5_format 83 = .ok (.aload_n 0, 1) := dk_42 (dk_at dksX5_format_3 14 rfl rfl)
theorem dX5_format_84 : decode cX5_format 84 = .ok (.iload_n 1, 1) := dk_27 (dk_at dksX5_format_3 15 rfl rfl)
theorem dX5_format_85 : decode cX5_format 85 = .ok (.iload_n 2, 1) := dk_28 (dk_at dksX5_format_3 16 rfl rfl)
theorem dX5_format_86 : decode cX5_format 86 = .ok (.invokevirtual 124, 3) := dk_182 0 124 (dk_at dksX5_format_3 17 rfl rfl)
theorem dX5_format_89 : decode cX5_format 89 = .ok (.invokevirtual 300, 3) := dk_182 1 44 (dk_at dksX5_format_3 20 rfl rfl)
theorem dX5_format_92 : decode cX5_format 92 = .ok (.iinc 2 1, 3) := dk_132 2 1 (dk_at dksX5_format_4 0 rfl rfl)
theorem dX5_format_95 : decode cX5_format 95 = .ok (.goto (-34), 3) := dk_167 255 222 (dk_at dksX5_format_4 3 rfl rfl)
theorem dX5_format_98 : decode cX5_format 98 = .ok (.aload_n 0, 1) := dk_42 (dk_at dksX5_format_4 6 rfl rfl)
theorem dX5_format_99 : decode cX5_format 99 = .ok (.iload_n 1, 1) := dk_27 (dk_at dksX5_format_4 7 rfl rfl)
theorem dX5_format_100 : decode cX5_format 100 = .ok (.invokevirtual 143, 3) := dk_182 0 143 (dk_at dksX5_format_4 8 rfl rfl)
theorem dX5_format_103 : decode cX5_format 103 = .ok (.ifCond .eq 9, 3) := dk_153 0 9 (dk_at dksX5_format_4 11 rfl rfl)
theorem dX5_format_106 : decode cX5_format 106 = .ok (.aload_n 0, 1) := dk_42 (dk_at dksX5_format_4 14 rfl rfl)
theorem dX5_format_107 : decode cX5_format 107 = .ok (.bipush 42, 2) := dk_16 42 (dk_at dksX5_format_4 15 rfl rfl)
theorem dX5_format_109 : decode cX5_format 109 = .ok (.invokevirtual 297, 3) := dk_182 1 41 (dk_at dksX5_format_4 17 rfl rfl)
theorem dX5_format_112 : decode cX5_format 112 = .ok (.aload_n 0, 1) := dk_42 (dk_at dksX5_format_4 20 rfl rfl)
theorem dX5_format_113 : decode cX5_format 113 = .ok (.getfield 294, 3) := dk_180 1 38 (dk_at dksX5_format_4 21 rfl rfl)
theorem dX5_format_116 : decode cX5_format 116 = .ok (.ireturn, 1) := dk_172 (dk_at dksX5_format_5 0 rfl rfl)
abbrev cX5_write : ByteArray := prog_21_method_107_code
def yX5_write : MethodName := ⟨RX5, "write", "(I)V"⟩
def dkwX5_write_0 : List UInt8 := [42, 180, 0, 54, 42, 180, 1, 38, 27, 79, 42, 89, 180, 1, 38, 4, 96, 181, 1, 38, 177]
abbrev dktX5_write_0 : List UInt8 := dkwX5_write_0 ++ []
theorem dksX5_write_0 : cX5_write.data.toList.drop 0 = dktX5_write_0 := by decide +kernel
theorem dX5_write_0 : decode cX5_write 0 = .ok (.aload_n 0, 1) := dk_42 (dk_at dksX5_write_0 0 rfl rfl)
theorem dX5_write_1 : decode cX5_write 1 = .ok (.getfield 54, 3) := dk_180 0 54 (dk_at dksX5_write_0 1 rfl rfl)
theorem dX5_write_4 : decode cX5_write 4 = .ok (.aload_n 0, 1) := dk_42 (dk_at dksX5_write_0 4 rfl rfl)
theorem dX5_write_5 : decode cX5_write 5 = .ok (.getfield 294, 3) := dk_180 1 38 (dk_at dksX5_write_0 5 rfl rfl)
theorem dX5_write_8 : decode cX5_write 8 = .ok (.iload_n 1, 1) := dk_27 (dk_at dksX5_write_0 8 rfl rfl)
theorem dX5_write_9 : decode cX5_write 9 = .ok (.iastore, 1) := dk_79 (dk_at dksX5_write_0 9 rfl rfl)
theorem dX5_write_10 : decode cX5_write 10 = .ok (.aload_n 0, 1) := dk_42 (dk_at dksX5_write_0 10 rfl rfl)
theorem dX5_write_11 : decode cX5_write 11 = .ok (.dup, 1) := dk_89 (dk_at dksX5_write_0 11 rfl rfl)
theorem dX5_write_12 : decode cX5_write 12 = .ok (.getfield 294, 3) := dk_180 1 38 (dk_at dksX5_write_0 12 rfl rfl)
theorem dX5_write_15 : decode cX5_write 15 = .ok (.iconst 1, 1) := dk_4 (dk_at dksX5_write_0 15 rfl rfl)
theorem dX5_write_16 : decode cX5_write 16 = .ok (.iadd, 1) := dk_96 (dk_at dksX5_write_0 16 rfl rfl)
theorem dX5_write_17 : decode cX5_write 17 = .ok (.putfield 294, 3) := dk_181 1 38 (dk_at dksX5_write_0 17 rfl rfl)
theorem dX5_write_20 : decode cX5_write 20 = .ok (.return_, 1) := dk_177 (dk_at dksX5_write_0 20 rfl rfl)
abbrev cX5_writeNumber : ByteArray := prog_21_method_108_code
def yX5_writeNumber : MethodName := ⟨RX5, "writeNumber", "(I)V"⟩
def dkwX5_writeNumber_2 : List UInt8 := [167, 255, 234, 177]
abbrev dktX5_writeNumber_2 : List UInt8 := dkwX5_writeNumber_2 ++ []
def dkwX5_writeNumber_1 : List UInt8 := [28, 62, 29, 158, 0, 24, 42, 16, 48, 27, 29, 108, 16, 10, 112, 96, 182, 1, 41, 29, 16, 10, 108, 62]
abbrev dktX5_writeNumber_1 : List UInt8 := dkwX5_writeNumber_1 ++ dktX5_writeNumber_2
def dkwX5_writeNumber_0 : List UInt8 := [27, 16, 99, 164, 0, 8, 16, 100, 167, 0, 15, 27, 16, 9, 164, 0, 8, 16, 10, 167, 0, 4, 4, 61]
abbrev dktX5_writeNumber_0 : List UInt8 := dkwX5_writeNumber_0 ++ dktX5_writeNumber_1
theorem dksX5_writeNumber_0 : cX5_writeNumber.data.toList.drop 0 = dktX5_writeNumber_0 := by decide +kernel
theorem dksX5_writeNumber_1 : cX5_writeNumber.data.toList.drop 24 = dktX5_writeNumber_1 := dk_seg dksX5_writeNumber_0 24 rfl rfl
theorem dksX5_writeNumber_2 : cX5_writeNumber.data.toList.drop 48 = dktX5_writeNumber_2 := dk_seg dksX5_writeNumber_1 24 rfl rfl
theorem dX5_writeNumber_0 : decode cX5_writeNumber 0 = .ok (.iload_n 1, 1) := dk_27 (dk_at dksX5_writeNumber_0 0 rfl rfl)
theorem dX5_writeNumber_1 : decode cX5_writeNumber 1 = .ok (.bipush 99, 2) := dk_16 99 (dk_at dksX5_writeNumber_0 1 rfl rfl)
theorem dX5_writeNumber_3 : decode cX5_writeNumber 3 = .ok (.if_icmp .le 8, 3) := dk_164 0 8 (dk_at dksX5_writeNumber_0 3 rfl rfl)
theorem dX5_writeNumber_6 : decode cX5_writeNumber 6 = .ok (.bipush 100, 2) := dk_16 100 (dk_at dksX5_writeNumber_0 6 rfl rfl)
theorem dX5_writeNumber_8 : decode cX5_writeNumber 8 = .ok (.goto 15, 3) := dk_167 0 15 (dk_at dksX5_writeNumber_0 8 rfl rfl)
theorem dX5_writeNumber_11 : decode cX5_writeNumber 11 = .ok (.iload_n 1, 1) := dk_27 (dk_at dksX5_writeNumber_0 11 rfl rfl)
theorem dX5_writeNumber_12 : decode cX5_writeNumber 12 = .ok (.bipush 9, 2) := dk_16 9 (dk_at dksX5_writeNumber_0 12 rfl rfl)
theorem dX5_writeNumber_14 : decode cX5_writeNumber 14 = .ok (.if_icmp .le 8, 3) := dk_164 0 8 (dk_at dksX5_writeNumber_0 14 rfl rfl)
theorem dX5_writeNumber_17 : decode cX5_writeNumber 17 = .ok (.bipush 10, 2) := dk_16 10 (dk_at dksX5_writeNumber_0 17 rfl rfl)
theorem dX5_writeNumber_19 : decode cX5_writeNumber 19 = .ok (.goto 4, 3) := dk_167 0 4 (dk_at dksX5_writeNumber_0 19 rfl rfl)
theorem dX5_writeNumber_22 : decode cX5_writeNumber 22 = .ok (.iconst 1, 1) := dk_4 (dk_at dksX5_writeNumber_0 22 rfl rfl)
theorem dX5_writeNumber_23 : decode cX5_writeNumber 23 = .ok (.istore_n 2, 1) := dk_61 (dk_at dksX5_writeNumber_0 23 rfl rfl)
theorem dX5_writeNumber_24 : decode cX5_writeNumber 24 = .ok (.iload_n 2, 1) := dk_28 (dk_at dksX5_writeNumber_1 0 rfl rfl)
theorem dX5_writeNumber_25 : decode cX5_writeNumber 25 = .ok (.istore_n 3, 1) := dk_62 (dk_at dksX5_writeNumber_1 1 rfl rfl)
theorem dX5_writeNumber_26 : decode cX5_writeNumber 26 = .ok (.iload_n 3, 1) := dk_29 (dk_at dksX5_writeNumber_1 2 rfl rfl)
theorem dX5_writeNumber_27 : decode cX5_writeNumber 27 = .ok (.ifCond .le 24, 3) := dk_158 0 24 (dk_at dksX5_writeNumber_1 3 rfl rfl)
theorem dX5_writeNumber_30 : decode cX5_writeNumber 30 = .ok (.aload_n 0, 1) := dk_42 (dk_at dksX5_writeNumber_1 6 rfl rfl)
theorem dX5_writeNumber_31 : decode cX5_writeNumber 31 = .ok (.bipush 48, 2) := dk_16 48 (dk_at dksX5_writeNumber_1 7 rfl rfl)
theorem dX5_writeNumber_33 : decode cX5_writeNumber 33 = .ok (.iload_n 1, 1) := dk_27 (dk_at dksX5_writeNumber_1 9 rfl rfl)
theorem dX5_writeNumber_34 : decode cX5_writeNumber 34 = .ok (.iload_n 3, 1) := dk_29 (dk_at dksX5_writeNumber_1 10 rfl rfl)
theorem dX5_writeNumber_35 : decode cX5_writeNumber 35 = .ok (.idiv, 1) := dk_108 (dk_at dksX5_writeNumber_1 11 rfl rfl)
theorem dX5_writeNumber_36 : decode cX5_writeNumber 36 = .ok (.bipush 10, 2) := dk_16 10 (dk_at dksX5_writeNumber_1 12 rfl rfl)
theorem dX5_writeNumber_38 : decode cX5_writeNumber 38 = .ok (.irem, 1) := dk_112 (dk_at dksX5_writeNumber_1 14 rfl rfl)
theorem dX5_writeNumber_39 : decode cX5_writeNumber 39 = .ok (.iadd, 1) := dk_96 (dk_at dksX5_writeNumber_1 15 rfl rfl)
theorem dX5_writeNumber_40 : decode cX5_writeNumber 40 = .ok (.invokevirtual 297, 3) := dk_182 1 41 (dk_at dksX5_writeNumber_1 16 rfl rfl)
theorem dX5_writeNumber_43 : decode cX5_writeNumber 43 = .ok (.iload_n 3, 1) := dk_29 (dk_at dksX5_writeNumber_1 19 rfl rfl)
theorem dX5_writeNumber_44 : decode cX5_writeNumber 44 = .ok (.bipush 10, 2) := dk_16 10 (dk_at dksX5_writeNumber_1 20 rfl rfl)
theorem dX5_writeNumber_46 : decode cX5_writeNumber 46 = .ok (.idiv, 1) := dk_108 (dk_at dksX5_writeNumber_1 22 rfl rfl)
theorem dX5_writeNumber_47 : decode cX5_writeNumber 47 = .ok (.istore_n 3, 1) := dk_62 (dk_at dksX5_writeNumber_1 23 rfl rfl)
theorem dX5_writeNumber_48 : decode cX5_writeNumber 48 = .ok (.goto (-22), 3) := dk_167 255 234 (dk_at dksX5_writeNumber_2 0 rfl rfl)
theorem dX5_writeNumber_51 : decode cX5_writeNumber 51 = .ok (.return_, 1) := dk_177 (dk_at dksX5_writeNumber_2 3 rfl rfl)
abbrev cX5_formattedByte : ByteArray := prog_21_method_110_code
def yX5_formattedByte : MethodName := ⟨RX5, "formattedByte", "(I)I"⟩
def dkwX5_formattedByte_1 : List UInt8 := [46, 167, 0, 4, 2, 172]
abbrev dktX5_formattedByte_1 : List UInt8 := dkwX5_formattedByte_1 ++ []
def dkwX5_formattedByte_0 : List UInt8 := [42, 3, 181, 0, 92, 27, 3, 42, 180, 1, 38, 4, 100, 184, 0, 102, 153, 0, 12, 42, 180, 0, 54, 27]
abbrev dktX5_formattedByte_0 : List UInt8 := dkwX5_formattedByte_0 ++ dktX5_formattedByte_1
theorem dksX5_formattedByte_0 : cX5_formattedByte.data.toList.drop 0 = dktX5_formattedByte_0 := by decide +kernel
theorem dksX5_formattedByte_1 : cX5_formattedByte.data.toList.drop 24 = dktX5_formattedByte_1 := dk_seg dksX5_formattedByte_0 24 rfl rfl
theorem dX5_formattedByte_0 : decode cX5_formattedByte 0 = .ok (.aload_n 0, 1) := dk_42 (dk_at dksX5_formattedByte_0 0 rfl rfl)
theorem dX5_formattedByte_1 : decode cX5_formattedByte 1 = .ok (.iconst 0, 1) := dk_3 (dk_at dksX5_formattedByte_0 1 rfl rfl)
theorem dX5_formattedByte_2 : decode cX5_formattedByte 2 = .ok (.putfield 92, 3) := dk_181 0 92 (dk_at dksX5_formattedByte_0 2 rfl rfl)
theorem dX5_formattedByte_5 : decode cX5_formattedByte 5 = .ok (.iload_n 1, 1) := dk_27 (dk_at dksX5_formattedByte_0 5 rfl rfl)
theorem dX5_formattedByte_6 : decode cX5_formattedByte 6 = .ok (.iconst 0, 1) := dk_3 (dk_at dksX5_formattedByte_0 6 rfl rfl)
theorem dX5_formattedByte_7 : decode cX5_formattedByte 7 = .ok (.aload_n 0, 1) := dk_42 (dk_at dksX5_formattedByte_0 7 rfl rfl)
theorem dX5_formattedByte_8 : decode cX5_formattedByte 8 = .ok (.getfield 294, 3) := dk_180 1 38 (dk_at dksX5_formattedByte_0 8 rfl rfl)
theorem dX5_formattedByte_11 : decode cX5_formattedByte 11 = .ok (.iconst 1, 1) := dk_4 (dk_at dksX5_formattedByte_0 11 rfl rfl)
theorem dX5_formattedByte_12 : decode cX5_formattedByte 12 = .ok (.isub, 1) := dk_100 (dk_at dksX5_formattedByte_0 12 rfl rfl)
theorem dX5_formattedByte_13 : decode cX5_formattedByte 13 = .ok (.invokestatic 102, 3) := dk_184 0 102 (dk_at dksX5_formattedByte_0 13 rfl rfl)
theorem dX5_formattedByte_16 : decode cX5_formattedByte 16 = .ok (.ifCond .eq 12, 3) := dk_153 0 12 (dk_at dksX5_formattedByte_0 16 rfl rfl)
theorem dX5_formattedByte_19 : decode cX5_formattedByte 19 = .ok (.aload_n 0, 1) := dk_42 (dk_at dksX5_formattedByte_0 19 rfl rfl)
theorem dX5_formattedByte_20 : decode cX5_formattedByte 20 = .ok (.getfield 54, 3) := dk_180 0 54 (dk_at dksX5_formattedByte_0 20 rfl rfl)
theorem dX5_formattedByte_23 : decode cX5_formattedByte 23 = .ok (.iload_n 1, 1) := dk_27 (dk_at dksX5_formattedByte_0 23 rfl rfl)
theorem dX5_formattedByte_24 : decode cX5_formattedByte 24 = .ok (.iaload, 1) := dk_46 (dk_at dksX5_formattedByte_1 0 rfl rfl)
theorem dX5_formattedByte_25 : decode cX5_formattedByte 25 = .ok (.goto 4, 3) := dk_167 0 4 (dk_at dksX5_formattedByte_1 1 rfl rfl)
theorem dX5_formattedByte_28 : decode cX5_formattedByte 28 = .ok (.iconst (-1), 1) := dk_2 (dk_at dksX5_formattedByte_1 4 rfl rfl)
theorem dX5_formattedByte_29 : decode cX5_formattedByte 29 = .ok (.ireturn, 1) := dk_172 (dk_at dksX5_formattedByte_1 5 rfl rfl)
abbrev cX5_undoCount : ByteArray := prog_21_method_111_code
def yX5_undoCount : MethodName := ⟨RX5, "undoCount", "()I"⟩
def dkwX5_undoCount_0 : List UInt8 := [42, 3, 181, 0, 92, 42, 180, 0, 254, 172]
abbrev dktX5_undoCount_0 : List UInt8 := dkwX5_undoCount_0 ++ []
theorem dksX5_undoCount_0 : cX5_undoCount.data.toList.drop 0 = dktX5_undoCount_0 := by decide +kernel
theorem dX5_undoCount_0 : decode cX5_undoCount 0 = .ok (.aload_n 0, 1) := dk_42 (dk_at dksX5_undoCount_0 0 rfl rfl)
theorem dX5_undoCount_1 : decode cX5_undoCount 1 = .ok (.iconst 0, 1) := dk_3 (dk_at dksX5_undoCount_0 1 rfl rfl)
theorem dX5_undoCount_2 : decode cX5_undoCount 2 = .ok (.putfield 92, 3) := dk_181 0 92 (dk_at dksX5_undoCount_0 2 rfl rfl)
theorem dX5_undoCount_5 : decode cX5_undoCount 5 = .ok (.aload_n 0, 1) := dk_42 (dk_at dksX5_undoCount_0 5 rfl rfl)
theorem dX5_undoCount_6 : decode cX5_undoCount 6 = .ok (.getfield 254, 3) := dk_180 0 254 (dk_at dksX5_undoCount_0 6 rfl rfl)
theorem dX5_undoCount_9 : decode cX5_undoCount 9 = .ok (.ireturn, 1) := dk_172 (dk_at dksX5_undoCount_0 9 rfl rfl)
abbrev cX5_undo : ByteArray := prog_21_method_112_code
def yX5_undo : MethodName := ⟨RX5, "undo", "()I"⟩
def dkwX5_undo_2 : List UInt8 := [184, 0, 250, 42, 180, 0, 254, 172]
abbrev dktX5_undo_2 : List UInt8 := dkwX5_undo_2 ++ []
def dkwX5_undo_1 : List UInt8 := [42, 180, 0, 25, 5, 92, 46, 4, 96, 79, 42, 180, 0, 22, 42, 180, 0, 254, 42, 180, 0, 9, 3]
abbrev dktX5_undo_1 : List UInt8 := dkwX5_undo_1 ++ dktX5_undo_2
def dkwX5_undo_0 : List UInt8 := [42, 3, 181, 0, 92, 42, 180, 0, 254, 154, 0, 5, 2, 172, 42, 89, 180, 0, 254, 4, 100, 181, 0, 254]
abbrev dktX5_undo_0 : List UInt8 := dkwX5_undo_0 ++ dktX5_undo_1
theorem dksX5_undo_0 : cX5_undo.data.toList.drop 0 = dktX5_undo_0 := by decide +kernel
theorem dksX5_undo_1 : cX5_undo.data.toList.drop 24 = dktX5_undo_1 := dk_seg dksX5_undo_0 24 rfl rfl
theorem dksX5_undo_2 : cX5_undo.data.toList.drop 47 = dktX5_undo_2 := dk_seg dksX5_undo_1 23 rfl rfl
theorem dX5_undo_0 : decode cX5_undo 0 = .ok (.aload_n 0, 1) := dk_42 (dk_at dksX5_undo_0 0 rfl rfl)
theorem dX5_undo_1 : decode cX5_undo 1 = .ok (.iconst 0, 1) := dk_3 (dk_at dksX5_undo_0 1 rfl rfl)
theorem dX5_undo_2 : decode cX5_undo 2 = .ok (.putfield 92, 3) := dk_181 0 92 (dk_at dksX5_undo_0 2 rfl rfl)
theorem dX5_undo_5 : decode cX5_undo 5 = .ok (.aload_n 0, 1) := dk_42 (dk_at dksX5_undo_0 5 rfl rfl)
theorem dX5_undo_6 : decode cX5_undo 6 = .ok (.getfield 254, 3) := dk_180 0 254 (dk_at dksX5_undo_0 6 rfl rfl)
theorem dX5_undo_9 : decode cX5_undo 9 = .ok (.ifCond .ne 5, 3) := dk_154 0 5 (dk_at dksX5_undo_0 9 rfl rfl)
theorem dX5_undo_12 : decode cX5_undo 12 = .ok (.iconst (-1), 1) := dk_2 (dk_at dksX5_undo_0 12 rfl rfl)
theorem dX5_undo_13 : decode cX5_undo 13 = .ok (.ireturn, 1) := dk_172 (dk_at dksX5_undo_0 13 rfl rfl)
theorem dX5_undo_14 : decode cX5_undo 14 = .ok (.aload_n 0, 1) := dk_42 (dk_at dksX5_undo_0 14 rfl rfl)
theorem dX5_undo_15 : decode cX5_undo 15 = .ok (.dup, 1) := dk_89 (dk_at dksX5_undo_0 15 rfl rfl)
theorem dX5_undo_16 : decode cX5_undo 16 = .ok (.getfield 254, 3) := dk_180 0 254 (dk_at dksX5_undo_0 16 rfl rfl)
theorem dX5_undo_19 : decode cX5_undo 19 = .ok (.iconst 1, 1) := dk_4 (dk_at dksX5_undo_0 19 rfl rfl)
theorem dX5_undo_20 : decode cX5_undo 20 = .ok (.isub, 1) := dk_100 (dk_at dksX5_undo_0 20 rfl rfl)
theorem dX5_undo_21 : decode cX5_undo 21 = .ok (.putfield 254, 3) := dk_181 0 254 (dk_at dksX5_undo_0 21 rfl rfl)
theorem dX5_undo_24 : decode cX5_undo 24 = .ok (.aload_n 0, 1) := dk_42 (dk_at dksX5_undo_1 0 rfl rfl)
theorem dX5_undo_25 : decode cX5_undo 25 = .ok (.getfield 25, 3) := dk_180 0 25 (dk_at dksX5_undo_1 1 rfl rfl)
theorem dX5_undo_28 : decode cX5_undo 28 = .ok (.iconst 2, 1) := dk_5 (dk_at dksX5_undo_1 4 rfl rfl)
theorem dX5_undo_29 : decode cX5_undo 29 = .ok (.dup2, 1) := dk_92 (dk_at dksX5_undo_1 5 rfl rfl)
theorem dX5_undo_30 : decode cX5_undo 30 = .ok (.iaload, 1) := dk_46 (dk_at dksX5_undo_1 6 rfl rfl)
theorem dX5_undo_31 : decode cX5_undo 31 = .ok (.iconst 1, 1) := dk_4 (dk_at dksX5_undo_1 7 rfl rfl)
theorem dX5_undo_32 : decode cX5_undo 32 = .ok (.iadd, 1) := dk_96 (dk_at dksX5_undo_1 8 rfl rfl)
theorem dX5_undo_33 : decode cX5_undo 33 = .ok (.iastore, 1) := dk_79 (dk_at dksX5_undo_1 9 rfl rfl)
theorem dX5_undo_34 : decode cX5_undo 34 = .ok (.aload_n 0, 1) := dk_42 (dk_at dksX5_undo_1 10 rfl rfl)
theorem dX5_undo_35 : decode cX5_undo 35 = .ok (.getfield 22, 3) := dk_180 0 22 (dk_at dksX5_undo_1 11 rfl rfl)
theorem dX5_undo_38 : decode cX5_undo 38 = .ok (.aload_n 0, 1) := dk_42 (dk_at dksX5_undo_1 14 rfl rfl)
theorem dX5_undo_39 : decode cX5_undo 39 = .ok (.getfield 254, 3) := dk_180 0 254 (dk_at dksX5_undo_1 15 rfl rfl)
theorem dX5_undo_42 : decode cX5_undo 42 = .ok (.aload_n 0, 1) := dk_42 (dk_at dksX5_undo_1 18 rfl rfl)
theorem dX5_undo_43 : decode cX5_undo 43 = .ok (.getfield 9, 3) := dk_180 0 9 (dk_at dksX5_undo_1 19 rfl rfl)
theorem dX5_undo_46 : decode cX5_undo 46 = .ok (.iconst 0, 1) := dk_3 (dk_at dksX5_undo_1 22 rfl rfl)
theorem dX5_undo_47 : decode cX5_undo 47 = .ok (.invokestatic 250, 3) := dk_184 0 250 (dk_at dksX5_undo_2 0 rfl rfl)
theorem dX5_undo_50 : decode cX5_undo 50 = .ok (.aload_n 0, 1) := dk_42 (dk_at dksX5_undo_2 3 rfl rfl)
theorem dX5_undo_51 : decode cX5_undo 51 = .ok (.getfield 254, 3) := dk_180 0 254 (dk_at dksX5_undo_2 4 rfl rfl)
theorem dX5_undo_54 : decode cX5_undo 54 = .ok (.ireturn, 1) := dk_172 (dk_at dksX5_undo_2 7 rfl rfl)
abbrev cX5_saveSnapshot : ByteArray := prog_21_method_113_code
def yX5_saveSnapshot : MethodName := ⟨RX5, "saveSnapshot", "()V"⟩
def dkwX5_saveSnapshot_0 : List UInt8 := [42, 3, 181, 0, 92, 42, 180, 0, 9, 3, 42, 180, 0, 19, 3, 184, 0, 250, 42, 4, 181, 1, 47, 177]
abbrev dktX5_saveSnapshot_0 : List UInt8 := dkwX5_saveSnapshot_0 ++ []
theorem dksX5_saveSnapshot_0 : cX5_saveSnapshot.data.toList.drop 0 = dktX5_saveSnapshot_0 := by decide +kernel
theorem dX5_saveSnapshot_0 : decode cX5_saveSnapshot 0 = .ok (.aload_n 0, 1) := dk_42 (dk_at dksX5_saveSnapshot_0 0 rfl rfl)
theorem dX5_saveSnapshot_1 : decode cX5_saveSnapshot 1 = .ok (.iconst 0, 1) := dk_3 (dk_at dksX5_saveSnapshot_0 1 rfl rfl)
theorem dX5_saveSnapshot_2 : decode cX5_saveSnapshot 2 = .ok (.putfield 92, 3) := dk_181 0 92 (dk_at dksX5_saveSnapshot_0 2 rfl rfl)
theorem dX5_saveSnapshot_5 : decode cX5_saveSnapshot 5 = .ok (.aload_n 0, 1) := dk_42 (dk_at dksX5_saveSnapshot_0 5 rfl rfl)
theorem dX5_saveSnapshot_6 : decode cX5_saveSnapshot 6 = .ok (.getfield 9, 3) := dk_180 0 9 (dk_at dksX5_saveSnapshot_0 6 rfl rfl)
theorem dX5_saveSnapshot_9 : decode cX5_saveSnapshot 9 = .ok (.iconst 0, 1) := dk_3 (dk_at dksX5_saveSnapshot_0 9 rfl rfl)
theorem dX5_saveSnapshot_10 : decode cX5_saveSnapshot 10 = .ok (.aload_n 0, 1) := dk_42 (dk_at dksX5_saveSnapshot_0 10 rfl rfl)
theorem dX5_saveSnapshot_11 : decode cX5_saveSnapshot 11 = .ok (.getfield 19, 3) := dk_180 0 19 (dk_at dksX5_saveSnapshot_0 11 rfl rfl)
theorem dX5_saveSnapshot_14 : decode cX5_saveSnapshot 14 = .ok (.iconst 0, 1) := dk_3 (dk_at dksX5_saveSnapshot_0 14 rfl rfl)
theorem dX5_saveSnapshot_15 : decode cX5_saveSnapshot 15 = .ok (.invokestatic 250, 3) := dk_184 0 250 (dk_at dksX5_saveSnapshot_0 15 rfl rfl)
theorem dX5_saveSnapshot_18 : decode cX5_saveSnapshot 18 = .ok (.aload_n 0, 1) := dk_42 (dk_at dksX5_saveSnapshot_0 18 rfl rfl)
theorem dX5_saveSnapshot_19 : decode cX5_saveSnapshot 19 = .ok (.iconst 1, 1) := dk_4 (dk_at dksX5_saveSnapshot_0 19 rfl rfl)
theorem dX5_saveSnapshot_20 : decode cX5_saveSnapshot 20 = .ok (.putfield 303, 3) := dk_181 1 47 (dk_at dksX5_saveSnapshot_0 20 rfl rfl)
theorem dX5_saveSnapshot_23 : decode cX5_saveSnapshot 23 = .ok (.return_, 1) := dk_177 (dk_at dksX5_saveSnapshot_0 23 rfl rfl)
abbrev cX5_restoreSnapshot : ByteArray := prog_21_method_114_code
def yX5_restoreSnapshot : MethodName := ⟨RX5, "restoreSnapshot", "()Z"⟩
def dkwX5_restoreSnapshot_1 : List UInt8 := [184, 0, 250, 42, 3, 181, 0, 254, 4, 172]
abbrev dktX5_restoreSnapshot_1 : List UInt8 := dkwX5_restoreSnapshot_1 ++ []
def dkwX5_restoreSnapshot_0 : List UInt8 := [42, 3, 181, 0, 92, 42, 180, 1, 47, 154, 0, 5, 3, 172, 42, 180, 0, 19, 3, 42, 180, 0, 9, 3]
abbrev dktX5_restoreSnapshot_0 : List UInt8 := dkwX5_restoreSnapshot_0 ++ dktX5_restoreSnapshot_1
theorem dksX5_restoreSnapshot_0 : cX5_restoreSnapshot.data.toList.drop 0 = dktX5_restoreSnapshot_0 := by decide +kernel
theorem dksX5_restoreSnapshot_1 : cX5_restoreSnapshot.data.toList.drop 24 = dktX5_restoreSnapshot_1 := dk_seg dksX5_restoreSnapshot_0 24 rfl rfl
theorem dX5_restoreSnapshot_0 : decode cX5_restoreSnapshot 0 = .ok (.aload_n 0, 1) := dk_42 (dk_at dksX5_restoreSnapshot_0 0 rfl rfl)
theorem dX5_restoreSnapshot_1 : decode cX5_restoreSnapshot 1 = .ok (.iconst 0, 1) := dk_3 (dk_at dksX5_restoreSnapshot_0 1 rfl rfl)
theorem dX5_restoreSnapshot_2 : decode cX5_restoreSnapshot 2 = .ok (.putfield 92, 3) := dk_181 0 92 (dk_at dksX5_restoreSnapshot_0 2 rfl rfl)
theorem dX5_restoreSnapshot_5 : decode cX5_restoreSnapshot 5 = .ok (.aload_n 0, 1) := dk_42 (dk_at dksX5_restoreSnapshot_0 5 rfl rfl)
theorem dX5_restoreSnapshot_6 : decode cX5_restoreSnapshot 6 = .ok (.getfield 303, 3) := dk_180 1 47 (dk_at dksX5_restoreSnapshot_0 6 rfl rfl)
theorem dX5_restoreSnapshot_9 : decode cX5_restoreSnapshot 9 = .ok (.ifCond .ne 5, 3) := dk_154 0 5 (dk_at dksX5_restoreSnapshot_0 9 rfl rfl)
theorem dX5_restoreSnapshot_12 : decode cX5_restoreSnapshot 12 = .ok (.iconst 0, 1) := dk_3 (dk_at dksX5_restoreSnapshot_0 12 rfl rfl)
theorem dX5_restoreSnapshot_13 : decode cX5_restoreSnapshot 13 = .ok (.ireturn, 1) := dk_172 (dk_at dksX5_restoreSnapshot_0 13 rfl rfl)
theorem dX5_restoreSnapshot_14 : decode cX5_restoreSnapshot 14 = .ok (.aload_n 0, 1) := dk_42 (dk_at dksX5_restoreSnapshot_0 14 rfl rfl)
theorem dX5_restoreSnapshot_15 : decode cX5_restoreSnapshot 15 = .ok (.getfield 19, 3) := dk_180 0 19 (dk_at dksX5_restoreSnapshot_0 15 rfl rfl)
theorem dX5_restoreSnapshot_18 : decode cX5_restoreSnapshot 18 = .ok (.iconst 0, 1) := dk_3 (dk_at dksX5_restoreSnapshot_0 18 rfl rfl)
theorem dX5_restoreSnapshot_19 : decode cX5_restoreSnapshot 19 = .ok (.aload_n 0, 1) := dk_42 (dk_at dksX5_restoreSnapshot_0 19 rfl rfl)
theorem dX5_restoreSnapshot_20 : decode cX5_restoreSnapshot 20 = .ok (.getfield 9, 3) := dk_180 0 9 (dk_at dksX5_restoreSnapshot_0 20 rfl rfl)
theorem dX5_restoreSnapshot_23 : decode cX5_restoreSnapshot 23 = .ok (.iconst 0, 1) := dk_3 (dk_at dksX5_restoreSnapshot_0 23 rfl rfl)
theorem dX5_restoreSnapshot_24 : decode cX5_restoreSnapshot 24 = .ok (.invokestatic 250, 3) := dk_184 0 250 (dk_at dksX5_restoreSnapshot_1 0 rfl rfl)
theorem dX5_restoreSnapshot_27 : decode cX5_restoreSnapshot 27 = .ok (.aload_n 0, 1) := dk_42 (dk_at dksX5_restoreSnapshot_1 3 rfl rfl)
theorem dX5_restoreSnapshot_28 : decode cX5_restoreSnapshot 28 = .ok (.iconst 0, 1) := dk_3 (dk_at dksX5_restoreSnapshot_1 4 rfl rfl)
theorem dX5_restoreSnapshot_29 : decode cX5_restoreSnapshot 29 = .ok (.putfield 254, 3) := dk_181 0 254 (dk_at dksX5_restoreSnapshot_1 5 rfl rfl)
theorem dX5_restoreSnapshot_32 : decode cX5_restoreSnapshot 32 = .ok (.iconst 1, 1) := dk_4 (dk_at dksX5_restoreSnapshot_1 8 rfl rfl)
theorem dX5_restoreSnapshot_33 : decode cX5_restoreSnapshot 33 = .ok (.ireturn, 1) := dk_172 (dk_at dksX5_restoreSnapshot_1 9 rfl rfl)
abbrev cX5_feed : ByteArray := prog_21_method_115_code
def yX5_feed : MethodName := ⟨RX5, "feed", "(IIIII)I"⟩
def dkwX5_feed_5 : List UInt8 := [167, 255, 162, 42, 180, 1, 51, 172]
abbrev dktX5_feed_5 : List UInt8 := dkwX5_feed_5 ++ []
def dkwX5_feed_4 : List UInt8 := [112, 104, 100, 122, 17, 0, 255, 126, 79, 42, 89, 180, 1, 51, 4, 96, 181, 1, 51, 132, 6, 1]
abbrev dktX5_feed_4 : List UInt8 := dkwX5_feed_4 ++ dktX5_feed_5
def dkwX5_feed_3 : List UInt8 := [167, 0, 5, 21, 5, 54, 7, 42, 180, 0, 57, 42, 180, 1, 51, 21, 7, 16, 24, 16, 8, 21, 6, 7]
abbrev dktX5_feed_3 : List UInt8 := dkwX5_feed_3 ++ dktX5_feed_4
def dkwX5_feed_2 : List UInt8 := [28, 167, 0, 28, 21, 6, 16, 12, 162, 0, 7, 29, 167, 0, 17, 21, 6, 16, 16, 162, 0, 8, 21, 4]
abbrev dktX5_feed_2 : List UInt8 := dkwX5_feed_2 ++ dktX5_feed_3
def dkwX5_feed_1 : List UInt8 := [21, 6, 16, 20, 162, 0, 93, 21, 6, 7, 162, 0, 7, 27, 167, 0, 39, 21, 6, 16, 8, 162, 0, 7]
abbrev dktX5_feed_1 : List UInt8 := dkwX5_feed_1 ++ dktX5_feed_2
def dkwX5_feed_0 : List UInt8 := [42, 3, 181, 0, 92, 42, 180, 1, 51, 16, 20, 96, 17, 2, 188, 164, 0, 5, 2, 172, 3, 54, 6]
abbrev dktX5_feed_0 : List UInt8 := dkwX5_feed_0 ++ dktX5_feed_1
theorem dksX5_feed_0 : cX5_feed.data.toList.drop 0 = dktX5_feed_0 := by decide +kernel
theorem dksX5_feed_1 : cX5_feed.data.toList.drop 23 = dktX5_feed_1 := dk_seg dksX5_feed_0 23 rfl rfl
theorem dksX5_feed_2 : cX5_feed.data.toList.drop 47 = dktX5_feed_2 := dk_seg dksX5_feed_1 24 rfl rfl
theorem dksX5_feed_3 : cX5_feed.data.toList.drop 71 = dktX5_feed_3 := dk_seg dksX5_feed_2 24 rfl rfl
theorem dksX5_feed_4 : cX5_feed.data.toList.drop 95 = dktX5_feed_4 := dk_seg dksX5_feed_3 24 rfl rfl
theorem dksX5_feed_5 : cX5_feed.data.toList.drop 117 = dktX5_feed_5 := dk_seg dksX5_feed_4 22 rfl rfl
theorem dX5_feed_0 : decode cX5_feed 0 = .ok (.aload_n 0, 1) := dk_42 (dk_at dksX5_feed_0 0 rfl rfl)
theorem dX5_feed_1 : decode cX5_feed 1 = .ok (.iconst 0, 1) := dk_3 (dk_at dksX5_feed_0 1 rfl rfl)
theorem dX5_feed_2 : decode cX5_feed 2 = .ok (.putfield 92, 3) := dk_181 0 92 (dk_at dksX5_feed_0 2 rfl rfl)
theorem dX5_feed_5 : decode cX5_feed 5 = .ok (.aload_n 0, 1) := dk_42 (dk_at dksX5_feed_0 5 rfl rfl)
theorem dX5_feed_6 : decode cX5_feed 6 = .ok (.getfield 307, 3) := dk_180 1 51 (dk_at dksX5_feed_0 6 rfl rfl)
theorem dX5_feed_9 : decode cX5_feed 9 = .ok (.bipush 20, 2) := dk_16 20 (dk_at dksX5_feed_0 9 rfl rfl)
theorem dX5_feed_11 : decode cX5_feed 11 = .ok (.iadd, 1) := dk_96 (dk_at dksX5_feed_0 11 rfl rfl)
theorem dX5_feed_12 : decode cX5_feed 12 = .ok (.sipush 700, 3) := dk_17 2 188 (dk_at dksX5_feed_0 12 rfl rfl)
theorem dX5_feed_15 : decode cX5_feed 15 = .ok (.if_icmp .le 5, 3) := dk_164 0 5 (dk_at dksX5_feed_0 15 rfl rfl)
theorem dX5_feed_18 : decode cX5_feed 18 = .ok (.iconst (-1), 1) := dk_2 (dk_at dksX5_feed_0 18 rfl rfl)
theorem dX5_feed_19 : decode cX5_feed 19 = .ok (.ireturn, 1) := dk_172 (dk_at dksX5_feed_0 19 rfl rfl)
theorem dX5_feed_20 : decode cX5_feed 20 = .ok (.iconst 0, 1) := dk_3 (dk_at dksX5_feed_0 20 rfl rfl)
theorem dX5_feed_21 : decode cX5_feed 21 = .ok (.istore 6, 2) := dk_54 6 (dk_at dksX5_feed_0 21 rfl rfl)
theorem dX5_feed_23 : decode cX5_feed 23 = .ok (.iload 6, 2) := dk_21 6 (dk_at dksX5_feed_1 0 rfl rfl)
theorem dX5_feed_25 : decode cX5_feed 25 = .ok (.bipush 20, 2) := dk_16 20 (dk_at dksX5_feed_1 2 rfl rfl)
theorem dX5_feed_27 : decode cX5_feed 27 = .ok (.if_icmp .ge 93, 3) := dk_162 0 93 (dk_at dksX5_feed_1 4 rfl rfl)
theorem dX5_feed_30 : decode cX5_feed 30 = .ok (.iload 6, 2) := dk_21 6 (dk_at dksX5_feed_1 7 rfl rfl)
theorem dX5_feed_32 : decode cX5_feed 32 = .ok (.iconst 4, 1) := dk_7 (dk_at dksX5_feed_1 9 rfl rfl)
theorem dX5_feed_33 : decode cX5_feed 33 = .ok (.if_icmp .ge 7, 3) := dk_162 0 7 (dk_at dksX5_feed_1 10 rfl rfl)
theorem dX5_feed_36 : decode cX5_feed 36 = .ok (.iload_n 1, 1) := dk_27 (dk_at dksX5_feed_1 13 rfl rfl)
theorem dX5_feed_37 : decode cX5_feed 37 = .ok (.goto 39, 3) := dk_167 0 39 (dk_at dksX5_feed_1 14 rfl rfl)
theorem dX5_feed_40 : decode cX5_feed 40 = .ok (.iload 6, 2) := dk_21 6 (dk_at dksX5_feed_1 17 rfl rfl)
theorem dX5_feed_42 : decode cX5_feed 42 = .ok (.bipush 8, 2) := dk_16 8 (dk_at dksX5_feed_1 19 rfl rfl)
theorem dX5_feed_44 : decode cX5_feed 44 = .ok (.if_icmp .ge 7, 3) := dk_162 0 7 (dk_at dksX5_feed_1 21 rfl rfl)
theorem dX5_feed_47 : decode cX5_feed 47 = .ok (.iload_n 2, 1) := dk_28 (dk_at dksX5_feed_2 0 rfl rfl)
theorem dX5_feed_48 : decode cX5_feed 48 = .ok (.goto 28, 3) := dk_167 0 28 (dk_at dksX5_feed_2 1 rfl rfl)
theorem dX5_feed_51 : decode cX5_feed 51 = .ok (.iload 6, 2) := dk_21 6 (dk_at dksX5_feed_2 4 rfl rfl)
theorem dX5_feed_53 : decode cX5_feed 53 = .ok (.bipush 12, 2) := dk_16 12 (dk_at dksX5_feed_2 6 rfl rfl)
theorem dX5_feed_55 : decode cX5_feed 55 = .ok (.if_icmp .ge 7, 3) := dk_162 0 7 (dk_at dksX5_feed_2 8 rfl rfl)
theorem dX5_feed_58 : decode cX5_feed 58 = .ok (.iload_n 3, 1) := dk_29 (dk_at dksX5_feed_2 11 rfl rfl)
theorem dX5_feed_59 : decode cX5_feed 59 = .ok (.goto 17, 3) := dk_167 0 17 (dk_at dksX5_feed_2 12 rfl rfl)
theorem dX5_feed_62 : decode cX5_feed 62 = .ok (.iload 6, 2) := dk_21 6 (dk_at dksX5_feed_2 15 rfl rfl)
theorem dX5_feed_64 : decode cX5_feed 64 = .ok (.bipush 16, 2) := dk_16 16 (dk_at dksX5_feed_2 17 rfl rfl)
theorem dX5_feed_66 : decode cX5_feed 66 = .ok (.if_icmp .ge 8, 3) := dk_162 0 8 (dk_at dksX5_feed_2 19 rfl rfl)
theorem dX5_feed_69 : decode cX5_feed 69 = .ok (.iload 4, 2) := dk_21 4 (dk_at dksX5_feed_2 22 rfl rfl)
theorem dX5_feed_71 : decode cX5_feed 71 = .ok (.goto 5, 3) := dk_167 0 5 (dk_at dksX5_feed_3 0 rfl rfl)
theorem dX5_feed_74 : decode cX5_feed 74 = .ok (.iload 5, 2) := dk_21 5 (dk_at dksX5_feed_3 3 rfl rfl)
theorem dX5_feed_76 : decode cX5_feed 76 = .ok (.istore 7, 2) := dk_54 7 (dk_at dksX5_feed_3 5 rfl rfl)
theorem dX5_feed_78 : decode cX5_feed 78 = .ok (.aload_n 0, 1) := dk_42 (dk_at dksX5_feed_3 7 rfl rfl)
theorem dX5_feed_79 : decode cX5_feed 79 = .ok (.getfield 57, 3) := dk_180 0 57 (dk_at dksX5_feed_3 8 rfl rfl)
theorem dX5_feed_82 : decode cX5_feed 82 = .ok (.aload_n 0, 1) := dk_42 (dk_at dksX5_feed_3 11 rfl rfl)
theorem dX5_feed_83 : decode cX5_feed 83 = .ok (.getfield 307, 3) := dk_180 1 51 (dk_at dksX5_feed_3 12 rfl rfl)
theorem dX5_feed_86 : decode cX5_feed 86 = .ok (.iload 7, 2) := dk_21 7 (dk_at dksX5_feed_3 15 rfl rfl)
theorem dX5_feed_88 : decode cX5_feed 88 = .ok (.bipush 24, 2) := dk_16 24 (dk_at dksX5_feed_3 17 rfl rfl)
theorem dX5_feed_90 : decode cX5_feed 90 = .ok (.bipush 8, 2) := dk_16 8 (dk_at dksX5_feed_3 19 rfl rfl)
theorem dX5_feed_92 : decode cX5_feed 92 = .ok (.iload 6, 2) := dk_21 6 (dk_at dksX5_feed_3 21 rfl rfl)
theorem dX5_feed_94 : decode cX5_feed 94 = .ok (.iconst 4, 1) := dk_7 (dk_at dksX5_feed_3 23 rfl rfl)
theorem dX5_feed_95 : decode cX5_feed 95 = .ok (.irem, 1) := dk_112 (dk_at dksX5_feed_4 0 rfl rfl)
theorem dX5_feed_96 : decode cX5_feed 96 = .ok (.imul, 1) := dk_104 (dk_at dksX5_feed_4 1 rfl rfl)
theorem dX5_feed_97 : decode cX5_feed 97 = .ok (.isub, 1) := dk_100 (dk_at dksX5_feed_4 2 rfl rfl)
theorem dX5_feed_98 : decode cX5_feed 98 = .ok (.ishr, 1) := dk_122 (dk_at dksX5_feed_4 3 rfl rfl)
theorem dX5_feed_99 : decode cX5_feed 99 = .ok (.sipush 255, 3) := dk_17 0 255 (dk_at dksX5_feed_4 4 rfl rfl)
theorem dX5_feed_102 : decode cX5_feed 102 = .ok (.iand, 1) := dk_126 (dk_at dksX5_feed_4 7 rfl rfl)
theorem dX5_feed_103 : decode cX5_feed 103 = .ok (.iastore, 1) := dk_79 (dk_at dksX5_feed_4 8 rfl rfl)
theorem dX5_feed_104 : decode cX5_feed 104 = .ok (.aload_n 0, 1) := dk_42 (dk_at dksX5_feed_4 9 rfl rfl)
theorem dX5_feed_105 : decode cX5_feed 105 = .ok (.dup, 1) := dk_89 (dk_at dksX5_feed_4 10 rfl rfl)
theorem dX5_feed_106 : decode cX5_feed 106 = .ok (.getfield 307, 3) := dk_180 1 51 (dk_at dksX5_feed_4 11 rfl rfl)
theorem dX5_feed_109 : decode cX5_feed 109 = .ok (.iconst 1, 1) := dk_4 (dk_at dksX5_feed_4 14 rfl rfl)
theorem dX5_feed_110 : decode cX5_feed 110 = .ok (.iadd, 1) := dk_96 (dk_at dksX5_feed_4 15 rfl rfl)
theorem dX5_feed_111 : decode cX5_feed 111 = .ok (.putfield 307, 3) := dk_181 1 51 (dk_at dksX5_feed_4 16 rfl rfl)
theorem dX5_feed_114 : decode cX5_feed 114 = .ok (.iinc 6 1, 3) := dk_132 6 1 (dk_at dksX5_feed_4 19 rfl rfl)
theorem dX5_feed_117 : decode cX5_feed 117 = .ok (.goto (-94), 3) := dk_167 255 162 (dk_at dksX5_feed_5 0 rfl rfl)
theorem dX5_feed_120 : decode cX5_feed 120 = .ok (.aload_n 0, 1) := dk_42 (dk_at dksX5_feed_5 3 rfl rfl)
theorem dX5_feed_121 : decode cX5_feed 121 = .ok (.getfield 307, 3) := dk_180 1 51 (dk_at dksX5_feed_5 4 rfl rfl)
theorem dX5_feed_124 : decode cX5_feed 124 = .ok (.ireturn, 1) := dk_172 (dk_at dksX5_feed_5 7 rfl rfl)
abbrev cX5_errorPosition : ByteArray := prog_21_method_116_code
def yX5_errorPosition : MethodName := ⟨RX5, "errorPosition", "()I"⟩
def dkwX5_errorPosition_0 : List UInt8 := [42, 3, 181, 0, 92, 42, 180, 0, 60, 172]
abbrev dktX5_errorPosition_0 : List UInt8 := dkwX5_errorPosition_0 ++ []
theorem dksX5_errorPosition_0 : cX5_errorPosition.data.toList.drop 0 = dktX5_errorPosition_0 := by decide +kernel
theorem dX5_errorPosition_0 : decode cX5_errorPosition 0 = .ok (.aload_n 0, 1) := dk_42 (dk_at dksX5_errorPosition_0 0 rfl rfl)
theorem dX5_errorPosition_1 : decode cX5_errorPosition 1 = .ok (.iconst 0, 1) := dk_3 (dk_at dksX5_errorPosition_0 1 rfl rfl)
theorem dX5_errorPosition_2 : decode cX5_errorPosition 2 = .ok (.putfield 92, 3) := dk_181 0 92 (dk_at dksX5_errorPosition_0 2 rfl rfl)
theorem dX5_errorPosition_5 : decode cX5_errorPosition 5 = .ok (.aload_n 0, 1) := dk_42 (dk_at dksX5_errorPosition_0 5 rfl rfl)
theorem dX5_errorPosition_6 : decode cX5_errorPosition 6 = .ok (.getfield 60, 3) := dk_180 0 60 (dk_at dksX5_errorPosition_0 6 rfl rfl)
theorem dX5_errorPosition_9 : decode cX5_errorPosition 9 = .ok (.ireturn, 1) := dk_172 (dk_at dksX5_errorPosition_0 9 rfl rfl)
abbrev cX5_load : ByteArray := prog_21_method_135_code
def yX5_load : MethodName := ⟨RX5, "load", "(I)I"⟩
def dkwX5_load_3 : List UInt8 := [3, 184, 0, 250, 42, 3, 181, 0, 254, 42, 3, 181, 1, 47, 42, 180, 0, 51, 8, 46, 172]
abbrev dktX5_load_3 : List UInt8 := dkwX5_load_3 ++ []
def dkwX5_load_2 : List UInt8 := [42, 182, 1, 140, 153, 0, 11, 16, 246, 42, 180, 1, 75, 100, 172, 42, 180, 0, 13, 3, 42, 180, 0, 9]
abbrev dktX5_load_2 : List UInt8 := dkwX5_load_2 ++ dktX5_load_3
def dkwX5_load_1 : List UInt8 := [27, 182, 1, 134, 42, 42, 180, 0, 13, 181, 0, 51, 42, 182, 1, 137, 42, 42, 180, 0, 9, 181, 0, 51]
abbrev dktX5_load_1 : List UInt8 := dkwX5_load_1 ++ dktX5_load_2
def dkwX5_load_0 : List UInt8 := [42, 3, 181, 0, 92, 27, 3, 42, 180, 1, 51, 184, 0, 102, 154, 0, 9, 42, 4, 182, 0, 193, 172, 42]
abbrev dktX5_load_0 : List UInt8 := dkwX5_load_0 ++ dktX5_load_1
theorem dksX5_load_0 : cX5_load.data.toList.drop 0 = dktX5_load_0 := by decide +kernel
theorem dksX5_load_1 : cX5_load.data.toList.drop 24 = dktX5_load_1 := dk_seg dksX5_load_0 24 rfl rfl
theorem dksX5_load_2 : cX5_load.data.toList.drop 48 = dktX5_load_2 := dk_seg dksX5_load_1 24 rfl rfl
theorem dksX5_load_3 : cX5_load.data.toList.drop 72 = dktX5_load_3 := dk_seg dksX5_load_2 24 rfl rfl
theorem dX5_load_0 : decode cX5_load 0 = .ok (.aload_n 0, 1) := dk_42 (dk_at dksX5_load_0 0 rfl rfl)
theorem dX5_load_1 : decode cX5_load 1 = .ok (.iconst 0, 1) := dk_3 (dk_at dksX5_load_0 1 rfl rfl)
theorem dX5_load_2 : decode cX5_load 2 = .ok (.putfield 92, 3) := dk_181 0 92 (dk_at dksX5_load_0 2 rfl rfl)
theorem dX5_load_5 : decode cX5_load 5 = .ok (.iload_n 1, 1) := dk_27 (dk_at dksX5_load_0 5 rfl rfl)
theorem dX5_load_6 : decode cX5_load 6 = .ok (.iconst 0, 1) := dk_3 (dk_at dksX5_load_0 6 rfl rfl)
theorem dX5_load_7 : decode cX5_load 7 = .ok (.aload_n 0, 1) := dk_42 (dk_at dksX5_load_0 7 rfl rfl)
theorem dX5_load_8 : decode cX5_load 8 = .ok (.getfield 307, 3) := dk_180 1 51 (dk_at dksX5_load_0 8 rfl rfl)
theorem dX5_load_11 : decode cX5_load 11 = .ok (.invokestatic 102, 3) := dk_184 0 102 (dk_at dksX5_load_0 11 rfl rfl)
theorem dX5_load_14 : decode cX5_load 14 = .ok (.ifCond .ne 9, 3) := dk_154 0 9 (dk_at dksX5_load_0 14 rfl rfl)
theorem dX5_load_17 : decode cX5_load 17 = .ok (.aload_n 0, 1) := dk_42 (dk_at dksX5_load_0 17 rfl rfl)
theorem dX5_load_18 : decode cX5_load 18 = .ok (.iconst 1, 1) := dk_4 (dk_at dksX5_load_0 18 rfl rfl)
theorem dX5_load_19 : decode cX5_load 19 = .ok (.invokevirtual 193, 3) := dk_182 0 193 (dk_at dksX5_load_0 19 rfl rfl)
theorem dX5_load_22 : decode cX5_load 22 = .ok (.ireturn, 1) := dk_172 (dk_at dksX5_load_0 22 rfl rfl)
theorem dX5_load_23 : decode cX5_load 23 = .ok (.aload_n 0, 1) := dk_42 (dk_at dksX5_load_0 23 rfl rfl)
theorem dX5_load_24 : decode cX5_load 24 = .ok (.iload_n 1, 1) := dk_27 (dk_at dksX5_load_1 0 rfl rfl)
theorem dX5_load_25 : decode cX5_load 25 = .ok (.invokevirtual 390, 3) := dk_182 1 134 (dk_at dksX5_load_1 1 rfl rfl)
theorem dX5_load_28 : decode cX5_load 28 = .ok (.aload_n 0, 1) := dk_42 (dk_at dksX5_load_1 4 rfl rfl)
theorem dX5_load_29 : decode cX5_load 29 = .ok (.aload_n 0, 1) := dk_42 (dk_at dksX5_load_1 5 rfl rfl)
theorem dX5_load_30 : decode cX5_load 30 = .ok (.getfield 13, 3) := dk_180 0 13 (dk_at dksX5_load_1 6 rfl rfl)
theorem dX5_load_33 : decode cX5_load 33 = .ok (.putfield 51, 3) := dk_181 0 51 (dk_at dksX5_load_1 9 rfl rfl)
theorem dX5_load_36 : decode cX5_load 36 = .ok (.aload_n 0, 1) := dk_42 (dk_at dksX5_load_1 12 rfl rfl)
theorem dX5_load_37 : decode cX5_load 37 = .ok (.invokevirtual 393, 3) := dk_182 1 137 (dk_at dksX5_load_1 13 rfl rfl)
theorem dX5_load_40 : decode cX5_load 40 = .ok (.aload_n 0, 1) := dk_42 (dk_at dksX5_load_1 16 rfl rfl)
theorem dX5_load_41 : decode cX5_load 41 = .ok (.aload_n 0, 1) := dk_42 (dk_at dksX5_load_1 17 rfl rfl)
theorem dX5_load_42 : decode cX5_load 42 = .ok (.getfield 9, 3) := dk_180 0 9 (dk_at dksX5_load_1 18 rfl rfl)
theorem dX5_load_45 : decode cX5_load 45 = .ok (.putfield 51, 3) := dk_181 0 51 (dk_at dksX5_load_1 21 rfl rfl)
theorem dX5_load_48 : decode cX5_load 48 = .ok (.aload_n 0, 1) := dk_42 (dk_at dksX5_load_2 0 rfl rfl)
theorem dX5_load_49 : decode cX5_load 49 = .ok (.invokevirtual 396, 3) := dk_182 1 140 (dk_at dksX5_load_2 1 rfl rfl)
theorem dX5_load_52 : decode cX5_load 52 = .ok (.ifCond .eq 11, 3) := dk_153 0 11 (dk_at dksX5_load_2 4 rfl rfl)
theorem dX5_load_55 : decode cX5_load 55 = .ok (.bipush (-10), 2) := dk_16 246 (dk_at dksX5_load_2 7 rfl rfl)
theorem dX5_load_57 : decode cX5_load 57 = .ok (.aload_n 0, 1) := dk_42 (dk_at dksX5_load_2 9 rfl rfl)
theorem dX5_load_58 : decode cX5_load 58 = .ok (.getfield 331, 3) := dk_180 1 75 (dk_at dksX5_load_2 10 rfl rfl)
theorem dX5_load_61 : decode cX5_load 61 = .ok (.isub, 1) := dk_100 (dk_at dksX5_load_2 13 rfl rfl)
theorem dX5_load_62 : decode cX5_load 62 = .ok (.ireturn, 1) := dk_172 (dk_at dksX5_load_2 14 rfl rfl)
theorem dX5_load_63 : decode cX5_load 63 = .ok (.aload_n 0, 1) := dk_42 (dk_at dksX5_load_2 15 rfl rfl)
theorem dX5_load_64 : decode cX5_load 64 = .ok (.getfield 13, 3) := dk_180 0 13 (dk_at dksX5_load_2 16 rfl rfl)
theorem dX5_load_67 : decode cX5_load 67 = .ok (.iconst 0, 1) := dk_3 (dk_at dksX5_load_2 19 rfl rfl)
theorem dX5_load_68 : decode cX5_load 68 = .ok (.aload_n 0, 1) := dk_42 (dk_at dksX5_load_2 20 rfl rfl)
theorem dX5_load_69 : decode cX5_load 69 = .ok (.getfield 9, 3) := dk_180 0 9 (dk_at dksX5_load_2 21 rfl rfl)
theorem dX5_load_72 : decode cX5_load 72 = .ok (.iconst 0, 1) := dk_3 (dk_at dksX5_load_3 0 rfl rfl)
theorem dX5_load_73 : decode cX5_load 73 = .ok (.invokestatic 250, 3) := dk_184 0 250 (dk_at dksX5_load_3 1 rfl rfl)
theorem dX5_load_76 : decode cX5_load 76 = .ok (.aload_n 0, 1) := dk_42 (dk_at dksX5_load_3 4 rfl rfl)
theorem dX5_load_77 : decode cX5_load 77 = .ok (.iconst 0, 1) := dk_3 (dk_at dksX5_load_3 5 rfl rfl)
theorem dX5_load_78 : decode cX5_load 78 = .ok (.putfield 254, 3) := dk_181 0 254 (dk_at dksX5_load_3 6 rfl rfl)
theorem dX5_load_81 : decode cX5_load 81 = .ok (.aload_n 0, 1) := dk_42 (dk_at dksX5_load_3 9 rfl rfl)
theorem dX5_load_82 : decode cX5_load 82 = .ok (.iconst 0, 1) := dk_3 (dk_at dksX5_load_3 10 rfl rfl)
theorem dX5_load_83 : decode cX5_load 83 = .ok (.putfield 303, 3) := dk_181 1 47 (dk_at dksX5_load_3 11 rfl rfl)
theorem dX5_load_86 : decode cX5_load 86 = .ok (.aload_n 0, 1) := dk_42 (dk_at dksX5_load_3 14 rfl rfl)
theorem dX5_load_87 : decode cX5_load 87 = .ok (.getfield 51, 3) := dk_180 0 51 (dk_at dksX5_load_3 15 rfl rfl)
theorem dX5_load_90 : decode cX5_load 90 = .ok (.iconst 5, 1) := dk_8 (dk_at dksX5_load_3 18 rfl rfl)
theorem dX5_load_91 : decode cX5_load 91 = .ok (.iaload, 1) := dk_46 (dk_at dksX5_load_3 19 rfl rfl)
theorem dX5_load_92 : decode cX5_load 92 = .ok (.ireturn, 1) := dk_172 (dk_at dksX5_load_3 20 rfl rfl)
abbrev cX5_startText : ByteArray := prog_21_method_121_code
def yX5_startText : MethodName := ⟨RX5, "startText", "(I)V"⟩
def dkwX5_startText_1 : List UInt8 := [177]
abbrev dktX5_startText_1 : List UInt8 := dkwX5_startText_1 ++ []
def dkwX5_startText_0 : List UInt8 := [42, 27, 181, 1, 54, 42, 3, 181, 1, 60, 42, 3, 181, 1, 75, 42, 3, 181, 1, 78, 42, 182, 1, 81]
abbrev dktX5_startText_0 : List UInt8 := dkwX5_startText_0 ++ dktX5_startText_1
theorem dksX5_startText_0 : cX5_startText.data.toList.drop 0 = dktX5_startText_0 := by decide +kernel
theorem dksX5_startText_1 : cX5_startText.data.toList.drop 24 = dktX5_startText_1 := dk_seg dksX5_startText_0 24 rfl rfl
theorem dX5_startText_0 : decode cX5_startText 0 = .ok (.aload_n 0, 1) := dk_42 (dk_at dksX5_startText_0 0 rfl rfl)
theorem dX5_startText_1 : decode cX5_startText 1 = .ok (.iload_n 1, 1) := dk_27 (dk_at dksX5_startText_0 1 rfl rfl)
theorem dX5_startText_2 : decode cX5_startText 2 = .ok (.putfield 310, 3) := dk_181 1 54 (dk_at dksX5_startText_0 2 rfl rfl)
theorem dX5_startText_5 : decode cX5_startText 5 = .ok (.aload_n 0, 1) := dk_42 (dk_at dksX5_startText_0 5 rfl rfl)
theorem dX5_startText_6 : decode cX5_startText 6 = .ok (.iconst 0, 1) := dk_3 (dk_at dksX5_startText_0 6 rfl rfl)
theorem dX5_startText_7 : decode cX5_startText 7 = .ok (.putfield 316, 3) := dk_181 1 60 (dk_at dksX5_startText_0 7 rfl rfl)
theorem dX5_startText_10 : decode cX5_startText 10 = .ok (.aload_n 0, 1) := dk_42 (dk_at dksX5_startText_0 10 rfl rfl)
theorem dX5_startText_11 : decode cX5_startText 11 = .ok (.iconst 0, 1) := dk_3 (dk_at dksX5_startText_0 11 rfl rfl)
theorem dX5_startText_12 : decode cX5_startText 12 = .ok (.putfield 331, 3) := dk_181 1 75 (dk_at dksX5_startText_0 12 rfl rfl)
theorem dX5_startText_15 : decode cX5_startText 15 = .ok (.aload_n 0, 1) := dk_42 (dk_at dksX5_startText_0 15 rfl rfl)
theorem dX5_startText_16 : decode cX5_startText 16 = .ok (.iconst 0, 1) := dk_3 (dk_at dksX5_startText_0 16 rfl rfl)
theorem dX5_startText_17 : decode cX5_startText 17 = .ok (.putfield 334, 3) := dk_181 1 78 (dk_at dksX5_startText_0 17 rfl rfl)
theorem dX5_startText_20 : decode cX5_startText 20 = .ok (.aload_n 0, 1) := dk_42 (dk_at dksX5_startText_0 20 rfl rfl)
theorem dX5_startText_21 : decode cX5_startText 21 = .ok (.invokevirtual 337, 3) := dk_182 1 81 (dk_at dksX5_startText_0 21 rfl rfl)
theorem dX5_startText_24 : decode cX5_startText 24 = .ok (.return_, 1) := dk_177 (dk_at dksX5_startText_1 0 rfl rfl)
abbrev cX5_scan : ByteArray := prog_21_method_120_code
def yX5_scan : MethodName := ⟨RX5, "scan", "()V"⟩
def dkwX5_scan_7 : List UInt8 := [181, 1, 66, 177]
abbrev dktX5_scan_7 : List UInt8 := dkwX5_scan_7 ++ []
def dkwX5_scan_6 : List UInt8 := [167, 255, 235, 42, 5, 181, 1, 66, 167, 0, 18, 42, 89, 180, 1, 60, 4, 96, 181, 1, 60, 42, 6]
abbrev dktX5_scan_6 : List UInt8 := dkwX5_scan_6 ++ dktX5_scan_7
def dkwX5_scan_5 : List UInt8 := [153, 0, 35, 42, 42, 180, 1, 60, 182, 1, 72, 153, 0, 16, 42, 89, 180, 1, 60, 4, 96, 181, 1, 60]
abbrev dktX5_scan_5 : List UInt8 := dkwX5_scan_5 ++ dktX5_scan_6
def dkwX5_scan_4 : List UInt8 := [181, 1, 60, 167, 255, 235, 42, 4, 181, 1, 66, 167, 0, 61, 42, 42, 180, 1, 60, 182, 1, 72]
abbrev dktX5_scan_4 : List UInt8 := dkwX5_scan_4 ++ dktX5_scan_5
def dkwX5_scan_3 : List UInt8 := [182, 1, 69, 153, 0, 35, 42, 42, 180, 1, 60, 182, 1, 69, 153, 0, 16, 42, 89, 180, 1, 60, 4, 96]
abbrev dktX5_scan_3 : List UInt8 := dkwX5_scan_3 ++ dktX5_scan_4
def dkwX5_scan_2 : List UInt8 := [42, 180, 1, 60, 42, 180, 1, 54, 161, 0, 11, 42, 3, 181, 1, 66, 167, 0, 104, 42, 42, 180, 1, 60]
abbrev dktX5_scan_2 : List UInt8 := dkwX5_scan_2 ++ dktX5_scan_3
def dkwX5_scan_1 : List UInt8 := [160, 0, 16, 42, 89, 180, 1, 60, 4, 96, 181, 1, 60, 167, 255, 220, 42, 42, 180, 1, 60, 181, 1, 63]
abbrev dktX5_scan_1 : List UInt8 := dkwX5_scan_1 ++ dktX5_scan_2
def dkwX5_scan_0 : List UInt8 := [42, 42, 180, 1, 60, 182, 1, 57, 16, 32, 159, 0, 16, 42, 42, 180, 1, 60, 182, 1, 57, 16, 10]
abbrev dktX5_scan_0 : List UInt8 := dkwX5_scan_0 ++ dktX5_scan_1
theorem dksX5_scan_0 : cX5_scan.data.toList.drop 0 = dktX5_scan_0 := by decide +kernel
theorem dksX5_scan_1 : cX5_scan.data.toList.drop 23 = dktX5_scan_1 := dk_seg dksX5_scan_0 23 rfl rfl
theorem dksX5_scan_2 : cX5_scan.data.toList.drop 47 = dktX5_scan_2 := dk_seg dksX5_scan_1 24 rfl rfl
theorem dksX5_scan_3 : cX5_scan.data.toList.drop 71 = dktX5_scan_3 := dk_seg dksX5_scan_2 24 rfl rfl
theorem dksX5_scan_4 : cX5_scan.data.toList.drop 95 = dktX5_scan_4 := dk_seg dksX5_scan_3 24 rfl rfl
theorem dksX5_scan_5 : cX5_scan.data.toList.drop 117 = dktX5_scan_5 := dk_seg dksX5_scan_4 22 rfl rfl
theorem dksX5_scan_6 : cX5_scan.data.toList.drop 141 = dktX5_scan_6 := dk_seg dksX5_scan_5 24 rfl rfl
theorem dksX5_scan_7 : cX5_scan.data.toList.drop 164 = dktX5_scan_7 := dk_seg dksX5_scan_6 23 rfl rfl
theorem dX5_scan_0 : decode cX5_scan 0 = .ok (.aload_n 0, 1) := dk_42 (dk_at dksX5_scan_0 0 rfl rfl)
theorem dX5_scan_1 : decode cX5_scan 1 = .ok (.aload_n 0, 1) := dk_42 (dk_at dksX5_scan_0 1 rfl rfl)
theorem dX5_scan_2 : decode cX5_scan 2 = .ok (.getfield 316, 3) := dk_180 1 60 (dk_at dksX5_scan_0 2 rfl rfl)
theorem dX5_scan_5 : decode cX5_scan 5 = .ok (.invokevirtual 313, 3) := dk_182 1 57 (dk_at dksX5_scan_0 5 rfl rfl)
theorem dX5_scan_8 : decode cX5_scan 8 = .ok (.bipush 32, 2) := dk_16 32 (dk_at dksX5_scan_0 8 rfl rfl)
theorem dX5_scan_10 : decode cX5_scan 10 = .ok (.if_icmp .eq 16, 3) := dk_159 0 16 (dk_at dksX5_scan_0 10 rfl rfl)
theorem dX5_scan_13 : decode cX5_scan 13 = .ok (.aload_n 0, 1) := dk_42 (dk_at dksX5_scan_0 13 rfl rfl)
theorem dX5_scan_14 : decode cX5_scan 14 = .ok (.aload_n 0, 1) := dk_42 (dk_at dksX5_scan_0 14 rfl rfl)
theorem dX5_scan_15 : decode cX5_scan 15 = .ok (.getfield 316, 3) := dk_180 1 60 (dk_at dksX5_scan_0 15 rfl rfl)
theorem dX5_scan_18 : decode cX5_scan 18 = .ok (.invokevirtual 313, 3) := dk_182 1 57 (dk_at dksX5_scan_0 18 rfl rfl)
theorem dX5_scan_21 : decode cX5_scan 21 = .ok (.bipush 10, 2) := dk_16 10 (dk_at dksX5_scan_0 21 rfl rfl)
theorem dX5_scan_23 : decode cX5_scan 23 = .ok (.if_icmp .ne 16, 3) := dk_160 0 16 (dk_at dksX5_scan_1 0 rfl rfl)
theorem dX5_scan_26 : decode cX5_scan 26 = .ok (.aload_n 0, 1) := dk_42 (dk_at dksX5_scan_1 3 rfl rfl)
theorem dX5_scan_27 : decode cX5_scan 27 = .ok (.dup, 1) := dk_89 (dk_at dksX5_scan_1 4 rfl rfl)
theorem dX5_scan_28 : decode cX5_scan 28 = .ok (.getfield 316, 3) := dk_180 1 60 (dk_at dksX5_scan_1 5 rfl rfl)
theorem dX5_scan_31 : decode cX5_scan 31 = .ok (.iconst 1, 1) := dk_4 (dk_at dksX5_scan_1 8 rfl rfl)
theorem dX5_scan_32 : decode cX5_scan 32 = .ok (.iadd, 1) := dk_96 (dk_at dksX5_scan_1 9 rfl rfl)
theorem dX5_scan_33 : decode cX5_scan 33 = .ok (.putfield 316, 3) := dk_181 1 60 (dk_at dksX5_scan_1 10 rfl rfl)
theorem dX5_scan_36 : decode cX5_scan 36 = .ok (.goto (-36), 3) := dk_167 255 220 (dk_at dksX5_scan_1 13 rfl rfl)
theorem dX5_scan_39 : decode cX5_scan 39 = .ok (.aload_n 0, 1) := dk_42 (dk_at dksX5_scan_1 16 rfl rfl)
theorem dX5_scan_40 : decode cX5_scan 40 = .ok (.aload_n 0, 1) := dk_42 (dk_at dksX5_scan_1 17 rfl rfl)
theorem dX5_scan_41 : decode cX5_scan 41 = .ok (.getfield 316, 3) := dk_180 1 60 (dk_at dksX5_scan_1 18 rfl rfl)
theorem dX5_scan_44 : decode cX5_scan 44 = .ok (.putfield 319, 3) := dk_181 1 63 (dk_at dksX5_scan_1 21 rfl rfl)
theorem dX5_scan_47 : decode cX5_scan 47 = .ok (.aload_n 0, 1) := dk_42 (dk_at dksX5_scan_2 0 rfl rfl)
theorem dX5_scan_48 : decode cX5_scan 48 = .ok (.getfield 316, 3) := dk_180 1 60 (dk_at dksX5_scan_2 1 rfl rfl)
theorem dX5_scan_51 : decode cX5_scan 51 = .ok (.aload_n 0, 1) := dk_42 (dk_at dksX5_scan_2 4 rfl rfl)
theorem dX5_scan_52 : decode cX5_scan 52 = .ok (.getfield 310, 3) := dk_180 1 54 (dk_at dksX5_scan_2 5 rfl rfl)
theorem dX5_scan_55 : decode cX5_scan 55 = .ok (.if_icmp .lt 11, 3) := dk_161 0 11 (dk_at dksX5_scan_2 8 rfl rfl)
theorem dX5_scan_58 : decode cX5_scan 58 = .ok (.aload_n 0, 1) := dk_42 (dk_at dksX5_scan_2 11 rfl rfl)
theorem dX5_scan_59 : decode cX5_scan 59 = .ok (.iconst 0, 1) := dk_3 (dk_at dksX5_scan_2 12 rfl rfl)
theorem dX5_scan_60 : decode cX5_scan 60 = .ok (.putfield 322, 3) := dk_181 1 66 (dk_at dksX5_scan_2 13 rfl rfl)
theorem dX5_scan_63 : decode cX5_scan 63 = .ok (.goto 104, 3) := dk_167 0 104 (dk_at dksX5_scan_2 16 rfl rfl)
theorem dX5_scan_66 : decode cX5_scan 66 = .ok (.aload_n 0, 1) := dk_42 (dk_at dksX5_scan_2 19 rfl rfl)
theorem dX5_scan_67 : decode cX5_scan 67 = .ok (.aload_n 0, 1) := dk_42 (dk_at dksX5_scan_2 20 rfl rfl)
theorem dX5_scan_68 : decode cX5_scan 68 = .ok (.getfield 316, 3) := dk_180 1 60 (dk_at dksX5_scan_2 21 rfl rfl)
theorem dX5_scan_71 : decode cX5_scan 71 = .ok (.invokevirtual 325, 3) := dk_182 1 69 (dk_at dksX5_scan_3 0 rfl rfl)
theorem dX5_scan_74 : decode cX5_scan 74 = .ok (.ifCond .eq 35, 3) := dk_153 0 35 (dk_at dksX5_scan_3 3 rfl rfl)
theorem dX5_scan_77 : decode cX5_scan 77 = .ok (.aload_n 0, 1) := dk_42 (dk_at dksX5_scan_3 6 rfl rfl)
theorem dX5_scan_78 : decode cX5_scan 78 = .ok (.aload_n 0, 1) := dk_42 (dk_at dksX5_scan_3 7 rfl rfl)
theorem dX5_scan_79 : decode cX5_scan 79 = .ok (.getfield 316, 3) := dk_180 1 60 (dk_at dksX5_scan_3 8 rfl rfl)
theorem dX5_scan_82 : decode cX5_scan 82 = .ok (.invokevirtual 325, 3) := dk_182 1 69 (dk_at dksX5_scan_3 11 rfl rfl)
theorem dX5_scan_85 : decode cX5_scan 85 = .ok (.ifCond .eq 16, 3) := dk_153 0 16 (dk_at dksX5_scan_3 14 rfl rfl)
theorem dX5_scan_88 : decode cX5_scan 88 = .ok (.aload_n 0, 1) := dk_42 (dk_at dksX5_scan_3 17 rfl rfl)
theorem dX5_scan_89 : decode cX5_scan 89 = .ok (.dup, 1) := dk_89 (dk_at dksX5_scan_3 18 rfl rfl)
theorem dX5_scan_90 : decode cX5_scan 90 = .ok (.getfield 316, 3) := dk_180 1 60 (dk_at dksX5_scan_3 19 rfl rfl)
theorem dX5_scan_93 : decode cX5_scan 93 = .ok (.iconst 1, 1) := dk_4 (dk_at dksX5_scan_3 22 rfl rfl)
theorem dX5_scan_94 : decode cX5_scan 94 = .ok (.iadd, 1) := dk_96 (dk_at dksX5_scan_3 23 rfl rfl)
theorem dX5_scan_95 : decode cX5_scan 95 = .ok (.putfield 316, 3) := dk_181 1 60 (dk_at dksX5_scan_4 0 rfl rfl)
theorem dX5_scan_98 : decode cX5_scan 98 = .ok (.goto (-21), 3) := dk_167 255 235 (dk_at dksX5_scan_4 3 rfl rfl)
theorem dX5_scan_101 : decode cX5_scan 101 = .ok (.aload_n 0, 1) := dk_42 (dk_at dksX5_scan_4 6 rfl rfl)
theorem dX5_scan_102 : decode cX5_scan 102 = .ok (.iconst 1, 1) := dk_4 (dk_at dksX5_scan_4 7 rfl rfl)
theorem dX5_scan_103 : decode cX5_scan 103 = .ok (.putfield 322, 3) := dk_181 1 66 (dk_at dksX5_scan_4 8 rfl rfl)
theorem dX5_scan_106 : decode cX5_scan 106 = .ok (.goto 61, 3) := dk_167 0 61 (dk_at dksX5_scan_4 11 rfl rfl)
theorem dX5_scan_109 : decode cX5_scan 109 = .ok (.aload_n 0, 1) := dk_42 (dk_at dksX5_scan_4 14 rfl rfl)
theorem dX5_scan_110 : decode cX5_scan 110 = .ok (.aload_n 0, 1) := dk_42 (dk_at dksX5_scan_4 15 rfl rfl)
theorem dX5_scan_111 : decode cX5_scan 111 = .ok (.getfield 316, 3) := dk_180 1 60 (dk_at dksX5_scan_4 16 rfl rfl)
theorem dX5_scan_114 : decode cX5_scan 114 = .ok (.invokevirtual 328, 3) := dk_182 1 72 (dk_at dksX5_scan_4 19 rfl rfl)
theorem dX5_scan_117 : decode cX5_scan 117 = .ok (.ifCond .eq 35, 3) := dk_153 0 35 (dk_at dksX5_scan_5 0 rfl rfl)
theorem dX5_scan_120 : decode cX5_scan 120 = .ok (.aload_n 0, 1) := dk_42 (dk_at dksX5_scan_5 3 rfl rfl)
theorem dX5_scan_121 : decode cX5_scan 121 = .ok (.aload_n 0, 1) := dk_42 (dk_at dksX5_scan_5 4 rfl rfl)
theorem dX5_scan_122 : decode cX5_scan 122 = .ok (.getfield 316, 3) := dk_180 1 60 (dk_at dksX5_scan_5 5 rfl rfl)
theorem dX5_scan_125 : decode cX5_scan 125 = .ok (.invokevirtual 328, 3) := dk_182 1 72 (dk_at dksX5_scan_5 8 rfl rfl)
theorem dX5_scan_128 : decode cX5_scan 128 = .ok (.ifCond .eq 16, 3) := dk_153 0 16 (dk_at dksX5_scan_5 11 rfl rfl)
theorem dX5_scan_131 : decode cX5_scan 131 = .ok (.aload_n 0, 1) := dk_42 (dk_at dksX5_scan_5 14 rfl rfl)
theorem dX5_scan_132 : decode cX5_scan 132 = .ok (.dup, 1) := dk_89 (dk_at dksX5_scan_5 15 rfl rfl)
theorem dX5_scan_133 : decode cX5_scan 133 = .ok (.getfield 316, 3) := dk_180 1 60 (dk_at dksX5_scan_5 16 rfl rfl)
theorem dX5_scan_136 : decode cX5_scan 136 = .ok (.iconst 1, 1) := dk_4 (dk_at dksX5_scan_5 19 rfl rfl)
theorem dX5_scan_137 : decode cX5_scan 137 = .ok (.iadd, 1) := dk_96 (dk_at dksX5_scan_5 20 rfl rfl)
theorem dX5_scan_138 : decode cX5_scan 138 = .ok (.putfield 316, 3) := dk_181 1 60 (dk_at dksX5_scan_5 21 rfl rfl)
theorem dX5_scan_141 : decode cX5_scan 141 = .ok (.goto (-21), 3) := dk_167 255 235 (dk_at dksX5_scan_6 0 rfl rfl)
theorem dX5_scan_144 : decode cX5_scan 144 = .ok (.aload_n 0, 1) := dk_42 (dk_at dksX5_scan_6 3 rfl rfl)
theorem dX5_scan_145 : decode cX5_scan 145 = .ok (.iconst 2, 1) := dk_5 (dk_at dksX5_scan_6 4 rfl rfl)
theorem dX5_scan_146 : decode cX5_scan 146 = .ok (.putfield 322, 3) := dk_181 1 66 (dk_at dksX5_scan_6 5 rfl rfl)
theorem dX5_scan_149 : decode cX5_scan 149 = .ok (.goto 18, 3) := dk_167 0 18 (dk_at dksX5_scan_6 8 rfl rfl)
theorem dX5_scan_152 : decode cX5_scan 152 = .ok (.aload_n 0, 1) := dk_42 (dk_at dksX5_scan_6 11 rfl rfl)
theorem dX5_scan_153 : decode cX5_scan 153 = .ok (.dup, 1) := dk_89 (dk_at dksX5_scan_6 12 rfl rfl)
theorem dX5_scan_154 : decode cX5_scan 154 = .ok (.getfield 316, 3) := dk_180 1 60 (dk_at dksX5_scan_6 13 rfl rfl)
theorem dX5_scan_157 : decode cX5_scan 157 = .ok (.iconst 1, 1) := dk_4 (dk_at dksX5_scan_6 16 rfl rfl)
theorem dX5_scan_158 : decode cX5_scan 158 = .ok (.iadd, 1) := dk_96 (dk_at dksX5_scan_6 17 rfl rfl)
theorem dX5_scan_159 : decode cX5_scan 159 = .ok (.putfield 316, 3) := dk_181 1 60 (dk_at dksX5_scan_6 18 rfl rfl)
theorem dX5_scan_162 : decode cX5_scan 162 = .ok (.aload_n 0, 1) := dk_42 (dk_at dksX5_scan_6 21 rfl rfl)
theorem dX5_scan_163 : decode cX5_scan 163 = .ok (.iconst 3, 1) := dk_6 (dk_at dksX5_scan_6 22 rfl rfl)
theorem dX5_scan_164 : decode cX5_scan 164 = .ok (.putfield 322, 3) := dk_181 1 66 (dk_at dksX5_scan_7 0 rfl rfl)
theorem dX5_scan_167 : decode cX5_scan 167 = .ok (.return_, 1) := dk_177 (dk_at dksX5_scan_7 3 rfl rfl)
abbrev cX5_byteAt : ByteArray := prog_21_method_117_code
def yX5_byteAt : MethodName := ⟨RX5, "byteAt", "(I)I"⟩
def dkwX5_byteAt_0 : List UInt8 := [27, 42, 180, 1, 54, 162, 0, 12, 42, 180, 0, 57, 27, 46, 167, 0, 4, 2, 172]
abbrev dktX5_byteAt_0 : List UInt8 := dkwX5_byteAt_0 ++ []
theorem dksX5_byteAt_0 : cX5_byteAt.data.toList.drop 0 = dktX5_byteAt_0 := by decide +kernel
theorem dX5_byteAt_0 : decode cX5_byteAt 0 = .ok (.iload_n 1, 1) := dk_27 (dk_at dksX5_byteAt_0 0 rfl rfl)
theorem dX5_byteAt_1 : decode cX5_byteAt 1 = .ok (.aload_n 0, 1) := dk_42 (dk_at dksX5_byteAt_0 1 rfl rfl)
theorem dX5_byteAt_2 : decode cX5_byteAt 2 = .ok (.getfield 310, 3) := dk_180 1 54 (dk_at dksX5_byteAt_0 2 rfl rfl)
theorem dX5_byteAt_5 : decode cX5_byteAt 5 = .ok (.if_icmp .ge 12, 3) := dk_162 0 12 (dk_at dksX5_byteAt_0 5 rfl rfl)
theorem dX5_byteAt_8 : decode cX5_byteAt 8 = .ok (.aload_n 0, 1) := dk_42 (dk_at dksX5_byteAt_0 8 rfl rfl)
theorem dX5_byteAt_9 : decode cX5_byteAt 9 = .ok (.getfield 57, 3) := dk_180 0 57 (dk_at dksX5_byteAt_0 9 rfl rfl)
theorem dX5_byteAt_12 : decode cX5_byteAt 12 = .ok (.iload_n 1, 1) := dk_27 (dk_at dksX5_byteAt_0 12 rfl rfl)
theorem dX5_byteAt_13 : decode cX5_byteAt 13 = .ok (.iaload, 1) := dk_46 (dk_at dksX5_byteAt_0 13 rfl rfl)
theorem dX5_byteAt_14 : decode cX5_byteAt 14 = .ok (.goto 4, 3) := dk_167 0 4 (dk_at dksX5_byteAt_0 14 rfl rfl)
theorem dX5_byteAt_17 : decode cX5_byteAt 17 = .ok (.iconst (-1), 1) := dk_2 (dk_at dksX5_byteAt_0 17 rfl rfl)
theorem dX5_byteAt_18 : decode cX5_byteAt 18 = .ok (.ireturn, 1) := dk_172 (dk_at dksX5_byteAt_0 18 rfl rfl)
abbrev cX5_isLetter : ByteArray := prog_21_method_118_code
def yX5_isLetter : MethodName := ⟨RX5, "isLetter", "(I)Z"⟩
def dkwX5_isLetter_1 : List UInt8 := [3, 172]
abbrev dktX5_isLetter_1 : List UInt8 := dkwX5_isLetter_1 ++ []
def dkwX5_isLetter_0 : List UInt8 := [42, 27, 182, 1, 57, 16, 97, 161, 0, 17, 42, 27, 182, 1, 57, 16, 122, 163, 0, 7, 4, 167, 0, 4]
abbrev dktX5_isLetter_0 : List UInt8 := dkwX5_isLetter_0 ++ dktX5_isLetter_1
theorem dksX5_isLetter_0 : cX5_isLetter.data.toList.drop 0 = dktX5_isLetter_0 := by decide +kernel
theorem dksX5_isLetter_1 : cX5_isLetter.data.toList.drop 24 = dktX5_isLetter_1 := dk_seg dksX5_isLetter_0 24 rfl rfl
theorem dX5_isLetter_0 : decode cX5_isLetter 0 = .ok (.aload_n 0, 1) := dk_42 (dk_at dksX5_isLetter_0 0 rfl rfl)
theorem dX5_isLetter_1 : decode cX5_isLetter 1 = .ok (.iload_n 1, 1) := dk_27 (dk_at dksX5_isLetter_0 1 rfl rfl)
theorem dX5_isLetter_2 : decode cX5_isLetter 2 = .ok (.invokevirtual 313, 3) := dk_182 1 57 (dk_at dksX5_isLetter_0 2 rfl rfl)
theorem dX5_isLetter_5 : decode cX5_isLetter 5 = .ok (.bipush 97, 2) := dk_16 97 (dk_at dksX5_isLetter_0 5 rfl rfl)
theorem dX5_isLetter_7 : decode cX5_isLetter 7 = .ok (.if_icmp .lt 17, 3) := dk_161 0 17 (dk_at dksX5_isLetter_0 7 rfl rfl)
theorem dX5_isLetter_10 : decode cX5_isLetter 10 = .ok (.aload_n 0, 1) := dk_42 (dk_at dksX5_isLetter_0 10 rfl rfl)
theorem dX5_isLetter_11 : decode cX5_isLetter 11 = .ok (.iload_n 1, 1) := dk_27 (dk_at dksX5_isLetter_0 11 rfl rfl)
theorem dX5_isLetter_12 : decode cX5_isLetter 12 = .ok (.invokevirtual 313, 3) := dk_182 1 57 (dk_at dksX5_isLetter_0 12 rfl rfl)
theorem dX5_isLetter_15 : decode cX5_isLetter 15 = .ok (.bipush 122, 2) := dk_16 122 (dk_at dksX5_isLetter_0 15 rfl rfl)
theorem dX5_isLetter_17 : decode cX5_isLetter 17 = .ok (.if_icmp .gt 7, 3) := dk_163 0 7 (dk_at dksX5_isLetter_0 17 rfl rfl)
theorem dX5_isLetter_20 : decode cX5_isLetter 20 = .ok (.iconst 1, 1) := dk_4 (dk_at dksX5_isLetter_0 20 rfl rfl)
theorem dX5_isLetter_21 : decode cX5_isLetter 21 = .ok (.goto 4, 3) := dk_167 0 4 (dk_at dksX5_isLetter_0 21 rfl rfl)
theorem dX5_isLetter_24 : decode cX5_isLetter 24 = .ok (.iconst 0, 1) := dk_3 (dk_at dksX5_isLetter_1 0 rfl rfl)
theorem dX5_isLetter_25 : decode cX5_isLetter 25 = .ok (.ireturn, 1) := dk_172 (dk_at dksX5_isLetter_1 1 rfl rfl)
abbrev cX5_isDigit : ByteArray := prog_21_method_119_code
def yX5_isDigit : MethodName := ⟨RX5, "isDigit", "(I)Z"⟩
def dkwX5_isDigit_1 : List UInt8 := [3, 172]
abbrev dktX5_isDigit_1 : List UInt8 := dkwX5_isDigit_1 ++ []
def dkwX5_isDigit_0 : List UInt8 := [42, 27, 182, 1, 57, 16, 48, 161, 0, 17, 42, 27, 182, 1, 57, 16, 57, 163, 0, 7, 4, 167, 0, 4]
abbrev dktX5_isDigit_0 : List UInt8 := dkwX5_isDigit_0 ++ dktX5_isDigit_1
theorem dksX5_isDigit_0 : cX5_isDigit.data.toList.drop 0 = dktX5_isDigit_0 := by decide +kernel
theorem dksX5_isDigit_1 : cX5_isDigit.data.toList.drop 24 = dktX5_isDigit_1 := dk_seg dksX5_isDigit_0 24 rfl rfl
theorem dX5_isDigit_0 : decode cX5_isDigit 0 = .ok (.aload_n 0, 1) := dk_42 (dk_at dksX5_isDigit_0 0 rfl rfl)
theorem dX5_isDigit_1 : decode cX5_isDigit 1 = .ok (.iload_n 1, 1) := dk_27 (dk_at dksX5_isDigit_0 1 rfl rfl)
theorem dX5_isDigit_2 : decode cX5_isDigit 2 = .ok (.invokevirtual 313, 3) := dk_182 1 57 (dk_at dksX5_isDigit_0 2 rfl rfl)
theorem dX5_isDigit_5 : decode cX5_isDigit 5 = .ok (.bipush 48, 2) := dk_16 48 (dk_at dksX5_isDigit_0 5 rfl rfl)
theorem dX5_isDigit_7 : decode cX5_isDigit 7 = .ok (.if_icmp .lt 17, 3) := dk_161 0 17 (dk_at dksX5_isDigit_0 7 rfl rfl)
theorem dX5_isDigit_10 : decode cX5_isDigit 10 = .ok (.aload_n 0, 1) := dk_42 (dk_at dksX5_isDigit_0 10 rfl rfl)
theorem dX5_isDigit_11 : decode cX5_isDigit 11 = .ok (.iload_n 1, 1) := dk_27 (dk_at dksX5_isDigit_0 11 rfl rfl)
theorem dX5_isDigit_12 : decode cX5_isDigit 12 = .ok (.invokevirtual 313, 3) := dk_182 1 57 (dk_at dksX5_isDigit_0 12 rfl rfl)
theorem dX5_isDigit_15 : decode cX5_isDigit 15 = .ok (.bipush 57, 2) := dk_16 57 (dk_at dksX5_isDigit_0 15 rfl rfl)
theorem dX5_isDigit_17 : decode cX5_isDigit 17 = .ok (.if_icmp .gt 7, 3) := dk_163 0 7 (dk_at dksX5_isDigit_0 17 rfl rfl)
theorem dX5_isDigit_20 : decode cX5_isDigit 20 = .ok (.iconst 1, 1) := dk_4 (dk_at dksX5_isDigit_0 20 rfl rfl)
theorem dX5_isDigit_21 : decode cX5_isDigit 21 = .ok (.goto 4, 3) := dk_167 0 4 (dk_at dksX5_isDigit_0 21 rfl rfl)
theorem dX5_isDigit_24 : decode cX5_isDigit 24 = .ok (.iconst 0, 1) := dk_3 (dk_at dksX5_isDigit_1 0 rfl rfl)
theorem dX5_isDigit_25 : decode cX5_isDigit 25 = .ok (.ireturn, 1) := dk_172 (dk_at dksX5_isDigit_1 1 rfl rfl)
abbrev cX5_readText : ByteArray := prog_21_method_134_code
def yX5_readText : MethodName := ⟨RX5, "readText", "()V"⟩
def dkwX5_readText_4 : List UInt8 := [154, 0, 17, 42, 180, 1, 66, 153, 0, 10, 42, 182, 1, 131, 167, 255, 238, 177]
abbrev dktX5_readText_4 : List UInt8 := dkwX5_readText_4 ++ []
def dkwX5_readText_3 : List UInt8 := [182, 1, 118, 54, 4, 42, 16, 59, 182, 1, 126, 42, 27, 28, 29, 21, 4, 182, 0, 84, 42, 180, 1, 75]
abbrev dktX5_readText_3 : List UInt8 := dkwX5_readText_3 ++ dktX5_readText_4
def dkwX5_readText_2 : List UInt8 := [182, 1, 105, 42, 4, 16, 99, 182, 1, 118, 61, 42, 3, 16, 50, 182, 1, 118, 62, 42, 4, 16, 8]
abbrev dktX5_readText_2 : List UInt8 := dkwX5_readText_2 ++ dktX5_readText_3
def dkwX5_readText_1 : List UInt8 := [42, 42, 180, 1, 75, 154, 0, 9, 27, 5, 112, 154, 0, 7, 4, 167, 0, 4, 3, 6, 182, 1, 101, 42]
abbrev dktX5_readText_1 : List UInt8 := dkwX5_readText_1 ++ dktX5_readText_2
def dkwX5_readText_0 : List UInt8 := [42, 42, 19, 1, 129, 182, 1, 94, 4, 182, 1, 101, 42, 182, 1, 105, 42, 7, 16, 24, 182, 1, 112, 60]
abbrev dktX5_readText_0 : List UInt8 := dkwX5_readText_0 ++ dktX5_readText_1
theorem dksX5_readText_0 : cX5_readText.data.toList.drop 0 = dktX5_readText_0 := by decide +kernel
theorem dksX5_readText_1 : cX5_readText.data.toList.drop 24 = dktX5_readText_1 := dk_seg dksX5_readText_0 24 rfl rfl
theorem dksX5_readText_2 : cX5_readText.data.toList.drop 48 = dktX5_readText_2 := dk_seg dksX5_readText_1 24 rfl rfl
theorem dksX5_readText_3 : cX5_readText.data.toList.drop 71 = dktX5_readText_3 := dk_seg dksX5_readText_2 23 rfl rfl
theorem dksX5_readText_4 : cX5_readText.data.toList.drop 95 = dktX5_readText_4 := dk_seg dksX5_readText_3 24 rfl rfl
theorem dX5_readText_0 : decode cX5_readText 0 = .ok (.aload_n 0, 1) := dk_42 (dk_at dksX5_readText_0 0 rfl rfl)
theorem dX5_readText_1 : decode cX5_readText 1 = .ok (.aload_n 0, 1) := dk_42 (dk_at dksX5_readText_0 1 rfl rfl)
theorem dX5_readText_2 : decode cX5_readText 2 = .ok (.ldc_w 385, 3) := dk_19 1 129 (dk_at dksX5_readText_0 2 rfl rfl)
theorem dX5_readText_5 : decode cX5_readText 5 = .ok (.invokevirtual 350, 3) := dk_182 1 94 (dk_at dksX5_readText_0 5 rfl rfl)
theorem dX5_readText_8 : decode cX5_readText 8 = .ok (.iconst 1, 1) := dk_4 (dk_at dksX5_readText_0 8 rfl rfl)
theorem dX5_readText_9 : decode cX5_readText 9 = .ok (.invokevirtual 357, 3) := dk_182 1 101 (dk_at dksX5_readText_0 9 rfl rfl)
theorem dX5_readText_12 : decode cX5_readText 12 = .ok (.aload_n 0, 1) := dk_42 (dk_at dksX5_readText_0 12 rfl rfl)
theorem dX5_readText_13 : decode cX5_readText 13 = .ok (.invokevirtual 361, 3) := dk_182 1 105 (dk_at dksX5_readText_0 13 rfl rfl)
theorem dX5_readText_16 : decode cX5_readText 16 = .ok (.aload_n 0, 1) := dk_42 (dk_at dksX5_readText_0 16 rfl rfl)
theorem dX5_readText_17 : decode cX5_readText 17 = .ok (.iconst 4, 1) := dk_7 (dk_at dksX5_readText_0 17 rfl rfl)
theorem dX5_readText_18 : decode cX5_readText 18 = .ok (.bipush 24, 2) := dk_16 24 (dk_at dksX5_readText_0 18 rfl rfl)
theorem dX5_readText_20 : decode cX5_readText 20 = .ok (.invokevirtual 368, 3) := dk_182 1 112 (dk_at dksX5_readText_0 20 rfl rfl)
theorem dX5_readText_23 : decode cX5_readText 23 = .ok (.istore_n 1, 1) := dk_60 (dk_at dksX5_readText_0 23 rfl rfl)
theorem dX5_readText_24 : decode cX5_readText 24 = .ok (.aload_n 0, 1) := dk_42 (dk_at dksX5_readText_1 0 rfl rfl)
theorem dX5_readText_25 : decode cX5_readText 25 = .ok (.aload_n 0, 1) := dk_42 (dk_at dksX5_readText_1 1 rfl rfl)
theorem dX5_readText_26 : decode cX5_readText 26 = .ok (.getfield 331, 3) := dk_180 1 75 (dk_at dksX5_readText_1 2 rfl rfl)
theorem dX5_readText_29 : decode cX5_readText 29 = .ok (.ifCond .ne 9, 3) := dk_154 0 9 (dk_at dksX5_readText_1 5 rfl rfl)
theorem dX5_readText_32 : decode cX5_readText 32 = .ok (.iload_n 1, 1) := dk_27 (dk_at dksX5_readText_1 8 rfl rfl)
theorem dX5_readText_33 : decode cX5_readText 33 = .ok (.iconst 2, 1) := dk_5 (dk_at dksX5_readText_1 9 rfl rfl)
theorem dX5_readText_34 : decode cX5_readText 34 = .ok (.irem, 1) := dk_112 (dk_at dksX5_readText_1 10 rfl rfl)
theorem dX5_readText_35 : decode cX5_readText 35 = .ok (.ifCond .ne 7, 3) := dk_154 0 7 (dk_at dksX5_readText_1 11 rfl rfl)
theorem dX5_readText_38 : decode cX5_readText 38 = .ok (.iconst 1, 1) := dk_4 (dk_at dksX5_readText_1 14 rfl rfl)
theorem dX5_readText_39 : decode cX5_readText 39 = .ok (.goto 4, 3) := dk_167 0 4 (dk_at dksX5_readText_1 15 rfl rfl)
theorem dX5_readText_42 : decode cX5_readText 42 = .ok (.iconst 0, 1) := dk_3 (dk_at dksX5_readText_1 18 rfl rfl)
theorem dX5_readText_43 : decode cX5_readText 43 = .ok (.iconst 3, 1) := dk_6 (dk_at dksX5_readText_1 19 rfl rfl)
theorem dX5_readText_44 : decode cX5_readText 44 = .ok (.invokevirtual 357, 3) := dk_182 1 101 (dk_at dksX5_readText_1 20 rfl rfl)
theorem dX5_readText_47 : decode cX5_readText 47 = .ok (.aload_n 0, 1) := dk_42 (dk_at dksX5_readText_1 23 rfl rfl)
theorem dX5_readText_48 : decode cX5_readText 48 = .ok (.invokevirtual 361, 3) := dk_182 1 105 (dk_at dksX5_readText_2 0 rfl rfl)
theorem dX5_readText_51 : decode cX5_readText 51 = .ok (.aload_n 0, 1) := dk_42 (dk_at dksX5_readText_2 3 rfl rfl)
theorem dX5_readText_52 : decode cX5_readText 52 = .ok (.iconst 1, 1) := dk_4 (dk_at dksX5_readText_2 4 rfl rfl)
theorem dX5_readText_53 : decode cX5_readText 53 = .ok (.bipush 99, 2) := dk_16 99 (dk_at dksX5_readText_2 5 rfl rfl)
theorem dX5_readText_55 : decode cX5_readText 55 = .ok (.invokevirtual 374, 3) := dk_182 1 118 (dk_at dksX5_readText_2 7 rfl rfl)
theorem dX5_readText_58 : decode cX5_readText 58 = .ok (.istore_n 2, 1) := dk_61 (dk_at dksX5_readText_2 10 rfl rfl)
theorem dX5_readText_59 : decode cX5_readText 59 = .ok (.aload_n 0, 1) := dk_42 (dk_at dksX5_readText_2 11 rfl rfl)
theorem dX5_readText_60 : decode cX5_readText 60 = .ok (.iconst 0, 1) := dk_3 (dk_at dksX5_readText_2 12 rfl rfl)
theorem dX5_readText_61 : decode cX5_readText 61 = .ok (.bipush 50, 2) := dk_16 50 (dk_at dksX5_readText_2 13 rfl rfl)
theorem dX5_readText_63 : decode cX5_readText 63 = .ok (.invokevirtual 374, 3) := dk_182 1 118 (dk_at dksX5_readText_2 15 rfl rfl)
theorem dX5_readText_66 : decode cX5_readText 66 = .ok (.istore_n 3, 1) := dk_62 (dk_at dksX5_readText_2 18 rfl rfl)
theorem dX5_readText_67 : decode cX5_readText 67 = .ok (.aload_n 0, 1) := dk_42 (dk_at dksX5_readText_2 19 rfl rfl)
theorem dX5_readText_68 : decode cX5_readText 68 = .ok (.iconst 1, 1) := dk_4 (dk_at dksX5_readText_2 20 rfl rfl)
theorem dX5_readText_69 : decode cX5_readText 69 = .ok (.bipush 8, 2) := dk_16 8 (dk_at dksX5_readText_2 21 rfl rfl)
theorem dX5_readText_71 : decode cX5_readText 71 = .ok (.invokevirtual 374, 3) := dk_182 1 118 (dk_at dksX5_readText_3 0 rfl rfl)
theorem dX5_readText_74 : decode cX5_readText 74 = .ok (.istore 4, 2) := dk_54 4 (dk_at dksX5_readText_3 3 rfl rfl)
theorem dX5_readText_76 : decode cX5_readText 76 = .ok (.aload_n 0, 1) := dk_42 (dk_at dksX5_readText_3 5 rfl rfl)
theorem dX5_readText_77 : decode cX5_readText 77 = .ok (.bipush 59, 2) := dk_16 59 (dk_at dksX5_readText_3 6 rfl rfl)
theorem dX5_readText_79 : decode cX5_readText 79 = .ok (.invokevirtual 382, 3) := dk_182 1 126 (dk_at dksX5_readText_3 8 rfl rfl)
theorem dX5_readText_82 : decode cX5_readText 82 = .ok (.aload_n 0, 1) := dk_42 (dk_at dksX5_readText_3 11 rfl rfl)
theorem dX5_readText_83 : decode cX5_readText 83 = .ok (.iload_n 1, 1) := dk_27 (dk_at dksX5_readText_3 12 rfl rfl)
theorem dX5_readText_84 : decode cX5_readText 84 = .ok (.iload_n 2, 1) := dk_28 (dk_at dksX5_readText_3 13 rfl rfl)
theorem dX5_readText_85 : decode cX5_readText 85 = .ok (.iload_n 3, 1) := dk_29 (dk_at dksX5_readText_3 14 rfl rfl)
theorem dX5_readText_86 : decode cX5_readText 86 = .ok (.iload 4, 2) := dk_21 4 (dk_at dksX5_readText_3 15 rfl rfl)
theorem dX5_readText_88 : decode cX5_readText 88 = .ok (.invokevirtual 84, 3) := dk_182 0 84 (dk_at dksX5_readText_3 17 rfl rfl)
theorem dX5_readText_91 : decode cX5_readText 91 = .ok (.aload_n 0, 1) := dk_42 (dk_at dksX5_readText_3 20 rfl rfl)
theorem dX5_readText_92 : decode cX5_readText 92 = .ok (.getfield 331, 3) := dk_180 1 75 (dk_at dksX5_readText_3 21 rfl rfl)
theorem dX5_readText_95 : decode cX5_readText 95 = .ok (.ifCond .ne 17, 3) := dk_154 0 17 (dk_at dksX5_readText_4 0 rfl rfl)
theorem dX5_readText_98 : decode cX5_readText 98 = .ok (.aload_n 0, 1) := dk_42 (dk_at dksX5_readText_4 3 rfl rfl)
theorem dX5_readText_99 : decode cX5_readText 99 = .ok (.getfield 322, 3) := dk_180 1 66 (dk_at dksX5_readText_4 4 rfl rfl)
theorem dX5_readText_102 : decode cX5_readText 102 = .ok (.ifCond .eq 10, 3) := dk_153 0 10 (dk_at dksX5_readText_4 7 rfl rfl)
theorem dX5_readText_105 : decode cX5_readText 105 = .ok (.aload_n 0, 1) := dk_42 (dk_at dksX5_readText_4 10 rfl rfl)
theorem dX5_readText_106 : decode cX5_readText 106 = .ok (.invokevirtual 387, 3) := dk_182 1 131 (dk_at dksX5_readText_4 11 rfl rfl)
theorem dX5_readText_109 : decode cX5_readText 109 = .ok (.goto (-18), 3) := dk_167 255 238 (dk_at dksX5_readText_4 14 rfl rfl)
theorem dX5_readText_112 : decode cX5_readText 112 = .ok (.return_, 1) := dk_177 (dk_at dksX5_readText_4 17 rfl rfl)
abbrev cX5_isWord : ByteArray := prog_21_method_126_code
def yX5_isWord : MethodName := ⟨RX5, "isWord", "(Ljava/lang/String;)Z"⟩
def dkwX5_isWord_3 : List UInt8 := [167, 0, 4, 3, 61, 132, 3, 1, 167, 255, 216, 28, 172]
abbrev dktX5_isWord_3 : List UInt8 := dkwX5_isWord_3 ++ []
def dkwX5_isWord_2 : List UInt8 := [162, 0, 34, 43, 29, 182, 1, 90, 42, 180, 0, 57, 42, 180, 1, 63, 29, 96, 46, 160, 0, 7, 4]
abbrev dktX5_isWord_2 : List UInt8 := dkwX5_isWord_2 ++ dktX5_isWord_3
def dkwX5_isWord_1 : List UInt8 := [180, 1, 63, 100, 160, 0, 7, 4, 167, 0, 4, 3, 61, 3, 62, 28, 153, 0, 42, 29, 43, 182, 1, 87]
abbrev dktX5_isWord_1 : List UInt8 := dkwX5_isWord_1 ++ dktX5_isWord_2
def dkwX5_isWord_0 : List UInt8 := [42, 180, 1, 75, 154, 0, 31, 42, 180, 1, 66, 4, 160, 0, 23, 43, 182, 1, 87, 42, 180, 1, 60, 42]
abbrev dktX5_isWord_0 : List UInt8 := dkwX5_isWord_0 ++ dktX5_isWord_1
theorem dksX5_isWord_0 : cX5_isWord.data.toList.drop 0 = dktX5_isWord_0 := by decide +kernel
theorem dksX5_isWord_1 : cX5_isWord.data.toList.drop 24 = dktX5_isWord_1 := dk_seg dksX5_isWord_0 24 rfl rfl
theorem dksX5_isWord_2 : cX5_isWord.data.toList.drop 48 = dktX5_isWord_2 := dk_seg dksX5_isWord_1 24 rfl rfl
theorem dksX5_isWord_3 : cX5_isWord.data.toList.drop 71 = dktX5_isWord_3 := dk_seg dksX5_isWord_2 23 rfl rfl
theorem dX5_isWord_0 : decode cX5_isWord 0 = .ok (.aload_n 0, 1) := dk_42 (dk_at dksX5_isWord_0 0 rfl rfl)
theorem dX5_isWord_1 : decode cX5_isWord 1 = .ok (.getfield 331, 3) := dk_180 1 75 (dk_at dksX5_isWord_0 1 rfl rfl)
theorem dX5_isWord_4 : decode cX5_isWord 4 = .ok (.ifCond .ne 31, 3) := dk_154 0 31 (dk_at dksX5_isWord_0 4 rfl rfl)
theorem dX5_isWord_7 : decode cX5_isWord 7 = .ok (.aload_n 0, 1) := dk_42 (dk_at dksX5_isWord_0 7 rfl rfl)
theorem dX5_isWord_8 : decode cX5_isWord 8 = .ok (.getfield 322, 3) := dk_180 1 66 (dk_at dksX5_isWord_0 8 rfl rfl)
theorem dX5_isWord_11 : decode cX5_isWord 11 = .ok (.iconst 1, 1) := dk_4 (dk_at dksX5_isWord_0 11 rfl rfl)
theorem dX5_isWord_12 : decode cX5_isWord 12 = .ok (.if_icmp .ne 23, 3) := dk_160 0 23 (dk_at dksX5_isWord_0 12 rfl rfl)
theorem dX5_isWord_15 : decode cX5_isWord 15 = .ok (.aload_n 1, 1) := dk_43 (dk_at dksX5_isWord_0 15 rfl rfl)
theorem dX5_isWord_16 : decode cX5_isWord 16 = .ok (.invokevirtual 343, 3) := dk_182 1 87 (dk_at dksX5_isWord_0 16 rfl rfl)
theorem dX5_isWord_19 : decode cX5_isWord 19 = .ok (.aload_n 0, 1) := dk_42 (dk_at dksX5_isWord_0 19 rfl rfl)
theorem dX5_isWord_20 : decode cX5_isWord 20 = .ok (.getfield 316, 3) := dk_180 1 60 (dk_at dksX5_isWord_0 20 rfl rfl)
theorem dX5_isWord_23 : decode cX5_isWord 23 = .ok (.aload_n 0, 1) := dk_42 (dk_at dksX5_isWord_0 23 rfl rfl)
theorem dX5_isWord_24 : decode cX5_isWord 24 = .ok (.getfield 319, 3) := dk_180 1 63 (dk_at dksX5_isWord_1 0 rfl rfl)
theorem dX5_isWord_27 : decode cX5_isWord 27 = .ok (.isub, 1) := dk_100 (dk_at dksX5_isWord_1 3 rfl rfl)
theorem dX5_isWord_28 : decode cX5_isWord 28 = .ok (.if_icmp .ne 7, 3) := dk_160 0 7 (dk_at dksX5_isWord_1 4 rfl rfl)
theorem dX5_isWord_31 : decode cX5_isWord 31 = .ok (.iconst 1, 1) := dk_4 (dk_at dksX5_isWord_1 7 rfl rfl)
theorem dX5_isWord_32 : decode cX5_isWord 32 = .ok (.goto 4, 3) := dk_167 0 4 (dk_at dksX5_isWord_1 8 rfl rfl)
theorem dX5_isWord_35 : decode cX5_isWord 35 = .ok (.iconst 0, 1) := dk_3 (dk_at dksX5_isWord_1 11 rfl rfl)
theorem dX5_isWord_36 : decode cX5_isWord 36 = .ok (.istore_n 2, 1) := dk_61 (dk_at dksX5_isWord_1 12 rfl rfl)
theorem dX5_isWord_37 : decode cX5_isWord 37 = .ok (.iconst 0, 1) := dk_3 (dk_at dksX5_isWord_1 13 rfl rfl)
theorem dX5_isWord_38 : decode cX5_isWord 38 = .ok (.istore_n 3, 1) := dk_62 (dk_at dksX5_isWord_1 14 rfl rfl)
theorem dX5_isWord_39 : decode cX5_isWord 39 = .ok (.iload_n 2, 1) := dk_28 (dk_at dksX5_isWord_1 15 rfl rfl)
theorem dX5_isWord_40 : decode cX5_isWord 40 = .ok (.ifCond .eq 42, 3) := dk_153 0 42 (dk_at dksX5_isWord_1 16 rfl rfl)
theorem dX5_isWord_43 : decode cX5_isWord 43 = .ok (.iload_n 3, 1) := dk_29 (dk_at dksX5_isWord_1 19 rfl rfl)
theorem dX5_isWord_44 : decode cX5_isWord 44 = .ok (.aload_n 1, 1) := dk_43 (dk_at dksX5_isWord_1 20 rfl rfl)
theorem dX5_isWord_45 : decode cX5_isWord 45 = .ok (.invokevirtual 343, 3) := dk_182 1 87 (dk_at dksX5_isWord_1 21 rfl rfl)
theorem dX5_isWord_48 : decode cX5_isWord 48 = .ok (.if_icmp .ge 34, 3) := dk_162 0 34 (dk_at dksX5_isWord_2 0 rfl rfl)
theorem dX5_isWord_51 : decode cX5_isWord 51 = .ok (.aload_n 1, 1) := dk_43 (dk_at dksX5_isWord_2 3 rfl rfl)
theorem dX5_isWord_52 : decode cX5_isWord 52 = .ok (.iload_n 3, 1) := dk_29 (dk_at dksX5_isWord_2 4 rfl rfl)
theorem dX5_isWord_53 : decode cX5_isWord 53 = .ok (.invokevirtual 346, 3) := dk_182 1 90 (dk_at dksX5_isWord_2 5 rfl rfl)
theorem dX5_isWord_56 : decode cX5_isWord 56 = .ok (.aload_n 0, 1) := dk_42 (dk_at dksX5_isWord_2 8 rfl rfl)
theorem dX5_isWord_57 : decode cX5_isWord 57 = .ok (.getfield 57, 3) := dk_180 0 57 (dk_at dksX5_isWord_2 9 rfl rfl)
theorem dX5_isWord_60 : decode cX5_isWord 60 = .ok (.aload_n 0, 1) := dk_42 (dk_at dksX5_isWord_2 12 rfl rfl)
theorem dX5_isWord_61 : decode cX5_isWord 61 = .ok (.getfield 319, 3) := dk_180 1 63 (dk_at dksX5_isWord_2 13 rfl rfl)
theorem dX5_isWord_64 : decode cX5_isWord 64 = .ok (.iload_n 3, 1) := dk_29 (dk_at dksX5_isWord_2 16 rfl rfl)
theorem dX5_isWord_65 : decode cX5_isWord 65 = .ok (.iadd, 1) := dk_96 (dk_at dksX5_isWord_2 17 rfl rfl)
theorem dX5_isWord_66 : decode cX5_isWord 66 = .ok (.iaload, 1) := dk_46 (dk_at dksX5_isWord_2 18 rfl rfl)
theorem dX5_isWord_67 : decode cX5_isWord 67 = .ok (.if_icmp .ne 7, 3) := dk_160 0 7 (dk_at dksX5_isWord_2 19 rfl rfl)
theorem dX5_isWord_70 : decode cX5_isWord 70 = .ok (.iconst 1, 1) := dk_4 (dk_at dksX5_isWord_2 22 rfl rfl)
theorem dX5_isWord_71 : decode cX5_isWord 71 = .ok (.goto 4, 3) := dk_167 0 4 (dk_at dksX5_isWord_3 0 rfl rfl)
theorem dX5_isWord_74 : decode cX5_isWord 74 = .ok (.iconst 0, 1) := dk_3 (dk_at dksX5_isWord_3 3 rfl rfl)
theorem dX5_isWord_75 : decode cX5_isWord 75 = .ok (.istore_n 2, 1) := dk_61 (dk_at dksX5_isWord_3 4 rfl rfl)
theorem dX5_isWord_76 : decode cX5_isWord 76 = .ok (.iinc 3 1, 3) := dk_132 3 1 (dk_at dksX5_isWord_3 5 rfl rfl)
theorem dX5_isWord_79 : decode cX5_isWord 79 = .ok (.goto (-40), 3) := dk_167 255 216 (dk_at dksX5_isWord_3 8 rfl rfl)
theorem dX5_isWord_82 : decode cX5_isWord 82 = .ok (.iload_n 2, 1) := dk_28 (dk_at dksX5_isWord_3 11 rfl rfl)
theorem dX5_isWord_83 : decode cX5_isWord 83 = .ok (.ireturn, 1) := dk_172 (dk_at dksX5_isWord_3 12 rfl rfl)
abbrev cX5_check : ByteArray := prog_21_method_123_code
def yX5_check : MethodName := ⟨RX5, "check", "(ZI)V"⟩
def dkwX5_check_1 : List UInt8 := [177]
abbrev dktX5_check_1 : List UInt8 := dkwX5_check_1 ++ []
def dkwX5_check_0 : List UInt8 := [27, 154, 0, 23, 42, 180, 1, 75, 154, 0, 16, 42, 28, 181, 1, 75, 42, 42, 180, 1, 63, 181, 1, 84]
abbrev dktX5_check_0 : List UInt8 := dkwX5_check_0 ++ dktX5_check_1
theorem dksX5_check_0 : cX5_check.data.toList.drop 0 = dktX5_check_0 := by decide +kernel
theorem dksX5_check_1 : cX5_check.data.toList.drop 24 = dktX5_check_1 := dk_seg dksX5_check_0 24 rfl rfl
theorem dX5_check_0 : decode cX5_check 0 = .ok (.iload_n 1, 1) := dk_27 (dk_at dksX5_check_0 0 rfl rfl)
theorem dX5_check_1 : decode cX5_check 1 = .ok (.ifCond .ne 23, 3) := dk_154 0 23 (dk_at dksX5_check_0 1 rfl rfl)
theorem dX5_check_4 : decode cX5_check 4 = .ok (.aload_n 0, 1) := dk_42 (dk_at dksX5_check_0 4 rfl rfl)
theorem dX5_check_5 : decode cX5_check 5 = .ok (.getfield 331, 3) := dk_180 1 75 (dk_at dksX5_check_0 5 rfl rfl)
theorem dX5_check_8 : decode cX5_check 8 = .ok (.ifCond .ne 16, 3) := dk_154 0 16 (dk_at dksX5_check_0 8 rfl rfl)
theorem dX5_check_11 : decode cX5_check 11 = .ok (.aload_n 0, 1) := dk_42 (dk_at dksX5_check_0 11 rfl rfl)
theorem dX5_check_12 : decode cX5_check 12 = .ok (.iload_n 2, 1) := dk_28 (dk_at dksX5_check_0 12 rfl rfl)
theorem dX5_check_13 : decode cX5_check 13 = .ok (.putfield 331, 3) := dk_181 1 75 (dk_at dksX5_check_0 13 rfl rfl)
theorem dX5_check_16 : decode cX5_check 16 = .ok (.aload_n 0, 1) := dk_42 (dk_at dksX5_check_0 16 rfl rfl)
theorem dX5_check_17 : decode cX5_check 17 = .ok (.aload_n 0, 1) := dk_42 (dk_at dksX5_check_0 17 rfl rfl)
theorem dX5_check_18 : decode cX5_check 18 = .ok (.getfield 319, 3) := dk_180 1 63 (dk_at dksX5_check_0 18 rfl rfl)
theorem dX5_check_21 : decode cX5_check 21 = .ok (.putfield 340, 3) := dk_181 1 84 (dk_at dksX5_check_0 21 rfl rfl)
theorem dX5_check_24 : decode cX5_check 24 = .ok (.return_, 1) := dk_177 (dk_at dksX5_check_1 0 rfl rfl)
abbrev cX5_advance : ByteArray := prog_21_method_124_code
def yX5_advance : MethodName := ⟨RX5, "advance", "()V"⟩
def dkwX5_advance_0 : List UInt8 := [42, 180, 1, 75, 154, 0, 7, 42, 182, 1, 81, 177]
abbrev dktX5_advance_0 : List UInt8 := dkwX5_advance_0 ++ []
theorem dksX5_advance_0 : cX5_advance.data.toList.drop 0 = dktX5_advance_0 := by decide +kernel
theorem dX5_advance_0 : decode cX5_advance 0 = .ok (.aload_n 0, 1) := dk_42 (dk_at dksX5_advance_0 0 rfl rfl)
theorem dX5_advance_1 : decode cX5_advance 1 = .ok (.getfield 331, 3) := dk_180 1 75 (dk_at dksX5_advance_0 1 rfl rfl)
theorem dX5_advance_4 : decode cX5_advance 4 = .ok (.ifCond .ne 7, 3) := dk_154 0 7 (dk_at dksX5_advance_0 4 rfl rfl)
theorem dX5_advance_7 : decode cX5_advance 7 = .ok (.aload_n 0, 1) := dk_42 (dk_at dksX5_advance_0 7 rfl rfl)
theorem dX5_advance_8 : decode cX5_advance 8 = .ok (.invokevirtual 337, 3) := dk_182 1 81 (dk_at dksX5_advance_0 8 rfl rfl)
theorem dX5_advance_11 : decode cX5_advance 11 = .ok (.return_, 1) := dk_177 (dk_at dksX5_advance_0 11 rfl rfl)
abbrev cX5_look : ByteArray := prog_21_method_130_code
def yX5_look : MethodName := ⟨RX5, "look", "(II)I"⟩
def dkwX5_look_1 : List UInt8 := [29, 27, 28, 184, 0, 102, 5, 182, 1, 101, 42, 180, 1, 75, 154, 0, 7, 29, 167, 0, 4, 27, 172]
abbrev dktX5_look_1 : List UInt8 := dkwX5_look_1 ++ []
def dkwX5_look_0 : List UInt8 := [42, 42, 180, 1, 66, 5, 160, 0, 7, 4, 167, 0, 4, 3, 4, 182, 1, 101, 42, 182, 1, 109, 62, 42]
abbrev dktX5_look_0 : List UInt8 := dkwX5_look_0 ++ dktX5_look_1
theorem dksX5_look_0 : cX5_look.data.toList.drop 0 = dktX5_look_0 := by decide +kernel
theorem dksX5_look_1 : cX5_look.data.toList.drop 24 = dktX5_look_1 := dk_seg dksX5_look_0 24 rfl rfl
theorem dX5_look_0 : decode cX5_look 0 = .ok (.aload_n 0, 1) := dk_42 (dk_at dksX5_look_0 0 rfl rfl)
theorem dX5_look_1 : decode cX5_look 1 = .ok (.aload_n 0, 1) := dk_42 (dk_at dksX5_look_0 1 rfl rfl)
theorem dX5_look_2 : decode cX5_look 2 = .ok (.getfield 322, 3) := dk_180 1 66 (dk_at dksX5_look_0 2 rfl rfl)
theorem dX5_look_5 : decode cX5_look 5 = .ok (.iconst 2, 1) := dk_5 (dk_at dksX5_look_0 5 rfl rfl)
theorem dX5_look_6 : decode cX5_look 6 = .ok (.if_icmp .ne 7, 3) := dk_160 0 7 (dk_at dksX5_look_0 6 rfl rfl)
theorem dX5_look_9 : decode cX5_look 9 = .ok (.iconst 1, 1) := dk_4 (dk_at dksX5_look_0 9 rfl rfl)
theorem dX5_look_10 : decode cX5_look 10 = .ok (.goto 4, 3) := dk_167 0 4 (dk_at dksX5_look_0 10 rfl rfl)
theorem dX5_look_13 : decode cX5_look 13 = .ok (.iconst 0, 1) := dk_3 (dk_at dksX5_look_0 13 rfl rfl)
theorem dX5_look_14 : decode cX5_look 14 = .ok (.iconst 1, 1) := dk_4 (dk_at dksX5_look_0 14 rfl rfl)
theorem dX5_look_15 : decode cX5_look 15 = .ok (.invokevirtual 357, 3) := dk_182 1 101 (dk_at dksX5_look_0 15 rfl rfl)
theorem dX5_look_18 : decode cX5_look 18 = .ok (.aload_n 0, 1) := dk_42 (dk_at dksX5_look_0 18 rfl rfl)
theorem dX5_look_19 : decode cX5_look 19 = .ok (.invokevirtual 365, 3) := dk_182 1 109 (dk_at dksX5_look_0 19 rfl rfl)
theorem dX5_look_22 : decode cX5_look 22 = .ok (.istore_n 3, 1) := dk_62 (dk_at dksX5_look_0 22 rfl rfl)
theorem dX5_look_23 : decode cX5_look 23 = .ok (.aload_n 0, 1) := dk_42 (dk_at dksX5_look_0 23 rfl rfl)
theorem dX5_look_24 : decode cX5_look 24 = .ok (.iload_n 3, 1) := dk_29 (dk_at dksX5_look_1 0 rfl rfl)
theorem dX5_look_25 : decode cX5_look 25 = .ok (.iload_n 1, 1) := dk_27 (dk_at dksX5_look_1 1 rfl rfl)
theorem dX5_look_26 : decode cX5_look 26 = .ok (.iload_n 2, 1) := dk_28 (dk_at dksX5_look_1 2 rfl rfl)
theorem dX5_look_27 : decode cX5_look 27 = .ok (.invokestatic 102, 3) := dk_184 0 102 (dk_at dksX5_look_1 3 rfl rfl)
theorem dX5_look_30 : decode cX5_look 30 = .ok (.iconst 2, 1) := dk_5 (dk_at dksX5_look_1 6 rfl rfl)
theorem dX5_look_31 : decode cX5_look 31 = .ok (.invokevirtual 357, 3) := dk_182 1 101 (dk_at dksX5_look_1 7 rfl rfl)
theorem dX5_look_34 : decode cX5_look 34 = .ok (.aload_n 0, 1) := dk_42 (dk_at dksX5_look_1 10 rfl rfl)
theorem dX5_look_35 : decode cX5_look 35 = .ok (.getfield 331, 3) := dk_180 1 75 (dk_at dksX5_look_1 11 rfl rfl)
theorem dX5_look_38 : decode cX5_look 38 = .ok (.ifCond .ne 7, 3) := dk_154 0 7 (dk_at dksX5_look_1 14 rfl rfl)
theorem dX5_look_41 : decode cX5_look 41 = .ok (.iload_n 3, 1) := dk_29 (dk_at dksX5_look_1 17 rfl rfl)
theorem dX5_look_42 : decode cX5_look 42 = .ok (.goto 4, 3) := dk_167 0 4 (dk_at dksX5_look_1 18 rfl rfl)
theorem dX5_look_45 : decode cX5_look 45 = .ok (.iload_n 1, 1) := dk_27 (dk_at dksX5_look_1 21 rfl rfl)
theorem dX5_look_46 : decode cX5_look 46 = .ok (.ireturn, 1) := dk_172 (dk_at dksX5_look_1 22 rfl rfl)
abbrev cX5_value : ByteArray := prog_21_method_129_code
def yX5_value : MethodName := ⟨RX5, "value", "()I"⟩
def dkwX5_value_2 : List UInt8 := [60, 132, 2, 1, 167, 255, 211, 27, 172]
abbrev dktX5_value_2 : List UInt8 := dkwX5_value_2 ++ []
def dkwX5_value_1 : List UInt8 := [19, 1, 108, 164, 0, 7, 27, 167, 0, 17, 16, 10, 27, 104, 42, 180, 0, 57, 28, 46, 96, 16, 48, 100]
abbrev dktX5_value_1 : List UInt8 := dkwX5_value_1 ++ dktX5_value_2
def dkwX5_value_0 : List UInt8 := [3, 60, 42, 180, 1, 63, 61, 28, 42, 180, 1, 60, 162, 0, 43, 42, 180, 1, 66, 5, 160, 0, 35, 27]
abbrev dktX5_value_0 : List UInt8 := dkwX5_value_0 ++ dktX5_value_1
theorem dksX5_value_0 : cX5_value.data.toList.drop 0 = dktX5_value_0 := by decide +kernel
theorem dksX5_value_1 : cX5_value.data.toList.drop 24 = dktX5_value_1 := dk_seg dksX5_value_0 24 rfl rfl
theorem dksX5_value_2 : cX5_value.data.toList.drop 48 = dktX5_value_2 := dk_seg dksX5_value_1 24 rfl rfl
theorem dX5_value_0 : decode cX5_value 0 = .ok (.iconst 0, 1) := dk_3 (dk_at dksX5_value_0 0 rfl rfl)
theorem dX5_value_1 : decode cX5_value 1 = .ok (.istore_n 1, 1) := dk_60 (dk_at dksX5_value_0 1 rfl rfl)
theorem dX5_value_2 : decode cX5_value 2 = .ok (.aload_n 0, 1) := dk_42 (dk_at dksX5_value_0 2 rfl rfl)
theorem dX5_value_3 : decode cX5_value 3 = .ok (.getfield 319, 3) := dk_180 1 63 (dk_at dksX5_value_0 3 rfl rfl)
theorem dX5_value_6 : decode cX5_value 6 = .ok (.istore_n 2, 1) := dk_61 (dk_at dksX5_value_0 6 rfl rfl)
theorem dX5_value_7 : decode cX5_value 7 = .ok (.iload_n 2, 1) := dk_28 (dk_at dksX5_value_0 7 rfl rfl)
theorem dX5_value_8 : decode cX5_value 8 = .ok (.aload_n 0, 1) := dk_42 (dk_at dksX5_value_0 8 rfl rfl)
theorem dX5_value_9 : decode cX5_value 9 = .ok (.getfield 316, 3) := dk_180 1 60 (dk_at dksX5_value_0 9 rfl rfl)
theorem dX5_value_12 : decode cX5_value 12 = .ok (.if_icmp .ge 43, 3) := dk_162 0 43 (dk_at dksX5_value_0 12 rfl rfl)
theorem dX5_value_15 : decode cX5_value 15 = .ok (.aload_n 0, 1) := dk_42 (dk_at dksX5_value_0 15 rfl rfl)
theorem dX5_value_16 : decode cX5_value 16 = .ok (.getfield 322, 3) := dk_180 1 66 (dk_at dksX5_value_0 16 rfl rfl)
theorem dX5_value_19 : decode cX5_value 19 = .ok (.iconst 2, 1) := dk_5 (dk_at dksX5_value_0 19 rfl rfl)
theorem dX5_value_20 : decode cX5_value 20 = .ok (.if_icmp .ne 35, 3) := dk_160 0 35 (dk_at dksX5_value_0 20 rfl rfl)
theorem dX5_value_23 : decode cX5_value 23 = .ok (.iload_n 1, 1) := dk_27 (dk_at dksX5_value_0 23 rfl rfl)
theorem dX5_value_24 : decode cX5_value 24 = .ok (.ldc_w 364, 3) := dk_19 1 108 (dk_at dksX5_value_1 0 rfl rfl)
theorem dX5_value_27 : decode cX5_value 27 = .ok (.if_icmp .le 7, 3) := dk_164 0 7 (dk_at dksX5_value_1 3 rfl rfl)
theorem dX5_value_30 : decode cX5_value 30 = .ok (.iload_n 1, 1) := dk_27 (dk_at dksX5_value_1 6 rfl rfl)
theorem dX5_value_31 : decode cX5_value 31 = .ok (.goto 17, 3) := dk_167 0 17 (dk_at dksX5_value_1 7 rfl rfl)
theorem dX5_value_34 : decode cX5_value 34 = .ok (.bipush 10, 2) := dk_16 10 (dk_at dksX5_value_1 10 rfl rfl)
theorem dX5_value_36 : decode cX5_value 36 = .ok (.iload_n 1, 1) := dk_27 (dk_at dksX5_value_1 12 rfl rfl)
theorem dX5_value_37 : decode cX5_value 37 = .ok (.imul, 1) := dk_104 (dk_at dksX5_value_1 13 rfl rfl)
theorem dX5_value_38 : decode cX5_value 38 = .ok (.aload_n 0, 1) := dk_42 (dk_at dksX5_value_1 14 rfl rfl)
theorem dX5_value_39 : decode cX5_value 39 = .ok (.getfield 57, 3) := dk_180 0 57 (dk_at dksX5_value_1 15 rfl rfl)
theorem dX5_value_42 : decode cX5_value 42 = .ok (.iload_n 2, 1) := dk_28 (dk_at dksX5_value_1 18 rfl rfl)
theorem dX5_value_43 : decode cX5_value 43 = .ok (.iaload, 1) := dk_46 (dk_at dksX5_value_1 19 rfl rfl)
theorem dX5_value_44 : decode cX5_value 44 = .ok (.iadd, 1) := dk_96 (dk_at dksX5_value_1 20 rfl rfl)
theorem dX5_value_45 : decode cX5_value 45 = .ok (.bipush 48, 2) := dk_16 48 (dk_at dksX5_value_1 21 rfl rfl)
theorem dX5_value_47 : decode cX5_value 47 = .ok (.isub, 1) := dk_100 (dk_at dksX5_value_1 23 rfl rfl)
theorem dX5_value_48 : decode cX5_value 48 = .ok (.istore_n 1, 1) := dk_60 (dk_at dksX5_value_2 0 rfl rfl)
theorem dX5_value_49 : decode cX5_value 49 = .ok (.iinc 2 1, 3) := dk_132 2 1 (dk_at dksX5_value_2 1 rfl rfl)
theorem dX5_value_52 : decode cX5_value 52 = .ok (.goto (-45), 3) := dk_167 255 211 (dk_at dksX5_value_2 4 rfl rfl)
theorem dX5_value_55 : decode cX5_value 55 = .ok (.iload_n 1, 1) := dk_27 (dk_at dksX5_value_2 7 rfl rfl)
theorem dX5_value_56 : decode cX5_value 56 = .ok (.ireturn, 1) := dk_172 (dk_at dksX5_value_2 8 rfl rfl)
abbrev cX5_readNumber : ByteArray := prog_21_method_131_code
def yX5_readNumber : MethodName := ⟨RX5, "readNumber", "(II)I"⟩
def dkwX5_readNumber_0 : List UInt8 := [42, 27, 28, 182, 1, 112, 62, 42, 182, 1, 105, 29, 172]
abbrev dktX5_readNumber_0 : List UInt8 := dkwX5_readNumber_0 ++ []
theorem dksX5_readNumber_0 : cX5_readNumber.data.toList.drop 0 = dktX5_readNumber_0 := by decide +kernel
theorem dX5_readNumber_0 : decode cX5_readNumber 0 = .ok (.aload_n 0, 1) := dk_42 (dk_at dksX5_readNumber_0 0 rfl rfl)
theorem dX5_readNumber_1 : decode cX5_readNumber 1 = .ok (.iload_n 1, 1) := dk_27 (dk_at dksX5_readNumber_0 1 rfl rfl)
theorem dX5_readNumber_2 : decode cX5_readNumber 2 = .ok (.iload_n 2, 1) := dk_28 (dk_at dksX5_readNumber_0 2 rfl rfl)
theorem dX5_readNumber_3 : decode cX5_readNumber 3 = .ok (.invokevirtual 368, 3) := dk_182 1 112 (dk_at dksX5_readNumber_0 3 rfl rfl)
theorem dX5_readNumber_6 : decode cX5_readNumber 6 = .ok (.istore_n 3, 1) := dk_62 (dk_at dksX5_readNumber_0 6 rfl rfl)
theorem dX5_readNumber_7 : decode cX5_readNumber 7 = .ok (.aload_n 0, 1) := dk_42 (dk_at dksX5_readNumber_0 7 rfl rfl)
theorem dX5_readNumber_8 : decode cX5_readNumber 8 = .ok (.invokevirtual 361, 3) := dk_182 1 105 (dk_at dksX5_readNumber_0 8 rfl rfl)
theorem dX5_readNumber_11 : decode cX5_readNumber 11 = .ok (.iload_n 3, 1) := dk_29 (dk_at dksX5_readNumber_0 11 rfl rfl)
theorem dX5_readNumber_12 : decode cX5_readNumber 12 = .ok (.ireturn, 1) := dk_172 (dk_at dksX5_readNumber_0 12 rfl rfl)
abbrev cX5_expect : ByteArray := prog_21_method_128_code
def yX5_expect : MethodName := ⟨RX5, "expect", "(I)V"⟩
def dkwX5_expect_0 : List UInt8 := [42, 42, 27, 182, 1, 98, 4, 182, 1, 101, 42, 182, 1, 105, 177]
abbrev dktX5_expect_0 : List UInt8 := dkwX5_expect_0 ++ []
theorem dksX5_expect_0 : cX5_expect.data.toList.drop 0 = dktX5_expect_0 := by decide +kernel
theorem dX5_expect_0 : decode cX5_expect 0 = .ok (.aload_n 0, 1) := dk_42 (dk_at dksX5_expect_0 0 rfl rfl)
theorem dX5_expect_1 : decode cX5_expect 1 = .ok (.aload_n 0, 1) := dk_42 (dk_at dksX5_expect_0 1 rfl rfl)
theorem dX5_expect_2 : decode cX5_expect 2 = .ok (.iload_n 1, 1) := dk_27 (dk_at dksX5_expect_0 2 rfl rfl)
theorem dX5_expect_3 : decode cX5_expect 3 = .ok (.invokevirtual 354, 3) := dk_182 1 98 (dk_at dksX5_expect_0 3 rfl rfl)
theorem dX5_expect_6 : decode cX5_expect 6 = .ok (.iconst 1, 1) := dk_4 (dk_at dksX5_expect_0 6 rfl rfl)
theorem dX5_expect_7 : decode cX5_expect 7 = .ok (.invokevirtual 357, 3) := dk_182 1 101 (dk_at dksX5_expect_0 7 rfl rfl)
theorem dX5_expect_10 : decode cX5_expect 10 = .ok (.aload_n 0, 1) := dk_42 (dk_at dksX5_expect_0 10 rfl rfl)
theorem dX5_expect_11 : decode cX5_expect 11 = .ok (.invokevirtual 361, 3) := dk_182 1 105 (dk_at dksX5_expect_0 11 rfl rfl)
theorem dX5_expect_14 : decode cX5_expect 14 = .ok (.return_, 1) := dk_177 (dk_at dksX5_expect_0 14 rfl rfl)
abbrev cX5_isSymbol : ByteArray := prog_21_method_125_code
def yX5_isSymbol : MethodName := ⟨RX5, "isSymbol", "(I)Z"⟩
def dkwX5_isSymbol_1 : List UInt8 := [27, 160, 0, 7, 4, 167, 0, 4, 3, 172]
abbrev dktX5_isSymbol_1 : List UInt8 := dkwX5_isSymbol_1 ++ []
def dkwX5_isSymbol_0 : List UInt8 := [42, 180, 1, 75, 154, 0, 28, 42, 180, 1, 66, 6, 160, 0, 20, 42, 180, 0, 57, 42, 180, 1, 63, 46]
abbrev dktX5_isSymbol_0 : List UInt8 := dkwX5_isSymbol_0 ++ dktX5_isSymbol_1
theorem dksX5_isSymbol_0 : cX5_isSymbol.data.toList.drop 0 = dktX5_isSymbol_0 := by decide +kernel
theorem dksX5_isSymbol_1 : cX5_isSymbol.data.toList.drop 24 = dktX5_isSymbol_1 := dk_seg dksX5_isSymbol_0 24 rfl rfl
theorem dX5_isSymbol_0 : decode cX5_isSymbol 0 = .ok (.aload_n 0, 1) := dk_42 (dk_at dksX5_isSymbol_0 0 rfl rfl)
theorem dX5_isSymbol_1 : decode cX5_isSymbol 1 = .ok (.getfield 331, 3) := dk_180 1 75 (dk_at dksX5_isSymbol_0 1 rfl rfl)
theorem dX5_isSymbol_4 : decode cX5_isSymbol 4 = .ok (.ifCond .ne 28, 3) := dk_154 0 28 (dk_at dksX5_isSymbol_0 4 rfl rfl)
theorem dX5_isSymbol_7 : decode cX5_isSymbol 7 = .ok (.aload_n 0, 1) := dk_42 (dk_at dksX5_isSymbol_0 7 rfl rfl)
theorem dX5_isSymbol_8 : decode cX5_isSymbol 8 = .ok (.getfield 322, 3) := dk_180 1 66 (dk_at dksX5_isSymbol_0 8 rfl rfl)
theorem dX5_isSymbol_11 : decode cX5_isSymbol 11 = .ok (.iconst 3, 1) := dk_6 (dk_at dksX5_isSymbol_0 11 rfl rfl)
theorem dX5_isSymbol_12 : decode cX5_isSymbol 12 = .ok (.if_icmp .ne 20, 3) := dk_160 0 20 (dk_at dksX5_isSymbol_0 12 rfl rfl)
theorem dX5_isSymbol_15 : decode cX5_isSymbol 15 = .ok (.aload_n 0, 1) := dk_42 (dk_at dksX5_isSymbol_0 15 rfl rfl)
theorem dX5_isSymbol_16 : decode cX5_isSymbol 16 = .ok (.getfield 57, 3) := dk_180 0 57 (dk_at dksX5_isSymbol_0 16 rfl rfl)
theorem dX5_isSymbol_19 : decode cX5_isSymbol 19 = .ok (.aload_n 0, 1) := dk_42 (dk_at dksX5_isSymbol_0 19 rfl rfl)
theorem dX5_isSymbol_20 : decode cX5_isSymbol 20 = .ok (.getfield 319, 3) := dk_180 1 63 (dk_at dksX5_isSymbol_0 20 rfl rfl)
theorem dX5_isSymbol_23 : decode cX5_isSymbol 23 = .ok (.iaload, 1) := dk_46 (dk_at dksX5_isSymbol_0 23 rfl rfl)
theorem dX5_isSymbol_24 : decode cX5_isSymbol 24 = .ok (.iload_n 1, 1) := dk_27 (dk_at dksX5_isSymbol_1 0 rfl rfl)
theorem dX5_isSymbol_25 : decode cX5_isSymbol 25 = .ok (.if_icmp .ne 7, 3) := dk_160 0 7 (dk_at dksX5_isSymbol_1 1 rfl rfl)
theorem dX5_isSymbol_28 : decode cX5_isSymbol 28 = .ok (.iconst 1, 1) := dk_4 (dk_at dksX5_isSymbol_1 4 rfl rfl)
theorem dX5_isSymbol_29 : decode cX5_isSymbol 29 = .ok (.goto 4, 3) := dk_167 0 4 (dk_at dksX5_isSymbol_1 5 rfl rfl)
theorem dX5_isSymbol_32 : decode cX5_isSymbol 32 = .ok (.iconst 0, 1) := dk_3 (dk_at dksX5_isSymbol_1 8 rfl rfl)
theorem dX5_isSymbol_33 : decode cX5_isSymbol 33 = .ok (.ireturn, 1) := dk_172 (dk_at dksX5_isSymbol_1 9 rfl rfl)
abbrev cX5_readGood : ByteArray := prog_21_method_133_code
def yX5_readGood : MethodName := ⟨RX5, "readGood", "()V"⟩
def dkwX5_readGood_5 : List UInt8 := [21, 4, 21, 5, 182, 0, 88, 177]
abbrev dktX5_readGood_5 : List UInt8 := dkwX5_readGood_5 ++ []
def dkwX5_readGood_4 : List UInt8 := [167, 0, 4, 3, 54, 5, 42, 16, 59, 182, 1, 126, 42, 180, 1, 75, 154, 0, 14, 42, 27, 28, 29]
abbrev dktX5_readGood_4 : List UInt8 := dkwX5_readGood_4 ++ dktX5_readGood_5
def dkwX5_readGood_3 : List UInt8 := [42, 4, 7, 182, 1, 118, 54, 4, 42, 19, 1, 121, 182, 1, 123, 153, 0, 12, 42, 4, 8, 182, 1, 118]
abbrev dktX5_readGood_3 : List UInt8 := dkwX5_readGood_3 ++ dktX5_readGood_4
def dkwX5_readGood_2 : List UInt8 := [182, 1, 101, 42, 182, 1, 105, 42, 4, 17, 3, 231, 182, 1, 118, 61, 42, 3, 16, 9, 182, 1, 118, 62]
abbrev dktX5_readGood_2 : List UInt8 := dkwX5_readGood_2 ++ dktX5_readGood_3
def dkwX5_readGood_1 : List UInt8 := [180, 1, 75, 154, 0, 14, 42, 180, 0, 51, 8, 46, 16, 24, 162, 0, 7, 4, 167, 0, 4, 3, 7]
abbrev dktX5_readGood_1 : List UInt8 := dkwX5_readGood_1 ++ dktX5_readGood_2
def dkwX5_readGood_0 : List UInt8 := [42, 182, 1, 115, 60, 42, 27, 2, 159, 0, 7, 4, 167, 0, 4, 3, 4, 182, 1, 101, 42, 42]
abbrev dktX5_readGood_0 : List UInt8 := dkwX5_readGood_0 ++ dktX5_readGood_1
theorem dksX5_readGood_0 : cX5_readGood.data.toList.drop 0 = dktX5_readGood_0 := by decide +kernel
theorem dksX5_readGood_1 : cX5_readGood.data.toList.drop 22 = dktX5_readGood_1 := dk_seg dksX5_readGood_0 22 rfl rfl
theorem dksX5_readGood_2 : cX5_readGood.data.toList.drop 45 = dktX5_readGood_2 := dk_seg dksX5_readGood_1 23 rfl rfl
theorem dksX5_readGood_3 : cX5_readGood.data.toList.drop 69 = dktX5_readGood_3 := dk_seg dksX5_readGood_2 24 rfl rfl
theorem dksX5_readGood_4 : cX5_readGood.data.toList.drop 93 = dktX5_readGood_4 := dk_seg dksX5_readGood_3 24 rfl rfl
theorem dksX5_readGood_5 : cX5_readGood.data.toList.drop 116 = dktX5_readGood_5 := dk_seg dksX5_readGood_4 23 rfl rfl
theorem dX5_readGood_0 : decode cX5_readGood 0 = .ok (.aload_n 0, 1) := dk_42 (dk_at dksX5_readGood_0 0 rfl rfl)
theorem dX5_readGood_1 : decode cX5_readGood 1 = .ok (.invokevirtual 371, 3) := dk_182 1 115 (dk_at dksX5_readGood_0 1 rfl rfl)
theorem dX5_readGood_4 : decode cX5_readGood 4 = .ok (.istore_n 1, 1) := dk_60 (dk_at dksX5_readGood_0 4 rfl rfl)
theorem dX5_readGood_5 : decode cX5_readGood 5 = .ok (.aload_n 0, 1) := dk_42 (dk_at dksX5_readGood_0 5 rfl rfl)
theorem dX5_readGood_6 : decode cX5_readGood 6 = .ok (.iload_n 1, 1) := dk_27 (dk_at dksX5_readGood_0 6 rfl rfl)
theorem dX5_readGood_7 : decode cX5_readGood 7 = .ok (.iconst (-1), 1) := dk_2 (dk_at dksX5_readGood_0 7 rfl rfl)
theorem dX5_readGood_8 : decode cX5_readGood 8 = .ok (.if_icmp .eq 7, 3) := dk_159 0 7 (dk_at dksX5_readGood_0 8 rfl rfl)
theorem dX5_readGood_11 : decode cX5_readGood 11 = .ok (.iconst 1, 1) := dk_4 (dk_at dksX5_readGood_0 11 rfl rfl)
theorem dX5_readGood_12 : decode cX5_readGood 12 = .ok (.goto 4, 3) := dk_167 0 4 (dk_at dksX5_readGood_0 12 rfl rfl)
theorem dX5_readGood_15 : decode cX5_readGood 15 = .ok (.iconst 0, 1) := dk_3 (dk_at dksX5_readGood_0 15 rfl rfl)
theorem dX5_readGood_16 : decode cX5_readGood 16 = .ok (.iconst 1, 1) := dk_4 (dk_at dksX5_readGood_0 16 rfl rfl)
theorem dX5_readGood_17 : decode cX5_readGood 17 = .ok (.invokevirtual 357, 3) := dk_182 1 101 (dk_at dksX5_readGood_0 17 rfl rfl)
theorem dX5_readGood_20 : decode cX5_readGood 20 = .ok (.aload_n 0, 1) := dk_42 (dk_at dksX5_readGood_0 20 rfl rfl)
theorem dX5_readGood_21 : decode cX5_readGood 21 = .ok (.aload_n 0, 1) := dk_42 (dk_at dksX5_readGood_0 21 rfl rfl)
theorem dX5_readGood_22 : decode cX5_readGood 22 = .ok (.getfield 331, 3) := dk_180 1 75 (dk_at dksX5_readGood_1 0 rfl rfl)
theorem dX5_readGood_25 : decode cX5_readGood 25 = .ok (.ifCond .ne 14, 3) := dk_154 0 14 (dk_at dksX5_readGood_1 3 rfl rfl)
theorem dX5_readGood_28 : decode cX5_readGood 28 = .ok (.aload_n 0, 1) := dk_42 (dk_at dksX5_readGood_1 6 rfl rfl)
theorem dX5_readGood_29 : decode cX5_readGood 29 = .ok (.getfield 51, 3) := dk_180 0 51 (dk_at dksX5_readGood_1 7 rfl rfl)
theorem dX5_readGood_32 : decode cX5_readGood 32 = .ok (.iconst 5, 1) := dk_8 (dk_at dksX5_readGood_1 10 rfl rfl)
theorem dX5_readGood_33 : decode cX5_readGood 33 = .ok (.iaload, 1) := dk_46 (dk_at dksX5_readGood_1 11 rfl rfl)
theorem dX5_readGood_34 : decode cX5_readGood 34 = .ok (.bipush 24, 2) := dk_16 24 (dk_at dksX5_readGood_1 12 rfl rfl)
theorem dX5_readGood_36 : decode cX5_readGood 36 = .ok (.if_icmp .ge 7, 3) := dk_162 0 7 (dk_at dksX5_readGood_1 14 rfl rfl)
theorem dX5_readGood_39 : decode cX5_readGood 39 = .ok (.iconst 1, 1) := dk_4 (dk_at dksX5_readGood_1 17 rfl rfl)
theorem dX5_readGood_40 : decode cX5_readGood 40 = .ok (.goto 4, 3) := dk_167 0 4 (dk_at dksX5_readGood_1 18 rfl rfl)
theorem dX5_readGood_43 : decode cX5_readGood 43 = .ok (.iconst 0, 1) := dk_3 (dk_at dksX5_readGood_1 21 rfl rfl)
theorem dX5_readGood_44 : decode cX5_readGood 44 = .ok (.iconst 4, 1) := dk_7 (dk_at dksX5_readGood_1 22 rfl rfl)
theorem dX5_readGood_45 : decode cX5_readGood 45 = .ok (.invokevirtual 357, 3) := dk_182 1 101 (dk_at dksX5_readGood_2 0 rfl rfl)
theorem dX5_readGood_48 : decode cX5_readGood 48 = .ok (.aload_n 0, 1) := dk_42 (dk_at dksX5_readGood_2 3 rfl rfl)
theorem dX5_readGood_49 : decode cX5_readGood 49 = .ok (.invokevirtual 361, 3) := dk_182 1 105 (dk_at dksX5_readGood_2 4 rfl rfl)
theorem dX5_readGood_52 : decode cX5_readGood 52 = .ok (.aload_n 0, 1) := dk_42 (dk_at dksX5_readGood_2 7 rfl rfl)
theorem dX5_readGood_53 : decode cX5_readGood 53 = .ok (.iconst 1, 1) := dk_4 (dk_at dksX5_readGood_2 8 rfl rfl)
theorem dX5_readGood_54 : decode cX5_readGood 54 = .ok (.sipush 999, 3) := dk_17 3 231 (dk_at dksX5_readGood_2 9 rfl rfl)
theorem dX5_readGood_57 : decode cX5_readGood 57 = .ok (.invokevirtual 374, 3) := dk_182 1 118 (dk_at dksX5_readGood_2 12 rfl rfl)
theorem dX5_readGood_60 : decode cX5_readGood 60 = .ok (.istore_n 2, 1) := dk_61 (dk_at dksX5_readGood_2 15 rfl rfl)
theorem dX5_readGood_61 : decode cX5_readGood 61 = .ok (.aload_n 0, 1) := dk_42 (dk_at dksX5_readGood_2 16 rfl rfl)
theorem dX5_readGood_62 : decode cX5_readGood 62 = .ok (.iconst 0, 1) := dk_3 (dk_at dksX5_readGood_2 17 rfl rfl)
theorem dX5_readGood_63 : decode cX5_readGood 63 = .ok (.bipush 9, 2) := dk_16 9 (dk_at dksX5_readGood_2 18 rfl rfl)
theorem dX5_readGood_65 : decode cX5_readGood 65 = .ok (.invokevirtual 374, 3) := dk_182 1 118 (dk_at dksX5_readGood_2 20 rfl rfl)
theorem dX5_readGood_68 : decode cX5_readGood 68 = .ok (.istore_n 3, 1) := dk_62 (dk_at dksX5_readGood_2 23 rfl rfl)
theorem dX5_readGood_69 : decode cX5_readGood 69 = .ok (.aload_n 0, 1) := dk_42 (dk_at dksX5_readGood_3 0 rfl rfl)
theorem dX5_readGood_70 : decode cX5_readGood 70 = .ok (.iconst 1, 1) := dk_4 (dk_at dksX5_readGood_3 1 rfl rfl)
theorem dX5_readGood_71 : decode cX5_readGood 71 = .ok (.iconst 4, 1) := dk_7 (dk_at dksX5_readGood_3 2 rfl rfl)
theorem dX5_readGood_72 : decode cX5_readGood 72 = .ok (.invokevirtual 374, 3) := dk_182 1 118 (dk_at dksX5_readGood_3 3 rfl rfl)
theorem dX5_readGood_75 : decode cX5_readGood 75 = .ok (.istore 4, 2) := dk_54 4 (dk_at dksX5_readGood_3 6 rfl rfl)
theorem dX5_readGood_77 : decode cX5_readGood 77 = .ok (.aload_n 0, 1) := dk_42 (dk_at dksX5_readGood_3 8 rfl rfl)
theorem dX5_readGood_78 : decode cX5_readGood 78 = .ok (.ldc_w 377, 3) := dk_19 1 121 (dk_at dksX5_readGood_3 9 rfl rfl)
theorem dX5_readGood_81 : decode cX5_readGood 81 = .ok (.invokevirtual 379, 3) := dk_182 1 123 (dk_at dksX5_readGood_3 12 rfl rfl)
theorem dX5_readGood_84 : decode cX5_readGood 84 = .ok (.ifCond .eq 12, 3) := dk_153 0 12 (dk_at dksX5_readGood_3 15 rfl rfl)
theorem dX5_readGood_87 : decode cX5_readGood 87 = .ok (.aload_n 0, 1) := dk_42 (dk_at dksX5_readGood_3 18 rfl rfl)
theorem dX5_readGood_88 : decode cX5_readGood 88 = .ok (.iconst 1, 1) := dk_4 (dk_at dksX5_readGood_3 19 rfl rfl)
theorem dX5_readGood_89 : decode cX5_readGood 89 = .ok (.iconst 5, 1) := dk_8 (dk_at dksX5_readGood_3 20 rfl rfl)
theorem dX5_readGood_90 : decode cX5_readGood 90 = .ok (.invokevirtual 374, 3) := dk_182 1 118 (dk_at dksX5_readGood_3 21 rfl rfl)
theorem dX5_readGood_93 : decode cX5_readGood 93 = .ok (.goto 4, 3) := dk_167 0 4 (dk_at dksX5_readGood_4 0 rfl rfl)
theorem dX5_readGood_96 : decode cX5_readGood 96 = .ok (.iconst 0, 1) := dk_3 (dk_at dksX5_readGood_4 3 rfl rfl)
theorem dX5_readGood_97 : decode cX5_readGood 97 = .ok (.istore 5, 2) := dk_54 5 (dk_at dksX5_readGood_4 4 rfl rfl)
theorem dX5_readGood_99 : decode cX5_readGood 99 = .ok (.aload_n 0, 1) := dk_42 (dk_at dksX5_readGood_4 6 rfl rfl)
theorem dX5_readGood_100 : decode cX5_readGood 100 = .ok (.bipush 59, 2) := dk_16 59 (dk_at dksX5_readGood_4 7 rfl rfl)
theorem dX5_readGood_102 : decode cX5_readGood 102 = .ok (.invokevirtual 382, 3) := dk_182 1 126 (dk_at dksX5_readGood_4 9 rfl rfl)
theorem dX5_readGood_105 : decode cX5_readGood 105 = .ok (.aload_n 0, 1) := dk_42 (dk_at dksX5_readGood_4 12 rfl rfl)
theorem dX5_readGood_106 : decode cX5_readGood 106 = .ok (.getfield 331, 3) := dk_180 1 75 (dk_at dksX5_readGood_4 13 rfl rfl)
theorem dX5_readGood_109 : decode cX5_readGood 109 = .ok (.ifCond .ne 14, 3) := dk_154 0 14 (dk_at dksX5_readGood_4 16 rfl rfl)
theorem dX5_readGood_112 : decode cX5_readGood 112 = .ok (.aload_n 0, 1) := dk_42 (dk_at dksX5_readGood_4 19 rfl rfl)
theorem dX5_readGood_113 : decode cX5_readGood 113 = .ok (.iload_n 1, 1) := dk_27 (dk_at dksX5_readGood_4 20 rfl rfl)
theorem dX5_readGood_114 : decode cX5_readGood 114 = .ok (.iload_n 2, 1) := dk_28 (dk_at dksX5_readGood_4 21 rfl rfl)
theorem dX5_readGood_115 : decode cX5_readGood 115 = .ok (.iload_n 3, 1) := dk_29 (dk_at dksX5_readGood_4 22 rfl rfl)
theorem dX5_readGood_116 : decode cX5_readGood 116 = .ok (.iload 4, 2) := dk_21 4 (dk_at dksX5_readGood_5 0 rfl rfl)
theorem dX5_readGood_118 : decode cX5_readGood 118 = .ok (.iload 5, 2) := dk_21 5 (dk_at dksX5_readGood_5 2 rfl rfl)
theorem dX5_readGood_120 : decode cX5_readGood 120 = .ok (.invokevirtual 88, 3) := dk_182 0 88 (dk_at dksX5_readGood_5 4 rfl rfl)
theorem dX5_readGood_123 : decode cX5_readGood 123 = .ok (.return_, 1) := dk_177 (dk_at dksX5_readGood_5 7 rfl rfl)
abbrev cX5_kindHere : ByteArray := prog_21_method_132_code
def yX5_kindHere : MethodName := ⟨RX5, "kindHere", "()I"⟩
def dkwX5_kindHere_1 : List UInt8 := [132, 1, 1, 167, 255, 233, 2, 172]
abbrev dktX5_kindHere_1 : List UInt8 := dkwX5_kindHere_1 ++ []
def dkwX5_kindHere_0 : List UInt8 := [3, 60, 27, 7, 162, 0, 24, 42, 42, 180, 0, 47, 27, 50, 182, 1, 94, 153, 0, 5, 27, 172]
abbrev dktX5_kindHere_0 : List UInt8 := dkwX5_kindHere_0 ++ dktX5_kindHere_1
theorem dksX5_kindHere_0 : cX5_kindHere.data.toList.drop 0 = dktX5_kindHere_0 := by decide +kernel
theorem dksX5_kindHere_1 : cX5_kindHere.data.toList.drop 22 = dktX5_kindHere_1 := dk_seg dksX5_kindHere_0 22 rfl rfl
theorem dX5_kindHere_0 : decode cX5_kindHere 0 = .ok (.iconst 0, 1) := dk_3 (dk_at dksX5_kindHere_0 0 rfl rfl)
theorem dX5_kindHere_1 : decode cX5_kindHere 1 = .ok (.istore_n 1, 1) := dk_60 (dk_at dksX5_kindHere_0 1 rfl rfl)
theorem dX5_kindHere_2 : decode cX5_kindHere 2 = .ok (.iload_n 1, 1) := dk_27 (dk_at dksX5_kindHere_0 2 rfl rfl)
theorem dX5_kindHere_3 : decode cX5_kindHere 3 = .ok (.iconst 4, 1) := dk_7 (dk_at dksX5_kindHere_0 3 rfl rfl)
theorem dX5_kindHere_4 : decode cX5_kindHere 4 = .ok (.if_icmp .ge 24, 3) := dk_162 0 24 (dk_at dksX5_kindHere_0 4 rfl rfl)
theorem dX5_kindHere_7 : decode cX5_kindHere 7 = .ok (.aload_n 0, 1) := dk_42 (dk_at dksX5_kindHere_0 7 rfl rfl)
theorem dX5_kindHere_8 : decode cX5_kindHere 8 = .ok (.aload_n 0, 1) := dk_42 (dk_at dksX5_kindHere_0 8 rfl rfl)
theorem dX5_kindHere_9 : decode cX5_kindHere 9 = .ok (.getfield 47, 3) := dk_180 0 47 (dk_at dksX5_kindHere_0 9 rfl rfl)
theorem dX5_kindHere_12 : decode cX5_kindHere 12 = .ok (.iload_n 1, 1) := dk_27 (dk_at dksX5_kindHere_0 12 rfl rfl)
theorem dX5_kindHere_13 : decode cX5_kindHere 13 = .ok (.aaload, 1) := dk_50 (dk_at dksX5_kindHere_0 13 rfl rfl)
theorem dX5_kindHere_14 : decode cX5_kindHere 14 = .ok (.invokevirtual 350, 3) := dk_182 1 94 (dk_at dksX5_kindHere_0 14 rfl rfl)
theorem dX5_kindHere_17 : decode cX5_kindHere 17 = .ok (.ifCond .eq 5, 3) := dk_153 0 5 (dk_at dksX5_kindHere_0 17 rfl rfl)
theorem dX5_kindHere_20 : decode cX5_kindHere 20 = .ok (.iload_n 1, 1) := dk_27 (dk_at dksX5_kindHere_0 20 rfl rfl)
theorem dX5_kindHere_21 : decode cX5_kindHere 21 = .ok (.ireturn, 1) := dk_172 (dk_at dksX5_kindHere_0 21 rfl rfl)
theorem dX5_kindHere_22 : decode cX5_kindHere 22 = .ok (.iinc 1 1, 3) := dk_132 1 1 (dk_at dksX5_kindHere_1 0 rfl rfl)
theorem dX5_kindHere_25 : decode cX5_kindHere 25 = .ok (.goto (-23), 3) := dk_167 255 233 (dk_at dksX5_kindHere_1 3 rfl rfl)
theorem dX5_kindHere_28 : decode cX5_kindHere 28 = .ok (.iconst (-1), 1) := dk_2 (dk_at dksX5_kindHere_1 6 rfl rfl)
theorem dX5_kindHere_29 : decode cX5_kindHere 29 = .ok (.ireturn, 1) := dk_172 (dk_at dksX5_kindHere_1 7 rfl rfl)
abbrev cX5_accept : ByteArray := prog_21_method_127_code
def yX5_accept : MethodName := ⟨RX5, "accept", "(Ljava/lang/String;)Z"⟩
def dkwX5_accept_0 : List UInt8 := [42, 43, 182, 1, 94, 61, 28, 153, 0, 7, 42, 182, 1, 81, 28, 172]
abbrev dktX5_accept_0 : List UInt8 := dkwX5_accept_0 ++ []
theorem dksX5_accept_0 : cX5_accept.data.toList.drop 0 = dktX5_accept_0 := by decide +kernel
theorem dX5_accept_0 : decode cX5_accept 0 = .ok (.aload_n 0, 1) := dk_42 (dk_at dksX5_accept_0 0 rfl rfl)
theorem dX5_accept_1 : decode cX5_accept 1 = .ok (.aload_n 1, 1) := dk_43 (dk_at dksX5_accept_0 1 rfl rfl)
theorem dX5_accept_2 : decode cX5_accept 2 = .ok (.invokevirtual 350, 3) := dk_182 1 94 (dk_at dksX5_accept_0 2 rfl rfl)
theorem dX5_accept_5 : decode cX5_accept 5 = .ok (.istore_n 2, 1) := dk_61 (dk_at dksX5_accept_0 5 rfl rfl)
theorem dX5_accept_6 : decode cX5_accept 6 = .ok (.iload_n 2, 1) := dk_28 (dk_at dksX5_accept_0 6 rfl rfl)
theorem dX5_accept_7 : decode cX5_accept 7 = .ok (.ifCond .eq 7, 3) := dk_153 0 7 (dk_at dksX5_accept_0 7 rfl rfl)
theorem dX5_accept_10 : decode cX5_accept 10 = .ok (.aload_n 0, 1) := dk_42 (dk_at dksX5_accept_0 10 rfl rfl)
theorem dX5_accept_11 : decode cX5_accept 11 = .ok (.invokevirtual 337, 3) := dk_182 1 81 (dk_at dksX5_accept_0 11 rfl rfl)
theorem dX5_accept_14 : decode cX5_accept 14 = .ok (.iload_n 2, 1) := dk_28 (dk_at dksX5_accept_0 14 rfl rfl)
theorem dX5_accept_15 : decode cX5_accept 15 = .ok (.ireturn, 1) := dk_172 (dk_at dksX5_accept_0 15 rfl rfl)
abbrev cX5_finish : ByteArray := prog_21_method_122_code
def yX5_finish : MethodName := ⟨RX5, "finish", "()I"⟩
def dkwX5_finish_1 : List UInt8 := [42, 180, 1, 75, 172]
abbrev dktX5_finish_1 : List UInt8 := dkwX5_finish_1 ++ []
def dkwX5_finish_0 : List UInt8 := [42, 3, 181, 1, 51, 42, 42, 180, 1, 75, 154, 0, 7, 2, 167, 0, 7, 42, 180, 1, 84, 181, 0, 60]
abbrev dktX5_finish_0 : List UInt8 := dkwX5_finish_0 ++ dktX5_finish_1
theorem dksX5_finish_0 : cX5_finish.data.toList.drop 0 = dktX5_finish_0 := by decide +kernel
theorem dksX5_finish_1 : cX5_finish.data.toList.drop 24 = dktX5_finish_1 := dk_seg dksX5_finish_0 24 rfl rfl
theorem dX5_finish_0 : decode cX5_finish 0 = .ok (.aload_n 0, 1) := dk_42 (dk_at dksX5_finish_0 0 rfl rfl)
theorem dX5_finish_1 : decode cX5_finish 1 = .ok (.iconst 0, 1) := dk_3 (dk_at dksX5_finish_0 1 rfl rfl)
theorem dX5_finish_2 : decode cX5_finish 2 = .ok (.putfield 307, 3) := dk_181 1 51 (dk_at dksX5_finish_0 2 rfl rfl)
theorem dX5_finish_5 : decode cX5_finish 5 = .ok (.aload_n 0, 1) := dk_42 (dk_at dksX5_finish_0 5 rfl rfl)
theorem dX5_finish_6 : decode cX5_finish 6 = .ok (.aload_n 0, 1) := dk_42 (dk_at dksX5_finish_0 6 rfl rfl)
theorem dX5_finish_7 : decode cX5_finish 7 = .ok (.getfield 331, 3) := dk_180 1 75 (dk_at dksX5_finish_0 7 rfl rfl)
theorem dX5_finish_10 : decode cX5_finish 10 = .ok (.ifCond .ne 7, 3) := dk_154 0 7 (dk_at dksX5_finish_0 10 rfl rfl)
theorem dX5_finish_13 : decode cX5_finish 13 = .ok (.iconst (-1), 1) := dk_2 (dk_at dksX5_finish_0 13 rfl rfl)
theorem dX5_finish_14 : decode cX5_finish 14 = .ok (.goto 7, 3) := dk_167 0 7 (dk_at dksX5_finish_0 14 rfl rfl)
theorem dX5_finish_17 : decode cX5_finish 17 = .ok (.aload_n 0, 1) := dk_42 (dk_at dksX5_finish_0 17 rfl rfl)
theorem dX5_finish_18 : decode cX5_finish 18 = .ok (.getfield 340, 3) := dk_180 1 84 (dk_at dksX5_finish_0 18 rfl rfl)
theorem dX5_finish_21 : decode cX5_finish 21 = .ok (.putfield 60, 3) := dk_181 0 60 (dk_at dksX5_finish_0 21 rfl rfl)
theorem dX5_finish_24 : decode cX5_finish 24 = .ok (.aload_n 0, 1) := dk_42 (dk_at dksX5_finish_1 0 rfl rfl)
theorem dX5_finish_25 : decode cX5_finish 25 = .ok (.getfield 331, 3) := dk_180 1 75 (dk_at dksX5_finish_1 1 rfl rfl)
theorem dX5_finish_28 : decode cX5_finish 28 = .ok (.ireturn, 1) := dk_172 (dk_at dksX5_finish_1 4 rfl rfl)
abbrev cX5_play : ByteArray := prog_21_method_140_code
def yX5_play : MethodName := ⟨RX5, "play", "(I)I"⟩
def dkwX5_play_4 : List UInt8 := [155, 0, 9, 132, 2, 1, 167, 255, 235, 28, 172]
abbrev dktX5_play_4 : List UInt8 := dkwX5_play_4 ++ []
def dkwX5_play_3 : List UInt8 := [182, 1, 4, 42, 182, 1, 1, 3, 61, 28, 42, 180, 1, 146, 162, 0, 19, 42, 7, 28, 104, 182, 1, 155]
abbrev dktX5_play_3 : List UInt8 := dkwX5_play_3 ++ dktX5_play_4
def dkwX5_play_2 : List UInt8 := [182, 1, 152, 167, 255, 238, 42, 182, 1, 140, 153, 0, 11, 16, 246, 42, 180, 1, 75, 100, 172, 42]
abbrev dktX5_play_2 : List UInt8 := dkwX5_play_2 ++ dktX5_play_3
def dkwX5_play_1 : List UInt8 := [3, 181, 1, 146, 42, 27, 182, 1, 134, 42, 180, 1, 75, 154, 0, 17, 42, 180, 1, 66, 153, 0, 10, 42]
abbrev dktX5_play_1 : List UInt8 := dkwX5_play_1 ++ dktX5_play_2
def dkwX5_play_0 : List UInt8 := [42, 3, 181, 0, 92, 27, 3, 42, 180, 1, 51, 184, 0, 102, 154, 0, 9, 42, 4, 182, 0, 193, 172, 42]
abbrev dktX5_play_0 : List UInt8 := dkwX5_play_0 ++ dktX5_play_1
theorem dksX5_play_0 : cX5_play.data.toList.drop 0 = dktX5_play_0 := by decide +kernel
theorem dksX5_play_1 : cX5_play.data.toList.drop 24 = dktX5_play_1 := dk_seg dksX5_play_0 24 rfl rfl
theorem dksX5_play_2 : cX5_play.data.toList.drop 48 = dktX5_play_2 := dk_seg dksX5_play_1 24 rfl rfl
theorem dksX5_play_3 : cX5_play.data.toList.drop 70 = dktX5_play_3 := dk_seg dksX5_play_2 22 rfl rfl
theorem dksX5_play_4 : cX5_play.data.toList.drop 94 = dktX5_play_4 := dk_seg dksX5_play_3 24 rfl rfl
theorem dX5_play_0 : decode cX5_play 0 = .ok (.aload_n 0, 1) := dk_42 (dk_at dksX5_play_0 0 rfl rfl)
theorem dX5_play_1 : decode cX5_play 1 = .ok (.iconst 0, 1) := dk_3 (dk_at dksX5_play_0 1 rfl rfl)
theorem dX5_play_2 : decode cX5_play 2 = .ok (.putfield 92, 3) := dk_181 0 92 (dk_at dksX5_play_0 2 rfl rfl)
theorem dX5_play_5 : decode cX5_play 5 = .ok (.iload_n 1, 1) := dk_27 (dk_at dksX5_play_0 5 rfl rfl)
theorem dX5_play_6 : decode cX5_play 6 = .ok (.iconst 0, 1) := dk_3 (dk_at dksX5_play_0 6 rfl rfl)
theorem dX5_play_7 : decode cX5_play 7 = .ok (.aload_n 0, 1) := dk_42 (dk_at dksX5_play_0 7 rfl rfl)
theorem dX5_play_8 : decode cX5_play 8 = .ok (.getfield 307, 3) := dk_180 1 51 (dk_at dksX5_play_0 8 rfl rfl)
theorem dX5_play_11 : decode cX5_play 11 = .ok (.invokestatic 102, 3) := dk_184 0 102 (dk_at dksX5_play_0 11 rfl rfl)
theorem dX5_play_14 : decode cX5_play 14 = .ok (.ifCond .ne 9, 3) := dk_154 0 9 (dk_at dksX5_play_0 14 rfl rfl)
theorem dX5_play_17 : decode cX5_play 17 = .ok (.aload_n 0, 1) := dk_42 (dk_at dksX5_play_0 17 rfl rfl)
theorem dX5_play_18 : decode cX5_play 18 = .ok (.iconst 1, 1) := dk_4 (dk_at dksX5_play_0 18 rfl rfl)
theorem dX5_play_19 : decode cX5_play 19 = .ok (.invokevirtual 193, 3) := dk_182 0 193 (dk_at dksX5_play_0 19 rfl rfl)
theorem dX5_play_22 : decode cX5_play 22 = .ok (.ireturn, 1) := dk_172 (dk_at dksX5_play_0 22 rfl rfl)
theorem dX5_play_23 : decode cX5_play 23 = .ok (.aload_n 0, 1) := dk_42 (dk_at dksX5_play_0 23 rfl rfl)
theorem dX5_play_24 : decode cX5_play 24 = .ok (.iconst 0, 1) := dk_3 (dk_at dksX5_play_1 0 rfl rfl)
theorem dX5_play_25 : decode cX5_play 25 = .ok (.putfield 402, 3) := dk_181 1 146 (dk_at dksX5_play_1 1 rfl rfl)
theorem dX5_play_28 : decode cX5_play 28 = .ok (.aload_n 0, 1) := dk_42 (dk_at dksX5_play_1 4 rfl rfl)
theorem dX5_play_29 : decode cX5_play 29 = .ok (.iload_n 1, 1) := dk_27 (dk_at dksX5_play_1 5 rfl rfl)
theorem dX5_play_30 : decode cX5_play 30 = .ok (.invokevirtual 390, 3) := dk_182 1 134 (dk_at dksX5_play_1 6 rfl rfl)
theorem dX5_play_33 : decode cX5_play 33 = .ok (.aload_n 0, 1) := dk_42 (dk_at dksX5_play_1 9 rfl rfl)
theorem dX5_play_34 : decode cX5_play 34 = .ok (.getfield 331, 3) := dk_180 1 75 (dk_at dksX5_play_1 10 rfl rfl)
theorem dX5_play_37 : decode cX5_play 37 = .ok (.ifCond .ne 17, 3) := dk_154 0 17 (dk_at dksX5_play_1 13 rfl rfl)
theorem dX5_play_40 : decode cX5_play 40 = .ok (.aload_n 0, 1) := dk_42 (dk_at dksX5_play_1 16 rfl rfl)
theorem dX5_play_41 : decode cX5_play 41 = .ok (.getfield 322, 3) := dk_180 1 66 (dk_at dksX5_play_1 17 rfl rfl)
theorem dX5_play_44 : decode cX5_play 44 = .ok (.ifCond .eq 10, 3) := dk_153 0 10 (dk_at dksX5_play_1 20 rfl rfl)
theorem dX5_play_47 : decode cX5_play 47 = .ok (.aload_n 0, 1) := dk_42 (dk_at dksX5_play_1 23 rfl rfl)
theorem dX5_play_48 : decode cX5_play 48 = .ok (.invokevirtual 408, 3) := dk_182 1 152 (dk_at dksX5_play_2 0 rfl rfl)
theorem dX5_play_51 : decode cX5_play 51 = .ok (.goto (-18), 3) := dk_167 255 238 (dk_at dksX5_play_2 3 rfl rfl)
theorem dX5_play_54 : decode cX5_play 54 = .ok (.aload_n 0, 1) := dk_42 (dk_at dksX5_play_2 6 rfl rfl)
theorem dX5_play_55 : decode cX5_play 55 = .ok (.invokevirtual 396, 3) := dk_182 1 140 (dk_at dksX5_play_2 7 rfl rfl)
theorem dX5_play_58 : decode cX5_play 58 = .ok (.ifCond .eq 11, 3) := dk_153 0 11 (dk_at dksX5_play_2 10 rfl rfl)
theorem dX5_play_61 : decode cX5_play 61 = .ok (.bipush (-10), 2) := dk_16 246 (dk_at dksX5_play_2 13 rfl rfl)
theorem dX5_play_63 : decode cX5_play 63 = .ok (.aload_n 0, 1) := dk_42 (dk_at dksX5_play_2 15 rfl rfl)
theorem dX5_play_64 : decode cX5_play 64 = .ok (.getfield 331, 3) := dk_180 1 75 (dk_at dksX5_play_2 16 rfl rfl)
theorem dX5_play_67 : decode cX5_play 67 = .ok (.isub, 1) := dk_100 (dk_at dksX5_play_2 19 rfl rfl)
theorem dX5_play_68 : decode cX5_play 68 = .ok (.ireturn, 1) := dk_172 (dk_at dksX5_play_2 20 rfl rfl)
theorem dX5_play_69 : decode cX5_play 69 = .ok (.aload_n 0, 1) := dk_42 (dk_at dksX5_play_2 21 rfl rfl)
theorem dX5_play_70 : decode cX5_play 70 = .ok (.invokevirtual 260, 3) := dk_182 1 4 (dk_at dksX5_play_3 0 rfl rfl)
theorem dX5_play_73 : decode cX5_play 73 = .ok (.aload_n 0, 1) := dk_42 (dk_at dksX5_play_3 3 rfl rfl)
theorem dX5_play_74 : decode cX5_play 74 = .ok (.invokevirtual 257, 3) := dk_182 1 1 (dk_at dksX5_play_3 4 rfl rfl)
theorem dX5_play_77 : decode cX5_play 77 = .ok (.iconst 0, 1) := dk_3 (dk_at dksX5_play_3 7 rfl rfl)
theorem dX5_play_78 : decode cX5_play 78 = .ok (.istore_n 2, 1) := dk_61 (dk_at dksX5_play_3 8 rfl rfl)
theorem dX5_play_79 : decode cX5_play 79 = .ok (.iload_n 2, 1) := dk_28 (dk_at dksX5_play_3 9 rfl rfl)
theorem dX5_play_80 : decode cX5_play 80 = .ok (.aload_n 0, 1) := dk_42 (dk_at dksX5_play_3 10 rfl rfl)
theorem dX5_play_81 : decode cX5_play 81 = .ok (.getfield 402, 3) := dk_180 1 146 (dk_at dksX5_play_3 11 rfl rfl)
theorem dX5_play_84 : decode cX5_play 84 = .ok (.if_icmp .ge 19, 3) := dk_162 0 19 (dk_at dksX5_play_3 14 rfl rfl)
theorem dX5_play_87 : decode cX5_play 87 = .ok (.aload_n 0, 1) := dk_42 (dk_at dksX5_play_3 17 rfl rfl)
theorem dX5_play_88 : decode cX5_play 88 = .ok (.iconst 4, 1) := dk_7 (dk_at dksX5_play_3 18 rfl rfl)
theorem dX5_play_89 : decode cX5_play 89 = .ok (.iload_n 2, 1) := dk_28 (dk_at dksX5_play_3 19 rfl rfl)
theorem dX5_play_90 : decode cX5_play 90 = .ok (.imul, 1) := dk_104 (dk_at dksX5_play_3 20 rfl rfl)
theorem dX5_play_91 : decode cX5_play 91 = .ok (.invokevirtual 411, 3) := dk_182 1 155 (dk_at dksX5_play_3 21 rfl rfl)
theorem dX5_play_94 : decode cX5_play 94 = .ok (.ifCond .lt 9, 3) := dk_155 0 9 (dk_at dksX5_play_4 0 rfl rfl)
theorem dX5_play_97 : decode cX5_play 97 = .ok (.iinc 2 1, 3) := dk_132 2 1 (dk_at dksX5_play_4 3 rfl rfl)
theorem dX5_play_100 : decode cX5_play 100 = .ok (.goto (-21), 3) := dk_167 255 235 (dk_at dksX5_play_4 6 rfl rfl)
theorem dX5_play_103 : decode cX5_play 103 = .ok (.iload_n 2, 1) := dk_28 (dk_at dksX5_play_4 9 rfl rfl)
theorem dX5_play_104 : decode cX5_play 104 = .ok (.ireturn, 1) := dk_172 (dk_at dksX5_play_4 10 rfl rfl)
abbrev cX5_readOrder : ByteArray := prog_21_method_138_code
def yX5_readOrder : MethodName := ⟨RX5, "readOrder", "()V"⟩
def dkwX5_readOrder_7 : List UInt8 := [181, 1, 146, 177]
abbrev dktX5_readOrder_7 : List UInt8 := dkwX5_readOrder_7 ++ []
def dkwX5_readOrder_6 : List UInt8 := [17, 3, 231, 182, 1, 118, 167, 0, 4, 3, 79, 42, 16, 59, 182, 1, 126, 42, 89, 180, 1, 146, 4, 96]
abbrev dktX5_readOrder_6 : List UInt8 := dkwX5_readOrder_6 ++ dktX5_readOrder_7
def dkwX5_readOrder_5 : List UInt8 := [182, 1, 118, 167, 0, 4, 3, 79, 42, 180, 0, 64, 28, 6, 96, 27, 16, 6, 160, 0, 14, 42, 4]
abbrev dktX5_readOrder_5 : List UInt8 := dkwX5_readOrder_5 ++ dktX5_readOrder_6
def dkwX5_readOrder_4 : List UInt8 := [154, 0, 13, 42, 3, 16, 23, 182, 1, 118, 167, 0, 20, 27, 16, 6, 160, 0, 13, 42, 3, 16, 7]
abbrev dktX5_readOrder_4 : List UInt8 := dkwX5_readOrder_4 ++ dktX5_readOrder_5
def dkwX5_readOrder_3 : List UInt8 := [27, 79, 42, 180, 0, 64, 28, 4, 96, 42, 27, 182, 1, 149, 79, 42, 180, 0, 64, 28, 5, 96, 27]
abbrev dktX5_readOrder_3 : List UInt8 := dkwX5_readOrder_3 ++ dktX5_readOrder_4
def dkwX5_readOrder_2 : List UInt8 := [42, 182, 1, 105, 42, 180, 1, 75, 153, 0, 4, 177, 7, 42, 180, 1, 146, 104, 61, 42, 180, 0, 64, 28]
abbrev dktX5_readOrder_2 : List UInt8 := dkwX5_readOrder_2 ++ dktX5_readOrder_3
def dkwX5_readOrder_1 : List UInt8 := [180, 1, 75, 154, 0, 12, 42, 180, 1, 146, 16, 20, 162, 0, 7, 4, 167, 0, 4, 3, 7, 182, 1, 101]
abbrev dktX5_readOrder_1 : List UInt8 := dkwX5_readOrder_1 ++ dktX5_readOrder_2
def dkwX5_readOrder_0 : List UInt8 := [42, 182, 1, 143, 60, 42, 27, 2, 159, 0, 7, 4, 167, 0, 4, 3, 4, 182, 1, 101, 42, 42]
abbrev dktX5_readOrder_0 : List UInt8 := dkwX5_readOrder_0 ++ dktX5_readOrder_1
theorem dksX5_readOrder_0 : cX5_readOrder.data.toList.drop 0 = dktX5_readOrder_0 := by decide +kernel
theorem dksX5_readOrder_1 : cX5_readOrder.data.toList.drop 22 = dktX5_readOrder_1 := dk_seg dksX5_readOrder_0 22 rfl rfl
theorem dksX5_readOrder_2 : cX5_readOrder.data.toList.drop 46 = dktX5_readOrder_2 := dk_seg dksX5_readOrder_1 24 rfl rfl
theorem dksX5_readOrder_3 : cX5_readOrder.data.toList.drop 70 = dktX5_readOrder_3 := dk_seg dksX5_readOrder_2 24 rfl rfl
theorem dksX5_readOrder_4 : cX5_readOrder.data.toList.drop 93 = dktX5_readOrder_4 := dk_seg dksX5_readOrder_3 23 rfl rfl
theorem dksX5_readOrder_5 : cX5_readOrder.data.toList.drop 116 = dktX5_readOrder_5 := dk_seg dksX5_readOrder_4 23 rfl rfl
theorem dksX5_readOrder_6 : cX5_readOrder.data.toList.drop 139 = dktX5_readOrder_6 := dk_seg dksX5_readOrder_5 23 rfl rfl
theorem dksX5_readOrder_7 : cX5_readOrder.data.toList.drop 163 = dktX5_readOrder_7 := dk_seg dksX5_readOrder_6 24 rfl rfl
theorem dX5_readOrder_0 : decode cX5_readOrder 0 = .ok (.aload_n 0, 1) := dk_42 (dk_at dksX5_readOrder_0 0 rfl rfl)
theorem dX5_readOrder_1 : decode cX5_readOrder 1 = .ok (.invokevirtual 399, 3) := dk_182 1 143 (dk_at dksX5_readOrder_0 1 rfl rfl)
theorem dX5_readOrder_4 : decode cX5_readOrder 4 = .ok (.istore_n 1, 1) := dk_60 (dk_at dksX5_readOrder_0 4 rfl rfl)
theorem dX5_readOrder_5 : decode cX5_readOrder 5 = .ok (.aload_n 0, 1) := dk_42 (dk_at dksX5_readOrder_0 5 rfl rfl)
theorem dX5_readOrder_6 : decode cX5_readOrder 6 = .ok (.iload_n 1, 1) := dk_27 (dk_at dksX5_readOrder_0 6 rfl rfl)
theorem dX5_readOrder_7 : decode cX5_readOrder 7 = .ok (.iconst (-1), 1) := dk_2 (dk_at dksX5_readOrder_0 7 rfl rfl)
theorem dX5_readOrder_8 : decode cX5_readOrder 8 = .ok (.if_icmp .eq 7, 3) := dk_159 0 7 (dk_at dksX5_readOrder_0 8 rfl rfl)
theorem dX5_readOrder_11 : decode cX5_readOrder 11 = .ok (.iconst 1, 1) := dk_4 (dk_at dksX5_readOrder_0 11 rfl rfl)
theorem dX5_readOrder_12 : decode cX5_readOrder 12 = .ok (.goto 4, 3) := dk_167 0 4 (dk_at dksX5_readOrder_0 12 rfl rfl)
theorem dX5_readOrder_15 : decode cX5_readOrder 15 = .ok (.iconst 0, 1) := dk_3 (dk_at dksX5_readOrder_0 15 rfl rfl)
theorem dX5_readOrder_16 : decode cX5_readOrder 16 = .ok (.iconst 1, 1) := dk_4 (dk_at dksX5_readOrder_0 16 rfl rfl)
theorem dX5_readOrder_17 : decode cX5_readOrder 17 = .ok (.invokevirtual 357, 3) := dk_182 1 101 (dk_at dksX5_readOrder_0 17 rfl rfl)
theorem dX5_readOrder_20 : decode cX5_readOrder 20 = .ok (.aload_n 0, 1) := dk_42 (dk_at dksX5_readOrder_0 20 rfl rfl)
theorem dX5_readOrder_21 : decode cX5_readOrder 21 = .ok (.aload_n 0, 1) := dk_42 (dk_at dksX5_readOrder_0 21 rfl rfl)
theorem dX5_readOrder_22 : decode cX5_readOrder 22 = .ok (.getfield 331, 3) := dk_180 1 75 (dk_at dksX5_readOrder_1 0 rfl rfl)
theorem dX5_readOrder_25 : decode cX5_readOrder 25 = .ok (.ifCond .ne 12, 3) := dk_154 0 12 (dk_at dksX5_readOrder_1 3 rfl rfl)
theorem dX5_readOrder_28 : decode cX5_readOrder 28 = .ok (.aload_n 0, 1) := dk_42 (dk_at dksX5_readOrder_1 6 rfl rfl)
theorem dX5_readOrder_29 : decode cX5_readOrder 29 = .ok (.getfield 402, 3) := dk_180 1 146 (dk_at dksX5_readOrder_1 7 rfl rfl)
theorem dX5_readOrder_32 : decode cX5_readOrder 32 = .ok (.bipush 20, 2) := dk_16 20 (dk_at dksX5_readOrder_1 10 rfl rfl)
theorem dX5_readOrder_34 : decode cX5_readOrder 34 = .ok (.if_icmp .ge 7, 3) := dk_162 0 7 (dk_at dksX5_readOrder_1 12 rfl rfl)
theorem dX5_readOrder_37 : decode cX5_readOrder 37 = .ok (.iconst 1, 1) := dk_4 (dk_at dksX5_readOrder_1 15 rfl rfl)
theorem dX5_readOrder_38 : decode cX5_readOrder 38 = .ok (.goto 4, 3) := dk_167 0 4 (dk_at dksX5_readOrder_1 16 rfl rfl)
theorem dX5_readOrder_41 : decode cX5_readOrder 41 = .ok (.iconst 0, 1) := dk_3 (dk_at dksX5_readOrder_1 19 rfl rfl)
theorem dX5_readOrder_42 : decode cX5_readOrder 42 = .ok (.iconst 4, 1) := dk_7 (dk_at dksX5_readOrder_1 20 rfl rfl)
theorem dX5_readOrder_43 : decode cX5_readOrder 43 = .ok (.invokevirtual 357, 3) := dk_182 1 101 (dk_at dksX5_readOrder_1 21 rfl rfl)
theorem dX5_readOrder_46 : decode cX5_readOrder 46 = .ok (.aload_n 0, 1) := dk_42 (dk_at dksX5_readOrder_2 0 rfl rfl)
theorem dX5_readOrder_47 : decode cX5_readOrder 47 = .ok (.invokevirtual 361, 3) := dk_182 1 105 (dk_at dksX5_readOrder_2 1 rfl rfl)
theorem dX5_readOrder_50 : decode cX5_readOrder 50 = .ok (.aload_n 0, 1) := dk_42 (dk_at dksX5_readOrder_2 4 rfl rfl)
theorem dX5_readOrder_51 : decode cX5_readOrder 51 = .ok (.getfield 331, 3) := dk_180 1 75 (dk_at dksX5_readOrder_2 5 rfl rfl)
theorem dX5_readOrder_54 : decode cX5_readOrder 54 = .ok (.ifCond .eq 4, 3) := dk_153 0 4 (dk_at dksX5_readOrder_2 8 rfl rfl)
theorem dX5_readOrder_57 : decode cX5_readOrder 57 = .ok (.return_, 1) := dk_177 (dk_at dksX5_readOrder_2 11 rfl rfl)
theorem dX5_readOrder_58 : decode cX5_readOrder 58 = .ok (.iconst 4, 1) := dk_7 (dk_at dksX5_readOrder_2 12 rfl rfl)
theorem dX5_readOrder_59 : decode cX5_readOrder 59 = .ok (.aload_n 0, 1) := dk_42 (dk_at dksX5_readOrder_2 13 rfl rfl)
theorem dX5_readOrder_60 : decode cX5_readOrder 60 = .ok (.getfield 402, 3) := dk_180 1 146 (dk_at dksX5_readOrder_2 14 rfl rfl)
theorem dX5_readOrder_63 : decode cX5_readOrder 63 = .ok (.imul, 1) := dk_104 (dk_at dksX5_readOrder_2 17 rfl rfl)
theorem dX5_readOrder_64 : decode cX5_readOrder 64 = .ok (.istore_n 2, 1) := dk_61 (dk_at dksX5_readOrder_2 18 rfl rfl)
theorem dX5_readOrder_65 : decode cX5_readOrder 65 = .ok (.aload_n 0, 1) := dk_42 (dk_at dksX5_readOrder_2 19 rfl rfl)
theorem dX5_readOrder_66 : decode cX5_readOrder 66 = .ok (.getfield 64, 3) := dk_180 0 64 (dk_at dksX5_readOrder_2 20 rfl rfl)
theorem dX5_readOrder_69 : decode cX5_readOrder 69 = .ok (.iload_n 2, 1) := dk_28 (dk_at dksX5_readOrder_2 23 rfl rfl)
theorem dX5_readOrder_70 : decode cX5_readOrder 70 = .ok (.iload_n 1, 1) := dk_27 (dk_at dksX5_readOrder_3 0 rfl rfl)
theorem dX5_readOrder_71 : decode cX5_readOrder 71 = .ok (.iastore, 1) := dk_79 (dk_at dksX5_readOrder_3 1 rfl rfl)
theorem dX5_readOrder_72 : decode cX5_readOrder 72 = .ok (.aload_n 0, 1) := dk_42 (dk_at dksX5_readOrder_3 2 rfl rfl)
theorem dX5_readOrder_73 : decode cX5_readOrder 73 = .ok (.getfield 64, 3) := dk_180 0 64 (dk_at dksX5_readOrder_3 3 rfl rfl)
theorem dX5_readOrder_76 : decode cX5_readOrder 76 = .ok (.iload_n 2, 1) := dk_28 (dk_at dksX5_readOrder_3 6 rfl rfl)
theorem dX5_readOrder_77 : decode cX5_readOrder 77 = .ok (.iconst 1, 1) := dk_4 (dk_at dksX5_readOrder_3 7 rfl rfl)
theorem dX5_readOrder_78 : decode cX5_readOrder 78 = .ok (.iadd, 1) := dk_96 (dk_at dksX5_readOrder_3 8 rfl rfl)
theorem dX5_readOrder_79 : decode cX5_readOrder 79 = .ok (.aload_n 0, 1) := dk_42 (dk_at dksX5_readOrder_3 9 rfl rfl)
theorem dX5_readOrder_80 : decode cX5_readOrder 80 = .ok (.iload_n 1, 1) := dk_27 (dk_at dksX5_readOrder_3 10 rfl rfl)
theorem dX5_readOrder_81 : decode cX5_readOrder 81 = .ok (.invokevirtual 405, 3) := dk_182 1 149 (dk_at dksX5_readOrder_3 11 rfl rfl)
theorem dX5_readOrder_84 : decode cX5_readOrder 84 = .ok (.iastore, 1) := dk_79 (dk_at dksX5_readOrder_3 14 rfl rfl)
theorem dX5_readOrder_85 : decode cX5_readOrder 85 = .ok (.aload_n 0, 1) := dk_42 (dk_at dksX5_readOrder_3 15 rfl rfl)
theorem dX5_readOrder_86 : decode cX5_readOrder 86 = .ok (.getfield 64, 3) := dk_180 0 64 (dk_at dksX5_readOrder_3 16 rfl rfl)
theorem dX5_readOrder_89 : decode cX5_readOrder 89 = .ok (.iload_n 2, 1) := dk_28 (dk_at dksX5_readOrder_3 19 rfl rfl)
theorem dX5_readOrder_90 : decode cX5_readOrder 90 = .ok (.iconst 2, 1) := dk_5 (dk_at dksX5_readOrder_3 20 rfl rfl)
theorem dX5_readOrder_91 : decode cX5_readOrder 91 = .ok (.iadd, 1) := dk_96 (dk_at dksX5_readOrder_3 21 rfl rfl)
theorem dX5_readOrder_92 : decode cX5_readOrder 92 = .ok (.iload_n 1, 1) := dk_27 (dk_at dksX5_readOrder_3 22 rfl rfl)
theorem dX5_readOrder_93 : decode cX5_readOrder 93 = .ok (.ifCond .ne 13, 3) := dk_154 0 13 (dk_at dksX5_readOrder_4 0 rfl rfl)
theorem dX5_readOrder_96 : decode cX5_readOrder 96 = .ok (.aload_n 0, 1) := dk_42 (dk_at dksX5_readOrder_4 3 rfl rfl)
theorem dX5_readOrder_97 : decode cX5_readOrder 97 = .ok (.iconst 0, 1) := dk_3 (dk_at dksX5_readOrder_4 4 rfl rfl)
theorem dX5_readOrder_98 : decode cX5_readOrder 98 = .ok (.bipush 23, 2) := dk_16 23 (dk_at dksX5_readOrder_4 5 rfl rfl)
theorem dX5_readOrder_100 : decode cX5_readOrder 100 = .ok (.invokevirtual 374, 3) := dk_182 1 118 (dk_at dksX5_readOrder_4 7 rfl rfl)
theorem dX5_readOrder_103 : decode cX5_readOrder 103 = .ok (.goto 20, 3) := dk_167 0 20 (dk_at dksX5_readOrder_4 10 rfl rfl)
theorem dX5_readOrder_106 : decode cX5_readOrder 106 = .ok (.iload_n 1, 1) := dk_27 (dk_at dksX5_readOrder_4 13 rfl rfl)
theorem dX5_readOrder_107 : decode cX5_readOrder 107 = .ok (.bipush 6, 2) := dk_16 6 (dk_at dksX5_readOrder_4 14 rfl rfl)
theorem dX5_readOrder_109 : decode cX5_readOrder 109 = .ok (.if_icmp .ne 13, 3) := dk_160 0 13 (dk_at dksX5_readOrder_4 16 rfl rfl)
theorem dX5_readOrder_112 : decode cX5_readOrder 112 = .ok (.aload_n 0, 1) := dk_42 (dk_at dksX5_readOrder_4 19 rfl rfl)
theorem dX5_readOrder_113 : decode cX5_readOrder 113 = .ok (.iconst 0, 1) := dk_3 (dk_at dksX5_readOrder_4 20 rfl rfl)
theorem dX5_readOrder_114 : decode cX5_readOrder 114 = .ok (.bipush 7, 2) := dk_16 7 (dk_at dksX5_readOrder_4 21 rfl rfl)
theorem dX5_readOrder_116 : decode cX5_readOrder 116 = .ok (.invokevirtual 374, 3) := dk_182 1 118 (dk_at dksX5_readOrder_5 0 rfl rfl)
theorem dX5_readOrder_119 : decode cX5_readOrder 119 = .ok (.goto 4, 3) := dk_167 0 4 (dk_at dksX5_readOrder_5 3 rfl rfl)
theorem dX5_readOrder_122 : decode cX5_readOrder 122 = .ok (.iconst 0, 1) := dk_3 (dk_at dksX5_readOrder_5 6 rfl rfl)
theorem dX5_readOrder_123 : decode cX5_readOrder 123 = .ok (.iastore, 1) := dk_79 (dk_at dksX5_readOrder_5 7 rfl rfl)
theorem dX5_readOrder_124 : decode cX5_readOrder 124 = .ok (.aload_n 0, 1) := dk_42 (dk_at dksX5_readOrder_5 8 rfl rfl)
theorem dX5_readOrder_125 : decode cX5_readOrder 125 = .ok (.getfield 64, 3) := dk_180 0 64 (dk_at dksX5_readOrder_5 9 rfl rfl)
theorem dX5_readOrder_128 : decode cX5_readOrder 128 = .ok (.iload_n 2, 1) := dk_28 (dk_at dksX5_readOrder_5 12 rfl rfl)
theorem dX5_readOrder_129 : decode cX5_readOrder 129 = .ok (.iconst 3, 1) := dk_6 (dk_at dksX5_readOrder_5 13 rfl rfl)
theorem dX5_readOrder_130 : decode cX5_readOrder 130 = .ok (.iadd, 1) := dk_96 (dk_at dksX5_readOrder_5 14 rfl rfl)
theorem dX5_readOrder_131 : decode cX5_readOrder 131 = .ok (.iload_n 1, 1) := dk_27 (dk_at dksX5_readOrder_5 15 rfl rfl)
theorem dX5_readOrder_132 : decode cX5_readOrder 132 = .ok (.bipush 6, 2) := dk_16 6 (dk_at dksX5_readOrder_5 16 rfl rfl)
theorem dX5_readOrder_134 : decode cX5_readOrder 134 = .ok (.if_icmp .ne 14, 3) := dk_160 0 14 (dk_at dksX5_readOrder_5 18 rfl rfl)
theorem dX5_readOrder_137 : decode cX5_readOrder 137 = .ok (.aload_n 0, 1) := dk_42 (dk_at dksX5_readOrder_5 21 rfl rfl)
theorem dX5_readOrder_138 : decode cX5_readOrder 138 = .ok (.iconst 1, 1) := dk_4 (dk_at dksX5_readOrder_5 22 rfl rfl)
theorem dX5_readOrder_139 : decode cX5_readOrder 139 = .ok (.sipush 999, 3) := dk_17 3 231 (dk_at dksX5_readOrder_6 0 rfl rfl)
theorem dX5_readOrder_142 : decode cX5_readOrder 142 = .ok (.invokevirtual 374, 3) := dk_182 1 118 (dk_at dksX5_readOrder_6 3 rfl rfl)
theorem dX5_readOrder_145 : decode cX5_readOrder 145 = .ok (.goto 4, 3) := dk_167 0 4 (dk_at dksX5_readOrder_6 6 rfl rfl)
theorem dX5_readOrder_148 : decode cX5_readOrder 148 = .ok (.iconst 0, 1) := dk_3 (dk_at dksX5_readOrder_6 9 rfl rfl)
theorem dX5_readOrder_149 : decode cX5_readOrder 149 = .ok (.iastore, 1) := dk_79 (dk_at dksX5_readOrder_6 10 rfl rfl)
theorem dX5_readOrder_150 : decode cX5_readOrder 150 = .ok (.aload_n 0, 1) := dk_42 (dk_at dksX5_readOrder_6 11 rfl rfl)
theorem dX5_readOrder_151 : decode cX5_readOrder 151 = .ok (.bipush 59, 2) := dk_16 59 (dk_at dksX5_readOrder_6 12 rfl rfl)
theorem dX5_readOrder_153 : decode cX5_readOrder 153 = .ok (.invokevirtual 382, 3) := dk_182 1 126 (dk_at dksX5_readOrder_6 14 rfl rfl)
theorem dX5_readOrder_156 : decode cX5_readOrder 156 = .ok (.aload_n 0, 1) := dk_42 (dk_at dksX5_readOrder_6 17 rfl rfl)
theorem dX5_readOrder_157 : decode cX5_readOrder 157 = .ok (.dup, 1) := dk_89 (dk_at dksX5_readOrder_6 18 rfl rfl)
theorem dX5_readOrder_158 : decode cX5_readOrder 158 = .ok (.getfield 402, 3) := dk_180 1 146 (dk_at dksX5_readOrder_6 19 rfl rfl)
theorem dX5_readOrder_161 : decode cX5_readOrder 161 = .ok (.iconst 1, 1) := dk_4 (dk_at dksX5_readOrder_6 22 rfl rfl)
theorem dX5_readOrder_162 : decode cX5_readOrder 162 = .ok (.iadd, 1) := dk_96 (dk_at dksX5_readOrder_6 23 rfl rfl)
theorem dX5_readOrder_163 : decode cX5_readOrder 163 = .ok (.putfield 402, 3) := dk_181 1 146 (dk_at dksX5_readOrder_7 0 rfl rfl)
theorem dX5_readOrder_166 : decode cX5_readOrder 166 = .ok (.return_, 1) := dk_177 (dk_at dksX5_readOrder_7 3 rfl rfl)
abbrev cX5_orderHere : ByteArray := prog_21_method_136_code
def yX5_orderHere : MethodName := ⟨RX5, "orderHere", "()I"⟩
def dkwX5_orderHere_1 : List UInt8 := [27, 172, 132, 1, 1, 167, 255, 229, 2, 172]
abbrev dktX5_orderHere_1 : List UInt8 := dkwX5_orderHere_1 ++ []
def dkwX5_orderHere_0 : List UInt8 := [3, 60, 27, 42, 180, 0, 81, 190, 162, 0, 24, 42, 42, 180, 0, 81, 27, 50, 182, 1, 94, 153, 0, 5]
abbrev dktX5_orderHere_0 : List UInt8 := dkwX5_orderHere_0 ++ dktX5_orderHere_1
theorem dksX5_orderHere_0 : cX5_orderHere.data.toList.drop 0 = dktX5_orderHere_0 := by decide +kernel
theorem dksX5_orderHere_1 : cX5_orderHere.data.toList.drop 24 = dktX5_orderHere_1 := dk_seg dksX5_orderHere_0 24 rfl rfl
theorem dX5_orderHere_0 : decode cX5_orderHere 0 = .ok (.iconst 0, 1) := dk_3 (dk_at dksX5_orderHere_0 0 rfl rfl)
theorem dX5_orderHere_1 : decode cX5_orderHere 1 = .ok (.istore_n 1, 1) := dk_60 (dk_at dksX5_orderHere_0 1 rfl rfl)
theorem dX5_orderHere_2 : decode cX5_orderHere 2 = .ok (.iload_n 1, 1) := dk_27 (dk_at dksX5_orderHere_0 2 rfl rfl)
theorem dX5_orderHere_3 : decode cX5_orderHere 3 = .ok (.aload_n 0, 1) := dk_42 (dk_at dksX5_orderHere_0 3 rfl rfl)
theorem dX5_orderHere_4 : decode cX5_orderHere 4 = .ok (.getfield 81, 3) := dk_180 0 81 (dk_at dksX5_orderHere_0 4 rfl rfl)
theorem dX5_orderHere_7 : decode cX5_orderHere 7 = .ok (.arraylength, 1) := dk_190 (dk_at dksX5_orderHere_0 7 rfl rfl)
theorem dX5_orderHere_8 : decode cX5_orderHere 8 = .ok (.if_icmp .ge 24, 3) := dk_162 0 24 (dk_at dksX5_orderHere_0 8 rfl rfl)
theorem dX5_orderHere_11 : decode cX5_orderHere 11 = .ok (.aload_n 0, 1) := dk_42 (dk_at dksX5_orderHere_0 11 rfl rfl)
theorem dX5_orderHere_12 : decode cX5_orderHere 12 = .ok (.aload_n 0, 1) := dk_42 (dk_at dksX5_orderHere_0 12 rfl rfl)
theorem dX5_orderHere_13 : decode cX5_orderHere 13 = .ok (.getfield 81, 3) := dk_180 0 81 (dk_at dksX5_orderHere_0 13 rfl rfl)
theorem dX5_orderHere_16 : decode cX5_orderHere 16 = .ok (.iload_n 1, 1) := dk_27 (dk_at dksX5_orderHere_0 16 rfl rfl)
theorem dX5_orderHere_17 : decode cX5_orderHere 17 = .ok (.aaload, 1) := dk_50 (dk_at dksX5_orderHere_0 17 rfl rfl)
theorem dX5_orderHere_18 : decode cX5_orderHere 18 = .ok (.invokevirtual 350, 3) := dk_182 1 94 (dk_at dksX5_orderHere_0 18 rfl rfl)
theorem dX5_orderHere_21 : decode cX5_orderHere 21 = .ok (.ifCond .eq 5, 3) := dk_153 0 5 (dk_at dksX5_orderHere_0 21 rfl rfl)
theorem dX5_orderHere_24 : decode cX5_orderHere 24 = .ok (.iload_n 1, 1) := dk_27 (dk_at dksX5_orderHere_1 0 rfl rfl)
theorem dX5_orderHere_25 : decode cX5_orderHere 25 = .ok (.ireturn, 1) := dk_172 (dk_at dksX5_orderHere_1 1 rfl rfl)
theorem dX5_orderHere_26 : decode cX5_orderHere 26 = .ok (.iinc 1 1, 3) := dk_132 1 1 (dk_at dksX5_orderHere_1 2 rfl rfl)
theorem dX5_orderHere_29 : decode cX5_orderHere 29 = .ok (.goto (-27), 3) := dk_167 255 229 (dk_at dksX5_orderHere_1 5 rfl rfl)
theorem dX5_orderHere_32 : decode cX5_orderHere 32 = .ok (.iconst (-1), 1) := dk_2 (dk_at dksX5_orderHere_1 8 rfl rfl)
theorem dX5_orderHere_33 : decode cX5_orderHere 33 = .ok (.ireturn, 1) := dk_172 (dk_at dksX5_orderHere_1 9 rfl rfl)
abbrev cX5_readFirst : ByteArray := prog_21_method_137_code
def yX5_readFirst : MethodName := ⟨RX5, "readFirst", "(I)I"⟩
def dkwX5_readFirst_3 : List UInt8 := [42, 3, 16, 23, 182, 1, 118, 172]
abbrev dktX5_readFirst_3 : List UInt8 := dkwX5_readFirst_3 ++ []
def dkwX5_readFirst_2 : List UInt8 := [42, 3, 16, 7, 182, 1, 118, 172, 42, 4, 8, 182, 1, 118, 172, 42, 4, 17, 0, 200, 182, 1, 118, 172]
abbrev dktX5_readFirst_2 : List UInt8 := dkwX5_readFirst_2 ++ dktX5_readFirst_3
def dkwX5_readFirst_1 : List UInt8 := [170, 0, 0, 0, 0, 0, 67, 0, 0, 0, 0, 0, 0, 0, 6, 0, 0, 0, 43, 0, 0, 0, 43, 0, 0, 0, 67, 0, 0, 0, 51, 0, 0, 0, 67, 0, 0, 0, 58, 0, 0, 0, 43]
abbrev dktX5_readFirst_1 : List UInt8 := dkwX5_readFirst_1 ++ dktX5_readFirst_2
def dkwX5_readFirst_0 : List UInt8 := [27]
abbrev dktX5_readFirst_0 : List UInt8 := dkwX5_readFirst_0 ++ dktX5_readFirst_1
theorem dksX5_readFirst_0 : cX5_readFirst.data.toList.drop 0 = dktX5_readFirst_0 := by decide +kernel
theorem dksX5_readFirst_1 : cX5_readFirst.data.toList.drop 1 = dktX5_readFirst_1 := dk_seg dksX5_readFirst_0 1 rfl rfl
theorem dksX5_readFirst_2 : cX5_readFirst.data.toList.drop 44 = dktX5_readFirst_2 := dk_seg dksX5_readFirst_1 43 rfl rfl
theorem dksX5_readFirst_3 : cX5_readFirst.data.toList.drop 68 = dktX5_readFirst_3 := dk_seg dksX5_readFirst_2 24 rfl rfl
theorem dX5_readFirst_0 : decode cX5_readFirst 0 = .ok (.iload_n 1, 1) := dk_27 (dk_at dksX5_readFirst_0 0 rfl rfl)
theorem dX5_readFirst_1 : decode cX5_readFirst 1 = .ok (.tableswitch 67 0 6 #[43, 43, 67, 51, 67, 58, 43], 43) := by decide +kernel
theorem dX5_readFirst_44 : decode cX5_readFirst 44 = .ok (.aload_n 0, 1) := dk_42 (dk_at dksX5_readFirst_2 0 rfl rfl)
theorem dX5_readFirst_45 : decode cX5_readFirst 45 = .ok (.iconst 0, 1) := dk_3 (dk_at dksX5_readFirst_2 1 rfl rfl)
theorem dX5_readFirst_46 : decode cX5_readFirst 46 = .ok (.bipush 7, 2) := dk_16 7 (dk_at dksX5_readFirst_2 2 rfl rfl)
theorem dX5_readFirst_48 : decode cX5_readFirst 48 = .ok (.invokevirtual 374, 3) := dk_182 1 118 (dk_at dksX5_readFirst_2 4 rfl rfl)
theorem dX5_readFirst_51 : decode cX5_readFirst 51 = .ok (.ireturn, 1) := dk_172 (dk_at dksX5_readFirst_2 7 rfl rfl)
theorem dX5_readFirst_52 : decode cX5_readFirst 52 = .ok (.aload_n 0, 1) := dk_42 (dk_at dksX5_readFirst_2 8 rfl rfl)
theorem dX5_readFirst_53 : decode cX5_readFirst 53 = .ok (.iconst 1, 1) := dk_4 (dk_at dksX5_readFirst_2 9 rfl rfl)
theorem dX5_readFirst_54 : decode cX5_readFirst 54 = .ok (.iconst 5, 1) := dk_8 (dk_at dksX5_readFirst_2 10 rfl rfl)
theorem dX5_readFirst_55 : decode cX5_readFirst 55 = .ok (.invokevirtual 374, 3) := dk_182 1 118 (dk_at dksX5_readFirst_2 11 rfl rfl)
theorem dX5_readFirst_58 : decode cX5_readFirst 58 = .ok (.ireturn, 1) := dk_172 (dk_at dksX5_readFirst_2 14 rfl rfl)
theorem dX5_readFirst_59 : decode cX5_readFirst 59 = .ok (.aload_n 0, 1) := dk_42 (dk_at dksX5_readFirst_2 15 rfl rfl)
theorem dX5_readFirst_60 : decode cX5_readFirst 60 = .ok (.iconst 1, 1) := dk_4 (dk_at dksX5_readFirst_2 16 rfl rfl)
theorem dX5_readFirst_61 : decode cX5_readFirst 61 = .ok (.sipush 200, 3) := dk_17 0 200 (dk_at dksX5_readFirst_2 17 rfl rfl)
theorem dX5_readFirst_64 : decode cX5_readFirst 64 = .ok (.invokevirtual 374, 3) := dk_182 1 118 (dk_at dksX5_readFirst_2 20 rfl rfl)
theorem dX5_readFirst_67 : decode cX5_readFirst 67 = .ok (.ireturn, 1) := dk_172 (dk_at dksX5_readFirst_2 23 rfl rfl)
theorem dX5_readFirst_68 : decode cX5_readFirst 68 = .ok (.aload_n 0, 1) := dk_42 (dk_at dksX5_readFirst_3 0 rfl rfl)
theorem dX5_readFirst_69 : decode cX5_readFirst 69 = .ok (.iconst 0, 1) := dk_3 (dk_at dksX5_readFirst_3 1 rfl rfl)
theorem dX5_readFirst_70 : decode cX5_readFirst 70 = .ok (.bipush 23, 2) := dk_16 23 (dk_at dksX5_readFirst_3 2 rfl rfl)
theorem dX5_readFirst_72 : decode cX5_readFirst 72 = .ok (.invokevirtual 374, 3) := dk_182 1 118 (dk_at dksX5_readFirst_3 4 rfl rfl)
theorem dX5_readFirst_75 : decode cX5_readFirst 75 = .ok (.ireturn, 1) := dk_172 (dk_at dksX5_readFirst_3 7 rfl rfl)
abbrev cX5_does : ByteArray := prog_21_method_139_code
def yX5_does : MethodName := ⟨RX5, "does", "(I)I"⟩
def dkwX5_does_8 : List UInt8 := [167, 0, 8, 42, 2, 182, 0, 230, 172, 42, 28, 182, 1, 35, 172]
abbrev dktX5_does_8 : List UInt8 := dkwX5_does_8 ++ []
def dkwX5_does_7 : List UInt8 := [182, 0, 230, 172, 42, 28, 182, 1, 26, 172, 42, 28, 182, 0, 190, 153, 0, 11, 42, 28, 182, 1, 29]
abbrev dktX5_does_7 : List UInt8 := dkwX5_does_7 ++ dktX5_does_8
def dkwX5_does_6 : List UInt8 := [153, 0, 20, 42, 28, 29, 42, 180, 0, 64, 27, 6, 96, 46, 182, 1, 19, 167, 0, 8, 42, 2]
abbrev dktX5_does_6 : List UInt8 := dkwX5_does_6 ++ dktX5_does_7
def dkwX5_does_5 : List UInt8 := [167, 0, 8, 42, 2, 182, 0, 230, 172, 42, 28, 182, 0, 196, 153, 0, 28, 42, 29, 182, 0, 196]
abbrev dktX5_does_5 : List UInt8 := dkwX5_does_5 ++ dktX5_does_6
def dkwX5_does_4 : List UInt8 := [167, 0, 8, 42, 2, 182, 0, 230, 172, 42, 28, 182, 0, 190, 153, 0, 11, 42, 28, 182, 1, 23]
abbrev dktX5_does_4 : List UInt8 := dkwX5_does_4 ++ dktX5_does_5
def dkwX5_does_3 : List UInt8 := [167, 0, 8, 42, 2, 182, 0, 230, 172, 42, 28, 182, 0, 196, 153, 0, 11, 42, 28, 182, 1, 13]
abbrev dktX5_does_3 : List UInt8 := dkwX5_does_3 ++ dktX5_does_4
def dkwX5_does_2 : List UInt8 := [42, 28, 182, 0, 196, 153, 0, 20, 42, 29, 182, 0, 190, 153, 0, 12, 42, 28, 29, 182, 1, 7]
abbrev dktX5_does_2 : List UInt8 := dkwX5_does_2 ++ dktX5_does_3
def dkwX5_does_1 : List UInt8 := [170, 0, 0, 0, 0, 0, 0, 186, 0, 0, 0, 0, 0, 0, 0, 6, 0, 0, 0, 44, 0, 0, 0, 75, 0, 0, 0, 97, 0, 0, 0, 158, 0, 0, 0, 164, 0, 0, 0, 186, 0, 0, 0, 119]
abbrev dktX5_does_1 : List UInt8 := dkwX5_does_1 ++ dktX5_does_2
def dkwX5_does_0 : List UInt8 := [42, 180, 0, 64, 27, 4, 96, 46, 61, 42, 180, 0, 64, 27, 5, 96, 46, 62, 42, 180, 0, 64, 27, 46]
abbrev dktX5_does_0 : List UInt8 := dkwX5_does_0 ++ dktX5_does_1
theorem dksX5_does_0 : cX5_does.data.toList.drop 0 = dktX5_does_0 := by decide +kernel
theorem dksX5_does_1 : cX5_does.data.toList.drop 24 = dktX5_does_1 := dk_seg dksX5_does_0 24 rfl rfl
theorem dksX5_does_2 : cX5_does.data.toList.drop 68 = dktX5_does_2 := dk_seg dksX5_does_1 44 rfl rfl
theorem dksX5_does_3 : cX5_does.data.toList.drop 90 = dktX5_does_3 := dk_seg dksX5_does_2 22 rfl rfl
theorem dksX5_does_4 : cX5_does.data.toList.drop 112 = dktX5_does_4 := dk_seg dksX5_does_3 22 rfl rfl
theorem dksX5_does_5 : cX5_does.data.toList.drop 134 = dktX5_does_5 := dk_seg dksX5_does_4 22 rfl rfl
theorem dksX5_does_6 : cX5_does.data.toList.drop 156 = dktX5_does_6 := dk_seg dksX5_does_5 22 rfl rfl
theorem dksX5_does_7 : cX5_does.data.toList.drop 178 = dktX5_does_7 := dk_seg dksX5_does_6 22 rfl rfl
theorem dksX5_does_8 : cX5_does.data.toList.drop 201 = dktX5_does_8 := dk_seg dksX5_does_7 23 rfl rfl
theorem dX5_does_0 : decode cX5_does 0 = .ok (.aload_n 0, 1) := dk_42 (dk_at dksX5_does_0 0 rfl rfl)
theorem dX5_does_1 : decode cX5_does 1 = .ok (.getfield 64, 3) := dk_180 0 64 (dk_at dksX5_does_0 1 rfl rfl)
theorem dX5_does_4 : decode cX5_does 4 = .ok (.iload_n 1, 1) := dk_27 (dk_at dksX5_does_0 4 rfl rfl)
theorem dX5_does_5 : decode cX5_does 5 = .ok (.iconst 1, 1) := dk_4 (dk_at dksX5_does_0 5 rfl rfl)
theorem dX5_does_6 : decode cX5_does 6 = .ok (.iadd, 1) := dk_96 (dk_at dksX5_does_0 6 rfl rfl)
theorem dX5_does_7 : decode cX5_does 7 = .ok (.iaload, 1) := dk_46 (dk_at dksX5_does_0 7 rfl rfl)
theorem dX5_does_8 : decode cX5_does 8 = .ok (.istore_n 2, 1) := dk_61 (dk_at dksX5_does_0 8 rfl rfl)
theorem dX5_does_9 : decode cX5_does 9 = .ok (.aload_n 0, 1) := dk_42 (dk_at dksX5_does_0 9 rfl rfl)
theorem dX5_does_10 : decode cX5_does 10 = .ok (.getfield 64, 3) := dk_180 0 64 (dk_at dksX5_does_0 10 rfl rfl)
theorem dX5_does_13 : decode cX5_does 13 = .ok (.iload_n 1, 1) := dk_27 (dk_at dksX5_does_0 13 rfl rfl)
theorem dX5_does_14 : decode cX5_does 14 = .ok (.iconst 2, 1) := dk_5 (dk_at dksX5_does_0 14 rfl rfl)
theorem dX5_does_15 : decode cX5_does 15 = .ok (.iadd, 1) := dk_96 (dk_at dksX5_does_0 15 rfl rfl)
theorem dX5_does_16 : decode cX5_does 16 = .ok (.iaload, 1) := dk_46 (dk_at dksX5_does_0 16 rfl rfl)
theorem dX5_does_17 : decode cX5_does 17 = .ok (.istore_n 3, 1) := dk_62 (dk_at dksX5_does_0 17 rfl rfl)
theorem dX5_does_18 : decode cX5_does 18 = .ok (.aload_n 0, 1) := dk_42 (dk_at dksX5_does_0 18 rfl rfl)
theorem dX5_does_19 : decode cX5_does 19 = .ok (.getfield 64, 3) := dk_180 0 64 (dk_at dksX5_does_0 19 rfl rfl)
theorem dX5_does_22 : decode cX5_does 22 = .ok (.iload_n 1, 1) := dk_27 (dk_at dksX5_does_0 22 rfl rfl)
theorem dX5_does_23 : decode cX5_does 23 = .ok (.iaload, 1) := dk_46 (dk_at dksX5_does_0 23 rfl rfl)
theorem dX5_does_24 : decode cX5_does 24 = .ok (.tableswitch 186 0 6 #[44, 75, 97, 158, 164, 186, 119], 44) := by decide +kernel
theorem dX5_does_68 : decode cX5_does 68 = .ok (.aload_n 0, 1) := dk_42 (dk_at dksX5_does_2 0 rfl rfl)
theorem dX5_does_69 : decode cX5_does 69 = .ok (.iload_n 2, 1) := dk_28 (dk_at dksX5_does_2 1 rfl rfl)
theorem dX5_does_70 : decode cX5_does 70 = .ok (.invokevirtual 196, 3) := dk_182 0 196 (dk_at dksX5_does_2 2 rfl rfl)
theorem dX5_does_73 : decode cX5_does 73 = .ok (.ifCond .eq 20, 3) := dk_153 0 20 (dk_at dksX5_does_2 5 rfl rfl)
theorem dX5_does_76 : decode cX5_does 76 = .ok (.aload_n 0, 1) := dk_42 (dk_at dksX5_does_2 8 rfl rfl)
theorem dX5_does_77 : decode cX5_does 77 = .ok (.iload_n 3, 1) := dk_29 (dk_at dksX5_does_2 9 rfl rfl)
theorem dX5_does_78 : decode cX5_does 78 = .ok (.invokevirtual 190, 3) := dk_182 0 190 (dk_at dksX5_does_2 10 rfl rfl)
theorem dX5_does_81 : decode cX5_does 81 = .ok (.ifCond .eq 12, 3) := dk_153 0 12 (dk_at dksX5_does_2 13 rfl rfl)
theorem dX5_does_84 : decode cX5_does 84 = .ok (.aload_n 0, 1) := dk_42 (dk_at dksX5_does_2 16 rfl rfl)
theorem dX5_does_85 : decode cX5_does 85 = .ok (.iload_n 2, 1) := dk_28 (dk_at dksX5_does_2 17 rfl rfl)
theorem dX5_does_86 : decode cX5_does 86 = .ok (.iload_n 3, 1) := dk_29 (dk_at dksX5_does_2 18 rfl rfl)
theorem dX5_does_87 : decode cX5_does 87 = .ok (.invokevirtual 263, 3) := dk_182 1 7 (dk_at dksX5_does_2 19 rfl rfl)
theorem dX5_does_90 : decode cX5_does 90 = .ok (.goto 8, 3) := dk_167 0 8 (dk_at dksX5_does_3 0 rfl rfl)
theorem dX5_does_93 : decode cX5_does 93 = .ok (.aload_n 0, 1) := dk_42 (dk_at dksX5_does_3 3 rfl rfl)
theorem dX5_does_94 : decode cX5_does 94 = .ok (.iconst (-1), 1) := dk_2 (dk_at dksX5_does_3 4 rfl rfl)
theorem dX5_does_95 : decode cX5_does 95 = .ok (.invokevirtual 230, 3) := dk_182 0 230 (dk_at dksX5_does_3 5 rfl rfl)
theorem dX5_does_98 : decode cX5_does 98 = .ok (.ireturn, 1) := dk_172 (dk_at dksX5_does_3 8 rfl rfl)
theorem dX5_does_99 : decode cX5_does 99 = .ok (.aload_n 0, 1) := dk_42 (dk_at dksX5_does_3 9 rfl rfl)
theorem dX5_does_100 : decode cX5_does 100 = .ok (.iload_n 2, 1) := dk_28 (dk_at dksX5_does_3 10 rfl rfl)
theorem dX5_does_101 : decode cX5_does 101 = .ok (.invokevirtual 196, 3) := dk_182 0 196 (dk_at dksX5_does_3 11 rfl rfl)
theorem dX5_does_104 : decode cX5_does 104 = .ok (.ifCond .eq 11, 3) := dk_153 0 11 (dk_at dksX5_does_3 14 rfl rfl)
theorem dX5_does_107 : decode cX5_does 107 = .ok (.aload_n 0, 1) := dk_42 (dk_at dksX5_does_3 17 rfl rfl)
theorem dX5_does_108 : decode cX5_does 108 = .ok (.iload_n 2, 1) := dk_28 (dk_at dksX5_does_3 18 rfl rfl)
theorem dX5_does_109 : decode cX5_does 109 = .ok (.invokevirtual 269, 3) := dk_182 1 13 (dk_at dksX5_does_3 19 rfl rfl)
theorem dX5_does_112 : decode cX5_does 112 = .ok (.goto 8, 3) := dk_167 0 8 (dk_at dksX5_does_4 0 rfl rfl)
theorem dX5_does_115 : decode cX5_does 115 = .ok (.aload_n 0, 1) := dk_42 (dk_at dksX5_does_4 3 rfl rfl)
theorem dX5_does_116 : decode cX5_does 116 = .ok (.iconst (-1), 1) := dk_2 (dk_at dksX5_does_4 4 rfl rfl)
theorem dX5_does_117 : decode cX5_does 117 = .ok (.invokevirtual 230, 3) := dk_182 0 230 (dk_at dksX5_does_4 5 rfl rfl)
theorem dX5_does_120 : decode cX5_does 120 = .ok (.ireturn, 1) := dk_172 (dk_at dksX5_does_4 8 rfl rfl)
theorem dX5_does_121 : decode cX5_does 121 = .ok (.aload_n 0, 1) := dk_42 (dk_at dksX5_does_4 9 rfl rfl)
theorem dX5_does_122 : decode cX5_does 122 = .ok (.iload_n 2, 1) := dk_28 (dk_at dksX5_does_4 10 rfl rfl)
theorem dX5_does_123 : decode cX5_does 123 = .ok (.invokevirtual 190, 3) := dk_182 0 190 (dk_at dksX5_does_4 11 rfl rfl)
theorem dX5_does_126 : decode cX5_does 126 = .ok (.ifCond .eq 11, 3) := dk_153 0 11 (dk_at dksX5_does_4 14 rfl rfl)
theorem dX5_does_129 : decode cX5_does 129 = .ok (.aload_n 0, 1) := dk_42 (dk_at dksX5_does_4 17 rfl rfl)
theorem dX5_does_130 : decode cX5_does 130 = .ok (.iload_n 2, 1) := dk_28 (dk_at dksX5_does_4 18 rfl rfl)
theorem dX5_does_131 : decode cX5_does 131 = .ok (.invokevirtual 279, 3) := dk_182 1 23 (dk_at dksX5_does_4 19 rfl rfl)
theorem dX5_does_134 : decode cX5_does 134 = .ok (.goto 8, 3) := dk_167 0 8 (dk_at dksX5_does_5 0 rfl rfl)
theorem dX5_does_137 : decode cX5_does 137 = .ok (.aload_n 0, 1) := dk_42 (dk_at dksX5_does_5 3 rfl rfl)
theorem dX5_does_138 : decode cX5_does 138 = .ok (.iconst (-1), 1) := dk_2 (dk_at dksX5_does_5 4 rfl rfl)
theorem dX5_does_139 : decode cX5_does 139 = .ok (.invokevirtual 230, 3) := dk_182 0 230 (dk_at dksX5_does_5 5 rfl rfl)
theorem dX5_does_142 : decode cX5_does 142 = .ok (.ireturn, 1) := dk_172 (dk_at dksX5_does_5 8 rfl rfl)
theorem dX5_does_143 : decode cX5_does 143 = .ok (.aload_n 0, 1) := dk_42 (dk_at dksX5_does_5 9 rfl rfl)
theorem dX5_does_144 : decode cX5_does 144 = .ok (.iload_n 2, 1) := dk_28 (dk_at dksX5_does_5 10 rfl rfl)
theorem dX5_does_145 : decode cX5_does 145 = .ok (.invokevirtual 196, 3) := dk_182 0 196 (dk_at dksX5_does_5 11 rfl rfl)
theorem dX5_does_148 : decode cX5_does 148 = .ok (.ifCond .eq 28, 3) := dk_153 0 28 (dk_at dksX5_does_5 14 rfl rfl)
theorem dX5_does_151 : decode cX5_does 151 = .ok (.aload_n 0, 1) := dk_42 (dk_at dksX5_does_5 17 rfl rfl)
theorem dX5_does_152 : decode cX5_does 152 = .ok (.iload_n 3, 1) := dk_29 (dk_at dksX5_does_5 18 rfl rfl)
theorem dX5_does_153 : decode cX5_does 153 = .ok (.invokevirtual 196, 3) := dk_182 0 196 (dk_at dksX5_does_5 19 rfl rfl)
theorem dX5_does_156 : decode cX5_does 156 = .ok (.ifCond .eq 20, 3) := dk_153 0 20 (dk_at dksX5_does_6 0 rfl rfl)
theorem dX5_does_159 : decode cX5_does 159 = .ok (.aload_n 0, 1) := dk_42 (dk_at dksX5_does_6 3 rfl rfl)
theorem dX5_does_160 : decode cX5_does 160 = .ok (.iload_n 2, 1) := dk_28 (dk_at dksX5_does_6 4 rfl rfl)
theorem dX5_does_161 : decode cX5_does 161 = .ok (.iload_n 3, 1) := dk_29 (dk_at dksX5_does_6 5 rfl rfl)
theorem dX5_does_162 : decode cX5_does 162 = .ok (.aload_n 0, 1) := dk_42 (dk_at dksX5_does_6 6 rfl rfl)
theorem dX5_does_163 : decode cX5_does 163 = .ok (.getfield 64, 3) := dk_180 0 64 (dk_at dksX5_does_6 7 rfl rfl)
theorem dX5_does_166 : decode cX5_does 166 = .ok (.iload_n 1, 1) := dk_27 (dk_at dksX5_does_6 10 rfl rfl)
theorem dX5_does_167 : decode cX5_does 167 = .ok (.iconst 3, 1) := dk_6 (dk_at dksX5_does_6 11 rfl rfl)
theorem dX5_does_168 : decode cX5_does 168 = .ok (.iadd, 1) := dk_96 (dk_at dksX5_does_6 12 rfl rfl)
theorem dX5_does_169 : decode cX5_does 169 = .ok (.iaload, 1) := dk_46 (dk_at dksX5_does_6 13 rfl rfl)
theorem dX5_does_170 : decode cX5_does 170 = .ok (.invokevirtual 275, 3) := dk_182 1 19 (dk_at dksX5_does_6 14 rfl rfl)
theorem dX5_does_173 : decode cX5_does 173 = .ok (.goto 8, 3) := dk_167 0 8 (dk_at dksX5_does_6 17 rfl rfl)
theorem dX5_does_176 : decode cX5_does 176 = .ok (.aload_n 0, 1) := dk_42 (dk_at dksX5_does_6 20 rfl rfl)
theorem dX5_does_177 : decode cX5_does 177 = .ok (.iconst (-1), 1) := dk_2 (dk_at dksX5_does_6 21 rfl rfl)
theorem dX5_does_178 : decode cX5_does 178 = .ok (.invokevirtual 230, 3) := dk_182 0 230 (dk_at dksX5_does_7 0 rfl rfl)
theorem dX5_does_181 : decode cX5_does 181 = .ok (.ireturn, 1) := dk_172 (dk_at dksX5_does_7 3 rfl rfl)
theorem dX5_does_182 : decode cX5_does 182 = .ok (.aload_n 0, 1) := dk_42 (dk_at dksX5_does_7 4 rfl rfl)
theorem dX5_does_183 : decode cX5_does 183 = .ok (.iload_n 2, 1) := dk_28 (dk_at dksX5_does_7 5 rfl rfl)
theorem dX5_does_184 : decode cX5_does 184 = .ok (.invokevirtual 282, 3) := dk_182 1 26 (dk_at dksX5_does_7 6 rfl rfl)
theorem dX5_does_187 : decode cX5_does 187 = .ok (.ireturn, 1) := dk_172 (dk_at dksX5_does_7 9 rfl rfl)
theorem dX5_does_188 : decode cX5_does 188 = .ok (.aload_n 0, 1) := dk_42 (dk_at dksX5_does_7 10 rfl rfl)
theorem dX5_does_189 : decode cX5_does 189 = .ok (.iload_n 2, 1) := dk_28 (dk_at dksX5_does_7 11 rfl rfl)
theorem dX5_does_190 : decode cX5_does 190 = .ok (.invokevirtual 190, 3) := dk_182 0 190 (dk_at dksX5_does_7 12 rfl rfl)
theorem dX5_does_193 : decode cX5_does 193 = .ok (.ifCond .eq 11, 3) := dk_153 0 11 (dk_at dksX5_does_7 15 rfl rfl)
theorem dX5_does_196 : decode cX5_does 196 = .ok (.aload_n 0, 1) := dk_42 (dk_at dksX5_does_7 18 rfl rfl)
theorem dX5_does_197 : decode cX5_does 197 = .ok (.iload_n 2, 1) := dk_28 (dk_at dksX5_does_7 19 rfl rfl)
theorem dX5_does_198 : decode cX5_does 198 = .ok (.invokevirtual 285, 3) := dk_182 1 29 (dk_at dksX5_does_7 20 rfl rfl)
theorem dX5_does_201 : decode cX5_does 201 = .ok (.goto 8, 3) := dk_167 0 8 (dk_at dksX5_does_8 0 rfl rfl)
theorem dX5_does_204 : decode cX5_does 204 = .ok (.aload_n 0, 1) := dk_42 (dk_at dksX5_does_8 3 rfl rfl)
theorem dX5_does_205 : decode cX5_does 205 = .ok (.iconst (-1), 1) := dk_2 (dk_at dksX5_does_8 4 rfl rfl)
theorem dX5_does_206 : decode cX5_does 206 = .ok (.invokevirtual 230, 3) := dk_182 0 230 (dk_at dksX5_does_8 5 rfl rfl)
theorem dX5_does_209 : decode cX5_does 209 = .ok (.ireturn, 1) := dk_172 (dk_at dksX5_does_8 8 rfl rfl)
theorem dX5_does_210 : decode cX5_does 210 = .ok (.aload_n 0, 1) := dk_42 (dk_at dksX5_does_8 9 rfl rfl)
theorem dX5_does_211 : decode cX5_does 211 = .ok (.iload_n 2, 1) := dk_28 (dk_at dksX5_does_8 10 rfl rfl)
theorem dX5_does_212 : decode cX5_does 212 = .ok (.invokevirtual 291, 3) := dk_182 1 35 (dk_at dksX5_does_8 11 rfl rfl)
theorem dX5_does_215 : decode cX5_does 215 = .ok (.ireturn, 1) := dk_172 (dk_at dksX5_does_8 14 rfl rfl)
theorem q153 : (Jvm.Cond.initialized "WreckSharesModel") ∈ lw_all := lw_g (lw_at lw_m1 29 rfl) rfl
theorem q729 : (Jvm.Cond.selects "WreckSharesModel" ({ cls := "java/lang/Object", name := "getClass", desc := "()Ljava/lang/Class;" } : Jvm.MethodName) ({ cls := "java/lang/Object", name := "getClass", desc := "()Ljava/lang/Class;" } : Jvm.MethodName)) ∈ lw_all := lw_g (lw_at lw_m3 125 rfl) rfl
theorem q1390 : (Jvm.Cond.selects "WreckSharesModel" ({ cls := "java/lang/Object", name := "equals", desc := "(Ljava/lang/Object;)Z" } : Jvm.MethodName) ({ cls := "java/lang/Object", name := "equals", desc := "(Ljava/lang/Object;)Z" } : Jvm.MethodName)) ∈ lw_all := lw_g (lw_at lw_m6 66 rfl) rfl
theorem q2473 : (Jvm.Cond.instantiable "WreckSharesModel" (29 : Nat)) ∈ lw_all := lw_g (lw_at lw_m10 189 rfl) rfl
theorem q2475 : (Jvm.Cond.instanceMethod ({ cls := "WreckSharesModel", name := "<init>", desc := "()V" } : Jvm.MethodName)) ∈ lw_all := lw_g (lw_at lw_m10 191 rfl) rfl
theorem q2476 : (Jvm.Cond.code ({ cls := "WreckSharesModel", name := "<init>", desc := "()V" } : Jvm.MethodName) prog_21_method_1_code (1 : Nat) (Option.none : Option Jvm.ClassFile.FieldType)) ∈ lw_all := lw_g (lw_at lw_m10 192 rfl) rfl
theorem q2477 : (Jvm.Cond.methodLink "WreckSharesModel" (1 : Nat) ({ cls := "java/lang/Object", name := "<init>", desc := "()V" } : Jvm.MethodName)) ∈ lw_all := lw_g (lw_at lw_m10 193 rfl) rfl
theorem q2478 : (Jvm.Cond.classLink "WreckSharesModel" (37 : Nat) "java/lang/String") ∈ lw_all := lw_g (lw_at lw_m10 194 rfl) rfl
theorem q2480 : (Jvm.Cond.stringRef "WreckSharesModel" (39 : Nat) "cask") ∈ lw_tbl := lw_at lw_m10 196 rfl
theorem q2481 : (Jvm.Cond.stringRef "WreckSharesModel" (41 : Nat) "bale") ∈ lw_tbl := lw_at lw_m10 197 rfl
theorem q2482 : (Jvm.Cond.stringRef "WreckSharesModel" (43 : Nat) "spar") ∈ lw_tbl := lw_at lw_m10 198 rfl
theorem q2483 : (Jvm.Cond.stringRef "WreckSharesModel" (45 : Nat) "chest") ∈ lw_tbl := lw_at lw_m10 199 rfl
theorem q2484 : (Jvm.Cond.stringRef "WreckSharesModel" (67 : Nat) "rope") ∈ lw_tbl := lw_at lw_m10 200 rfl
theorem q2485 : (Jvm.Cond.stringRef "WreckSharesModel" (69 : Nat) "off") ∈ lw_tbl := lw_at lw_m10 201 rfl
theorem q2486 : (Jvm.Cond.stringRef "WreckSharesModel" (71 : Nat) "haul") ∈ lw_tbl := lw_at lw_m10 202 rfl
theorem q2487 : (Jvm.Cond.stringRef "WreckSharesModel" (73 : Nat) "claim") ∈ lw_tbl := lw_at lw_m10 203 rfl
theorem q2488 : (Jvm.Cond.stringRef "WreckSharesModel" (75 : Nat) "divide") ∈ lw_tbl := lw_at lw_m10 204 rfl
theorem q2489 : (Jvm.Cond.stringRef "WreckSharesModel" (77 : Nat) "tick") ∈ lw_tbl := lw_at lw_m10 205 rfl
theorem q2490 : (Jvm.Cond.stringRef "WreckSharesModel" (79 : Nat) "pay") ∈ lw_tbl := lw_at lw_m10 206 rfl
theorem q2491 : (Jvm.Cond.methodLink "WreckSharesModel" (84 : Nat) ({ cls := "WreckSharesModel", name := "begin", desc := "(IIII)V" } : Jvm.MethodName)) ∈ lw_all := lw_g (lw_at lw_m10 207 rfl) rfl
theorem q2492 : (Jvm.Cond.privateMethod ({ cls := "WreckSharesModel", name := "begin", desc := "(IIII)V" } : Jvm.MethodName)) ∈ lw_tbl := lw_at lw_m10 208 rfl
theorem q2493 : (Jvm.Cond.instanceMethod ({ cls := "WreckSharesModel", name := "begin", desc := "(IIII)V" } : Jvm.MethodName)) ∈ lw_all := lw_g (lw_at lw_m10 209 rfl) rfl
theorem q2494 : (Jvm.Cond.code ({ cls := "WreckSharesModel", name := "begin", desc := "(IIII)V" } : Jvm.MethodName) prog_21_method_6_code (6 : Nat) (Option.none : Option Jvm.ClassFile.FieldType)) ∈ lw_all := lw_g (lw_at lw_m10 210 rfl) rfl
theorem q2495 : (Jvm.Cond.methodLink "WreckSharesModel" (95 : Nat) ({ cls := "WreckSharesModel", name := "layFinder", desc := "(III)V" } : Jvm.MethodName)) ∈ lw_all := lw_g (lw_at lw_m10 211 rfl) rfl
theorem q2496 : (Jvm.Cond.privateMethod ({ cls := "WreckSharesModel", name := "layFinder", desc := "(III)V" } : Jvm.MethodName)) ∈ lw_tbl := lw_at lw_m10 212 rfl
theorem q2497 : (Jvm.Cond.instanceMethod ({ cls := "WreckSharesModel", name := "layFinder", desc := "(III)V" } : Jvm.MethodName)) ∈ lw_all := lw_g (lw_at lw_m10 213 rfl) rfl
theorem q2498 : (Jvm.Cond.code ({ cls := "WreckSharesModel", name := "layFinder", desc := "(III)V" } : Jvm.MethodName) prog_21_method_10_code (4 : Nat) (Option.none : Option Jvm.ClassFile.FieldType)) ∈ lw_all := lw_g (lw_at lw_m10 214 rfl) rfl
theorem q2499 : (Jvm.Cond.methodLink "WreckSharesModel" (88 : Nat) ({ cls := "WreckSharesModel", name := "addGood", desc := "(IIIII)V" } : Jvm.MethodName)) ∈ lw_all := lw_g (lw_at lw_m10 215 rfl) rfl
theorem q2500 : (Jvm.Cond.privateMethod ({ cls := "WreckSharesModel", name := "addGood", desc := "(IIIII)V" } : Jvm.MethodName)) ∈ lw_tbl := lw_at lw_m10 216 rfl
theorem q2501 : (Jvm.Cond.instanceMethod ({ cls := "WreckSharesModel", name := "addGood", desc := "(IIIII)V" } : Jvm.MethodName)) ∈ lw_all := lw_g (lw_at lw_m10 217 rfl) rfl
theorem q2502 : (Jvm.Cond.code ({ cls := "WreckSharesModel", name := "addGood", desc := "(IIIII)V" } : Jvm.MethodName) prog_21_method_13_code (7 : Nat) (Option.none : Option Jvm.ClassFile.FieldType)) ∈ lw_all := lw_g (lw_at lw_m10 218 rfl) rfl
theorem q2503 : (Jvm.Cond.methodLink "WreckSharesModel" (99 : Nat) ({ cls := "WreckSharesModel", name := "lay", desc := "(III)V" } : Jvm.MethodName)) ∈ lw_all := lw_g (lw_at lw_m10 219 rfl) rfl
theorem q2504 : (Jvm.Cond.privateMethod ({ cls := "WreckSharesModel", name := "lay", desc := "(III)V" } : Jvm.MethodName)) ∈ lw_tbl := lw_at lw_m10 220 rfl
theorem q2505 : (Jvm.Cond.instanceMethod ({ cls := "WreckSharesModel", name := "lay", desc := "(III)V" } : Jvm.MethodName)) ∈ lw_all := lw_g (lw_at lw_m10 221 rfl) rfl
theorem q2506 : (Jvm.Cond.code ({ cls := "WreckSharesModel", name := "lay", desc := "(III)V" } : Jvm.MethodName) prog_21_method_12_code (4 : Nat) (Option.none : Option Jvm.ClassFile.FieldType)) ∈ lw_all := lw_g (lw_at lw_m10 222 rfl) rfl
theorem q2507 : (Jvm.Cond.fieldLink "WreckSharesModel" (9 : Nat) "WreckSharesModel" "now" "[I") ∈ lw_all := lw_g (lw_at lw_m10 223 rfl) rfl
theorem q2508 : (Jvm.Cond.fieldLink "WreckSharesModel" (13 : Nat) "WreckSharesModel" "draft" "[I") ∈ lw_all := lw_g (lw_at lw_m10 224 rfl) rfl
theorem q2509 : (Jvm.Cond.fieldLink "WreckSharesModel" (16 : Nat) "WreckSharesModel" "kept" "[I") ∈ lw_all := lw_g (lw_at lw_m10 225 rfl) rfl
theorem q2510 : (Jvm.Cond.fieldLink "WreckSharesModel" (19 : Nat) "WreckSharesModel" "snapshot" "[I") ∈ lw_all := lw_g (lw_at lw_m10 226 rfl) rfl
theorem q2511 : (Jvm.Cond.fieldLink "WreckSharesModel" (22 : Nat) "WreckSharesModel" "history" "[I") ∈ lw_all := lw_g (lw_at lw_m10 227 rfl) rfl
theorem q2512 : (Jvm.Cond.fieldLink "WreckSharesModel" (25 : Nat) "WreckSharesModel" "accounts" "[I") ∈ lw_all := lw_g (lw_at lw_m10 228 rfl) rfl
theorem q2513 : (Jvm.Cond.fieldLink "WreckSharesModel" (28 : Nat) "WreckSharesModel" "rates" "[I") ∈ lw_all := lw_g (lw_at lw_m10 229 rfl) rfl
theorem q2514 : (Jvm.Cond.fieldLink "WreckSharesModel" (31 : Nat) "WreckSharesModel" "letters" "[I") ∈ lw_all := lw_g (lw_at lw_m10 230 rfl) rfl
theorem q2515 : (Jvm.Cond.fieldLink "WreckSharesModel" (34 : Nat) "WreckSharesModel" "signs" "[I") ∈ lw_all := lw_g (lw_at lw_m10 231 rfl) rfl
theorem q2516 : (Jvm.Cond.fieldLink "WreckSharesModel" (47 : Nat) "WreckSharesModel" "kinds" "[Ljava/lang/String;") ∈ lw_all := lw_g (lw_at lw_m10 232 rfl) rfl
theorem q2517 : (Jvm.Cond.fieldLink "WreckSharesModel" (51 : Nat) "WreckSharesModel" "row" "[I") ∈ lw_all := lw_g (lw_at lw_m10 233 rfl) rfl
theorem q2518 : (Jvm.Cond.fieldLink "WreckSharesModel" (254 : Nat) "WreckSharesModel" "undoCount" "I") ∈ lw_all := lw_g (lw_at lw_m10 234 rfl) rfl
theorem q2519 : (Jvm.Cond.fieldLink "WreckSharesModel" (92 : Nat) "WreckSharesModel" "thrown" "I") ∈ lw_all := lw_g (lw_at lw_m10 235 rfl) rfl
theorem q2520 : (Jvm.Cond.fieldLink "WreckSharesModel" (303 : Nat) "WreckSharesModel" "hasSnapshot" "Z") ∈ lw_all := lw_g (lw_at lw_m10 236 rfl) rfl
theorem q2521 : (Jvm.Cond.fieldLink "WreckSharesModel" (54 : Nat) "WreckSharesModel" "formatted" "[I") ∈ lw_all := lw_g (lw_at lw_m10 237 rfl) rfl
theorem q2522 : (Jvm.Cond.fieldLink "WreckSharesModel" (294 : Nat) "WreckSharesModel" "formattedLength" "I") ∈ lw_all := lw_g (lw_at lw_m10 238 rfl) rfl
theorem q2523 : (Jvm.Cond.fieldLink "WreckSharesModel" (57 : Nat) "WreckSharesModel" "buffer" "[I") ∈ lw_all := lw_g (lw_at lw_m10 239 rfl) rfl
theorem q2524 : (Jvm.Cond.fieldLink "WreckSharesModel" (307 : Nat) "WreckSharesModel" "bufferLength" "I") ∈ lw_all := lw_g (lw_at lw_m11 0 rfl) rfl
theorem q2525 : (Jvm.Cond.fieldLink "WreckSharesModel" (310 : Nat) "WreckSharesModel" "limit" "I") ∈ lw_all := lw_g (lw_at lw_m11 1 rfl) rfl
theorem q2526 : (Jvm.Cond.fieldLink "WreckSharesModel" (316 : Nat) "WreckSharesModel" "next" "I") ∈ lw_all := lw_g (lw_at lw_m11 2 rfl) rfl
theorem q2527 : (Jvm.Cond.fieldLink "WreckSharesModel" (319 : Nat) "WreckSharesModel" "beginsAt" "I") ∈ lw_all := lw_g (lw_at lw_m11 3 rfl) rfl
theorem q2528 : (Jvm.Cond.fieldLink "WreckSharesModel" (322 : Nat) "WreckSharesModel" "token" "I") ∈ lw_all := lw_g (lw_at lw_m11 4 rfl) rfl
theorem q2529 : (Jvm.Cond.fieldLink "WreckSharesModel" (331 : Nat) "WreckSharesModel" "error" "I") ∈ lw_all := lw_g (lw_at lw_m11 5 rfl) rfl
theorem q2530 : (Jvm.Cond.fieldLink "WreckSharesModel" (340 : Nat) "WreckSharesModel" "errorAt" "I") ∈ lw_all := lw_g (lw_at lw_m11 6 rfl) rfl
theorem q2531 : (Jvm.Cond.fieldLink "WreckSharesModel" (60 : Nat) "WreckSharesModel" "errorPosition" "I") ∈ lw_all := lw_g (lw_at lw_m11 7 rfl) rfl
theorem q2532 : (Jvm.Cond.fieldLink "WreckSharesModel" (334 : Nat) "WreckSharesModel" "nested" "I") ∈ lw_all := lw_g (lw_at lw_m11 8 rfl) rfl
theorem q2533 : (Jvm.Cond.fieldLink "WreckSharesModel" (64 : Nat) "WreckSharesModel" "orders" "[I") ∈ lw_all := lw_g (lw_at lw_m11 9 rfl) rfl
theorem q2534 : (Jvm.Cond.fieldLink "WreckSharesModel" (81 : Nat) "WreckSharesModel" "orderWords" "[Ljava/lang/String;") ∈ lw_all := lw_g (lw_at lw_m11 10 rfl) rfl
theorem q2535 : (Jvm.Cond.fieldLink "WreckSharesModel" (402 : Nat) "WreckSharesModel" "orderCount" "I") ∈ lw_all := lw_g (lw_at lw_m11 11 rfl) rfl
theorem q2536 : (Jvm.Cond.laysFinal "WreckSharesModel" "WreckSharesModel" "now" "[I") ∈ lw_all := lw_g (lw_at lw_m11 12 rfl) rfl
theorem q2537 : (Jvm.Cond.soleField "WreckSharesModel" "now") ∈ lw_all := lw_g (lw_at lw_m11 13 rfl) rfl
theorem q2538 : (Jvm.Cond.laysFinal "WreckSharesModel" "WreckSharesModel" "draft" "[I") ∈ lw_all := lw_g (lw_at lw_m11 14 rfl) rfl
theorem q2539 : (Jvm.Cond.soleField "WreckSharesModel" "draft") ∈ lw_all := lw_g (lw_at lw_m11 15 rfl) rfl
theorem q2540 : (Jvm.Cond.laysFinal "WreckSharesModel" "WreckSharesModel" "kept" "[I") ∈ lw_all := lw_g (lw_at lw_m11 16 rfl) rfl
theorem q2541 : (Jvm.Cond.soleField "WreckSharesModel" "kept") ∈ lw_all := lw_g (lw_at lw_m11 17 rfl) rfl
theorem q2542 : (Jvm.Cond.laysFinal "WreckSharesModel" "WreckSharesModel" "snapshot" "[I") ∈ lw_all := lw_g (lw_at lw_m11 18 rfl) rfl
theorem q2543 : (Jvm.Cond.soleField "WreckSharesModel" "snapshot") ∈ lw_all := lw_g (lw_at lw_m11 19 rfl) rfl
theorem q2544 : (Jvm.Cond.laysFinal "WreckSharesModel" "WreckSharesModel" "history" "[I") ∈ lw_all := lw_g (lw_at lw_m11 20 rfl) rfl
theorem q2545 : (Jvm.Cond.soleField "WreckSharesModel" "history") ∈ lw_all := lw_g (lw_at lw_m11 21 rfl) rfl
theorem q2546 : (Jvm.Cond.laysFinal "WreckSharesModel" "WreckSharesModel" "accounts" "[I") ∈ lw_all := lw_g (lw_at lw_m11 22 rfl) rfl
theorem q2547 : (Jvm.Cond.soleField "WreckSharesModel" "accounts") ∈ lw_all := lw_g (lw_at lw_m11 23 rfl) rfl
theorem q2548 : (Jvm.Cond.laysFinal "WreckSharesModel" "WreckSharesModel" "rates" "[I") ∈ lw_all := lw_g (lw_at lw_m11 24 rfl) rfl
theorem q2549 : (Jvm.Cond.soleField "WreckSharesModel" "rates") ∈ lw_all := lw_g (lw_at lw_m11 25 rfl) rfl
theorem q2550 : (Jvm.Cond.laysFinal "WreckSharesModel" "WreckSharesModel" "letters" "[I") ∈ lw_all := lw_g (lw_at lw_m11 26 rfl) rfl
theorem q2551 : (Jvm.Cond.soleField "WreckSharesModel" "letters") ∈ lw_all := lw_g (lw_at lw_m11 27 rfl) rfl
theorem q2552 : (Jvm.Cond.laysFinal "WreckSharesModel" "WreckSharesModel" "signs" "[I") ∈ lw_all := lw_g (lw_at lw_m11 28 rfl) rfl
theorem q2553 : (Jvm.Cond.soleField "WreckSharesModel" "signs") ∈ lw_all := lw_g (lw_at lw_m11 29 rfl) rfl
theorem q2554 : (Jvm.Cond.laysFinal "WreckSharesModel" "WreckSharesModel" "kinds" "[Ljava/lang/String;") ∈ lw_all := lw_g (lw_at lw_m11 30 rfl) rfl
theorem q2555 : (Jvm.Cond.soleField "WreckSharesModel" "kinds") ∈ lw_all := lw_g (lw_at lw_m11 31 rfl) rfl
theorem q2556 : (Jvm.Cond.lays "WreckSharesModel" "WreckSharesModel" "row" "[I") ∈ lw_all := lw_g (lw_at lw_m11 32 rfl) rfl
theorem q2557 : (Jvm.Cond.soleField "WreckSharesModel" "row") ∈ lw_all := lw_g (lw_at lw_m11 33 rfl) rfl
theorem q2558 : (Jvm.Cond.lays "WreckSharesModel" "WreckSharesModel" "undoCount" "I") ∈ lw_all := lw_g (lw_at lw_m11 34 rfl) rfl
theorem q2559 : (Jvm.Cond.soleField "WreckSharesModel" "undoCount") ∈ lw_all := lw_g (lw_at lw_m11 35 rfl) rfl
theorem q2560 : (Jvm.Cond.lays "WreckSharesModel" "WreckSharesModel" "thrown" "I") ∈ lw_all := lw_g (lw_at lw_m11 36 rfl) rfl
theorem q2561 : (Jvm.Cond.soleField "WreckSharesModel" "thrown") ∈ lw_all := lw_g (lw_at lw_m11 37 rfl) rfl
theorem q2562 : (Jvm.Cond.lays "WreckSharesModel" "WreckSharesModel" "hasSnapshot" "Z") ∈ lw_all := lw_g (lw_at lw_m11 38 rfl) rfl
theorem q2563 : (Jvm.Cond.soleField "WreckSharesModel" "hasSnapshot") ∈ lw_all := lw_g (lw_at lw_m11 39 rfl) rfl
theorem q2564 : (Jvm.Cond.laysFinal "WreckSharesModel" "WreckSharesModel" "formatted" "[I") ∈ lw_all := lw_g (lw_at lw_m11 40 rfl) rfl
theorem q2565 : (Jvm.Cond.soleField "WreckSharesModel" "formatted") ∈ lw_all := lw_g (lw_at lw_m11 41 rfl) rfl
theorem q2566 : (Jvm.Cond.lays "WreckSharesModel" "WreckSharesModel" "formattedLength" "I") ∈ lw_all := lw_g (lw_at lw_m11 42 rfl) rfl
theorem q2567 : (Jvm.Cond.soleField "WreckSharesModel" "formattedLength") ∈ lw_all := lw_g (lw_at lw_m11 43 rfl) rfl
theorem q2568 : (Jvm.Cond.laysFinal "WreckSharesModel" "WreckSharesModel" "buffer" "[I") ∈ lw_all := lw_g (lw_at lw_m11 44 rfl) rfl
theorem q2569 : (Jvm.Cond.soleField "WreckSharesModel" "buffer") ∈ lw_all := lw_g (lw_at lw_m11 45 rfl) rfl
theorem q2570 : (Jvm.Cond.lays "WreckSharesModel" "WreckSharesModel" "bufferLength" "I") ∈ lw_all := lw_g (lw_at lw_m11 46 rfl) rfl
theorem q2571 : (Jvm.Cond.soleField "WreckSharesModel" "bufferLength") ∈ lw_all := lw_g (lw_at lw_m11 47 rfl) rfl
theorem q2572 : (Jvm.Cond.lays "WreckSharesModel" "WreckSharesModel" "limit" "I") ∈ lw_all := lw_g (lw_at lw_m11 48 rfl) rfl
theorem q2573 : (Jvm.Cond.soleField "WreckSharesModel" "limit") ∈ lw_all := lw_g (lw_at lw_m11 49 rfl) rfl
theorem q2574 : (Jvm.Cond.lays "WreckSharesModel" "WreckSharesModel" "next" "I") ∈ lw_all := lw_g (lw_at lw_m11 50 rfl) rfl
theorem q2575 : (Jvm.Cond.soleField "WreckSharesModel" "next") ∈ lw_all := lw_g (lw_at lw_m11 51 rfl) rfl
theorem q2576 : (Jvm.Cond.lays "WreckSharesModel" "WreckSharesModel" "beginsAt" "I") ∈ lw_all := lw_g (lw_at lw_m11 52 rfl) rfl
theorem q2577 : (Jvm.Cond.soleField "WreckSharesModel" "beginsAt") ∈ lw_all := lw_g (lw_at lw_m11 53 rfl) rfl
theorem q2578 : (Jvm.Cond.lays "WreckSharesModel" "WreckSharesModel" "token" "I") ∈ lw_all := lw_g (lw_at lw_m11 54 rfl) rfl
theorem q2579 : (Jvm.Cond.soleField "WreckSharesModel" "token") ∈ lw_all := lw_g (lw_at lw_m11 55 rfl) rfl
theorem q2580 : (Jvm.Cond.lays "WreckSharesModel" "WreckSharesModel" "error" "I") ∈ lw_all := lw_g (lw_at lw_m11 56 rfl) rfl
theorem q2581 : (Jvm.Cond.soleField "WreckSharesModel" "error") ∈ lw_all := lw_g (lw_at lw_m11 57 rfl) rfl
theorem q2582 : (Jvm.Cond.lays "WreckSharesModel" "WreckSharesModel" "errorAt" "I") ∈ lw_all := lw_g (lw_at lw_m11 58 rfl) rfl
theorem q2583 : (Jvm.Cond.soleField "WreckSharesModel" "errorAt") ∈ lw_all := lw_g (lw_at lw_m11 59 rfl) rfl
theorem q2584 : (Jvm.Cond.lays "WreckSharesModel" "WreckSharesModel" "errorPosition" "I") ∈ lw_all := lw_g (lw_at lw_m11 60 rfl) rfl
theorem q2585 : (Jvm.Cond.soleField "WreckSharesModel" "errorPosition") ∈ lw_all := lw_g (lw_at lw_m11 61 rfl) rfl
theorem q2586 : (Jvm.Cond.lays "WreckSharesModel" "WreckSharesModel" "nested" "I") ∈ lw_all := lw_g (lw_at lw_m11 62 rfl) rfl
theorem q2587 : (Jvm.Cond.soleField "WreckSharesModel" "nested") ∈ lw_all := lw_g (lw_at lw_m11 63 rfl) rfl
theorem q2588 : (Jvm.Cond.laysFinal "WreckSharesModel" "WreckSharesModel" "orders" "[I") ∈ lw_all := lw_g (lw_at lw_m11 64 rfl) rfl
theorem q2589 : (Jvm.Cond.soleField "WreckSharesModel" "orders") ∈ lw_all := lw_g (lw_at lw_m11 65 rfl) rfl
theorem q2590 : (Jvm.Cond.laysFinal "WreckSharesModel" "WreckSharesModel" "orderWords" "[Ljava/lang/String;") ∈ lw_all := lw_g (lw_at lw_m11 66 rfl) rfl
theorem q2591 : (Jvm.Cond.soleField "WreckSharesModel" "orderWords") ∈ lw_all := lw_g (lw_at lw_m11 67 rfl) rfl
theorem q2592 : (Jvm.Cond.lays "WreckSharesModel" "WreckSharesModel" "orderCount" "I") ∈ lw_all := lw_g (lw_at lw_m11 68 rfl) rfl
theorem q2593 : (Jvm.Cond.soleField "WreckSharesModel" "orderCount") ∈ lw_all := lw_g (lw_at lw_m11 69 rfl) rfl
theorem q2594 : (Jvm.Cond.superclass "WreckSharesModel" "java/lang/Object") ∈ lw_all := lw_g (lw_at lw_m11 70 rfl) rfl
theorem q2596 : (Jvm.Cond.instanceMethod ({ cls := "WreckSharesModel", name := "thrown", desc := "()I" } : Jvm.MethodName)) ∈ lw_all := lw_g (lw_at lw_m11 72 rfl) rfl
theorem q2597 : (Jvm.Cond.selects "WreckSharesModel" ({ cls := "WreckSharesModel", name := "thrown", desc := "()I" } : Jvm.MethodName) ({ cls := "WreckSharesModel", name := "thrown", desc := "()I" } : Jvm.MethodName)) ∈ lw_all := lw_g (lw_at lw_m11 73 rfl) rfl
theorem q2598 : (Jvm.Cond.code ({ cls := "WreckSharesModel", name := "thrown", desc := "()I" } : Jvm.MethodName) prog_21_method_2_code (1 : Nat) (Option.some Jvm.ClassFile.FieldType.int)) ∈ lw_all := lw_g (lw_at lw_m11 74 rfl) rfl
theorem q2600 : (Jvm.Cond.instanceMethod ({ cls := "WreckSharesModel", name := "size", desc := "(I)I" } : Jvm.MethodName)) ∈ lw_all := lw_g (lw_at lw_m11 76 rfl) rfl
theorem q2601 : (Jvm.Cond.selects "WreckSharesModel" ({ cls := "WreckSharesModel", name := "size", desc := "(I)I" } : Jvm.MethodName) ({ cls := "WreckSharesModel", name := "size", desc := "(I)I" } : Jvm.MethodName)) ∈ lw_all := lw_g (lw_at lw_m11 77 rfl) rfl
theorem q2602 : (Jvm.Cond.code ({ cls := "WreckSharesModel", name := "size", desc := "(I)I" } : Jvm.MethodName) prog_21_method_45_code (2 : Nat) (Option.some Jvm.ClassFile.FieldType.int)) ∈ lw_all := lw_g (lw_at lw_m11 78 rfl) rfl
theorem q2603 : (Jvm.Cond.methodLink "WreckSharesModel" (102 : Nat) ({ cls := "WreckSharesModel", name := "inRange", desc := "(III)Z" } : Jvm.MethodName)) ∈ lw_all := lw_g (lw_at lw_m11 79 rfl) rfl
theorem q2604 : (Jvm.Cond.static ({ cls := "WreckSharesModel", name := "inRange", desc := "(III)Z" } : Jvm.MethodName)) ∈ lw_all := lw_g (lw_at lw_m11 80 rfl) rfl
theorem q2605 : (Jvm.Cond.code ({ cls := "WreckSharesModel", name := "inRange", desc := "(III)Z" } : Jvm.MethodName) prog_21_method_4_code (3 : Nat) (Option.some Jvm.ClassFile.FieldType.boolean)) ∈ lw_all := lw_g (lw_at lw_m11 81 rfl) rfl
theorem q2606 : (Jvm.Cond.methodLink "WreckSharesModel" (173 : Nat) ({ cls := "WreckSharesModel", name := "lacks", desc := "(Z)Z" } : Jvm.MethodName)) ∈ lw_all := lw_g (lw_at lw_m11 82 rfl) rfl
theorem q2607 : (Jvm.Cond.privateMethod ({ cls := "WreckSharesModel", name := "lacks", desc := "(Z)Z" } : Jvm.MethodName)) ∈ lw_tbl := lw_at lw_m11 83 rfl
theorem q2608 : (Jvm.Cond.instanceMethod ({ cls := "WreckSharesModel", name := "lacks", desc := "(Z)Z" } : Jvm.MethodName)) ∈ lw_all := lw_g (lw_at lw_m11 84 rfl) rfl
theorem q2609 : (Jvm.Cond.code ({ cls := "WreckSharesModel", name := "lacks", desc := "(Z)Z" } : Jvm.MethodName) prog_21_method_5_code (2 : Nat) (Option.some Jvm.ClassFile.FieldType.boolean)) ∈ lw_all := lw_g (lw_at lw_m11 85 rfl) rfl
theorem q2610 : (Jvm.Cond.methodLink "WreckSharesModel" (110 : Nat) ({ cls := "WreckSharesModel", name := "levelAt", desc := "(I)I" } : Jvm.MethodName)) ∈ lw_all := lw_g (lw_at lw_m11 86 rfl) rfl
theorem q2611 : (Jvm.Cond.privateMethod ({ cls := "WreckSharesModel", name := "levelAt", desc := "(I)I" } : Jvm.MethodName)) ∈ lw_tbl := lw_at lw_m11 87 rfl
theorem q2612 : (Jvm.Cond.instanceMethod ({ cls := "WreckSharesModel", name := "levelAt", desc := "(I)I" } : Jvm.MethodName)) ∈ lw_all := lw_g (lw_at lw_m11 88 rfl) rfl
theorem q2613 : (Jvm.Cond.code ({ cls := "WreckSharesModel", name := "levelAt", desc := "(I)I" } : Jvm.MethodName) prog_21_method_17_code (4 : Nat) (Option.some Jvm.ClassFile.FieldType.int)) ∈ lw_all := lw_g (lw_at lw_m11 89 rfl) rfl
theorem q2614 : (Jvm.Cond.methodLink "WreckSharesModel" (177 : Nat) ({ cls := "WreckSharesModel", name := "countState", desc := "(I)I" } : Jvm.MethodName)) ∈ lw_all := lw_g (lw_at lw_m11 90 rfl) rfl
theorem q2615 : (Jvm.Cond.privateMethod ({ cls := "WreckSharesModel", name := "countState", desc := "(I)I" } : Jvm.MethodName)) ∈ lw_tbl := lw_at lw_m11 91 rfl
theorem q2616 : (Jvm.Cond.instanceMethod ({ cls := "WreckSharesModel", name := "countState", desc := "(I)I" } : Jvm.MethodName)) ∈ lw_all := lw_g (lw_at lw_m11 92 rfl) rfl
theorem q2617 : (Jvm.Cond.code ({ cls := "WreckSharesModel", name := "countState", desc := "(I)I" } : Jvm.MethodName) prog_21_method_43_code (4 : Nat) (Option.some Jvm.ClassFile.FieldType.int)) ∈ lw_all := lw_g (lw_at lw_m11 93 rfl) rfl
theorem q2618 : (Jvm.Cond.methodLink "WreckSharesModel" (118 : Nat) ({ cls := "WreckSharesModel", name := "isIn", desc := "(II)Z" } : Jvm.MethodName)) ∈ lw_all := lw_g (lw_at lw_m11 94 rfl) rfl
theorem q2619 : (Jvm.Cond.privateMethod ({ cls := "WreckSharesModel", name := "isIn", desc := "(II)Z" } : Jvm.MethodName)) ∈ lw_tbl := lw_at lw_m11 95 rfl
theorem q2620 : (Jvm.Cond.instanceMethod ({ cls := "WreckSharesModel", name := "isIn", desc := "(II)Z" } : Jvm.MethodName)) ∈ lw_all := lw_g (lw_at lw_m11 96 rfl) rfl
theorem q2621 : (Jvm.Cond.code ({ cls := "WreckSharesModel", name := "isIn", desc := "(II)Z" } : Jvm.MethodName) prog_21_method_16_code (3 : Nat) (Option.some Jvm.ClassFile.FieldType.boolean)) ∈ lw_all := lw_g (lw_at lw_m11 97 rfl) rfl
theorem q2622 : (Jvm.Cond.methodLink "WreckSharesModel" (106 : Nat) ({ cls := "WreckSharesModel", name := "of", desc := "(II)I" } : Jvm.MethodName)) ∈ lw_all := lw_g (lw_at lw_m11 98 rfl) rfl
theorem q2623 : (Jvm.Cond.privateMethod ({ cls := "WreckSharesModel", name := "of", desc := "(II)I" } : Jvm.MethodName)) ∈ lw_tbl := lw_at lw_m11 99 rfl
theorem q2624 : (Jvm.Cond.instanceMethod ({ cls := "WreckSharesModel", name := "of", desc := "(II)I" } : Jvm.MethodName)) ∈ lw_all := lw_g (lw_at lw_m11 100 rfl) rfl
theorem q2625 : (Jvm.Cond.code ({ cls := "WreckSharesModel", name := "of", desc := "(II)I" } : Jvm.MethodName) prog_21_method_11_code (3 : Nat) (Option.some Jvm.ClassFile.FieldType.int)) ∈ lw_all := lw_g (lw_at lw_m11 101 rfl) rfl
theorem q2626 : (Jvm.Cond.methodLink "WreckSharesModel" (180 : Nat) ({ cls := "WreckSharesModel", name := "countFree", desc := "()I" } : Jvm.MethodName)) ∈ lw_all := lw_g (lw_at lw_m11 102 rfl) rfl
theorem q2627 : (Jvm.Cond.privateMethod ({ cls := "WreckSharesModel", name := "countFree", desc := "()I" } : Jvm.MethodName)) ∈ lw_tbl := lw_at lw_m11 103 rfl
theorem q2628 : (Jvm.Cond.instanceMethod ({ cls := "WreckSharesModel", name := "countFree", desc := "()I" } : Jvm.MethodName)) ∈ lw_all := lw_g (lw_at lw_m11 104 rfl) rfl
theorem q2629 : (Jvm.Cond.code ({ cls := "WreckSharesModel", name := "countFree", desc := "()I" } : Jvm.MethodName) prog_21_method_27_code (3 : Nat) (Option.some Jvm.ClassFile.FieldType.int)) ∈ lw_all := lw_g (lw_at lw_m11 105 rfl) rfl
theorem q2630 : (Jvm.Cond.methodLink "WreckSharesModel" (127 : Nat) ({ cls := "WreckSharesModel", name := "ofFinder", desc := "(II)I" } : Jvm.MethodName)) ∈ lw_all := lw_g (lw_at lw_m11 106 rfl) rfl
theorem q2631 : (Jvm.Cond.privateMethod ({ cls := "WreckSharesModel", name := "ofFinder", desc := "(II)I" } : Jvm.MethodName)) ∈ lw_tbl := lw_at lw_m11 107 rfl
theorem q2632 : (Jvm.Cond.instanceMethod ({ cls := "WreckSharesModel", name := "ofFinder", desc := "(II)I" } : Jvm.MethodName)) ∈ lw_all := lw_g (lw_at lw_m11 108 rfl) rfl
theorem q2633 : (Jvm.Cond.code ({ cls := "WreckSharesModel", name := "ofFinder", desc := "(II)I" } : Jvm.MethodName) prog_21_method_9_code (3 : Nat) (Option.some Jvm.ClassFile.FieldType.int)) ∈ lw_all := lw_g (lw_at lw_m11 109 rfl) rfl
theorem q2634 : (Jvm.Cond.methodLink "WreckSharesModel" (184 : Nat) ({ cls := "WreckSharesModel", name := "countDryNow", desc := "()I" } : Jvm.MethodName)) ∈ lw_all := lw_g (lw_at lw_m11 110 rfl) rfl
theorem q2635 : (Jvm.Cond.privateMethod ({ cls := "WreckSharesModel", name := "countDryNow", desc := "()I" } : Jvm.MethodName)) ∈ lw_tbl := lw_at lw_m11 111 rfl
theorem q2636 : (Jvm.Cond.instanceMethod ({ cls := "WreckSharesModel", name := "countDryNow", desc := "()I" } : Jvm.MethodName)) ∈ lw_all := lw_g (lw_at lw_m11 112 rfl) rfl
theorem q2637 : (Jvm.Cond.code ({ cls := "WreckSharesModel", name := "countDryNow", desc := "()I" } : Jvm.MethodName) prog_21_method_44_code (3 : Nat) (Option.some Jvm.ClassFile.FieldType.int)) ∈ lw_all := lw_g (lw_at lw_m11 113 rfl) rfl
theorem q2638 : (Jvm.Cond.methodLink "WreckSharesModel" (114 : Nat) ({ cls := "WreckSharesModel", name := "isDry", desc := "(II)Z" } : Jvm.MethodName)) ∈ lw_all := lw_g (lw_at lw_m11 114 rfl) rfl
theorem q2639 : (Jvm.Cond.privateMethod ({ cls := "WreckSharesModel", name := "isDry", desc := "(II)Z" } : Jvm.MethodName)) ∈ lw_tbl := lw_at lw_m11 115 rfl
theorem q2640 : (Jvm.Cond.instanceMethod ({ cls := "WreckSharesModel", name := "isDry", desc := "(II)Z" } : Jvm.MethodName)) ∈ lw_all := lw_g (lw_at lw_m11 116 rfl) rfl
theorem q2641 : (Jvm.Cond.code ({ cls := "WreckSharesModel", name := "isDry", desc := "(II)Z" } : Jvm.MethodName) prog_21_method_18_code (3 : Nat) (Option.some Jvm.ClassFile.FieldType.boolean)) ∈ lw_all := lw_g (lw_at lw_m11 117 rfl) rfl
theorem q2643 : (Jvm.Cond.instanceMethod ({ cls := "WreckSharesModel", name := "account", desc := "(I)I" } : Jvm.MethodName)) ∈ lw_all := lw_g (lw_at lw_m11 119 rfl) rfl
theorem q2644 : (Jvm.Cond.selects "WreckSharesModel" ({ cls := "WreckSharesModel", name := "account", desc := "(I)I" } : Jvm.MethodName) ({ cls := "WreckSharesModel", name := "account", desc := "(I)I" } : Jvm.MethodName)) ∈ lw_all := lw_g (lw_at lw_m11 120 rfl) rfl
theorem q2645 : (Jvm.Cond.code ({ cls := "WreckSharesModel", name := "account", desc := "(I)I" } : Jvm.MethodName) prog_21_method_46_code (2 : Nat) (Option.some Jvm.ClassFile.FieldType.int)) ∈ lw_all := lw_g (lw_at lw_m11 121 rfl) rfl
theorem q2646 : (Jvm.Cond.methodLink "WreckSharesModel" (187 : Nat) ({ cls := "WreckSharesModel", name := "tallied", desc := "(I)I" } : Jvm.MethodName)) ∈ lw_all := lw_g (lw_at lw_m11 122 rfl) rfl
theorem q2647 : (Jvm.Cond.privateMethod ({ cls := "WreckSharesModel", name := "tallied", desc := "(I)I" } : Jvm.MethodName)) ∈ lw_tbl := lw_at lw_m11 123 rfl
theorem q2648 : (Jvm.Cond.instanceMethod ({ cls := "WreckSharesModel", name := "tallied", desc := "(I)I" } : Jvm.MethodName)) ∈ lw_all := lw_g (lw_at lw_m11 124 rfl) rfl
theorem q2649 : (Jvm.Cond.code ({ cls := "WreckSharesModel", name := "tallied", desc := "(I)I" } : Jvm.MethodName) prog_21_method_8_code (2 : Nat) (Option.some Jvm.ClassFile.FieldType.int)) ∈ lw_all := lw_g (lw_at lw_m11 125 rfl) rfl
theorem q2651 : (Jvm.Cond.instanceMethod ({ cls := "WreckSharesModel", name := "good", desc := "(II)I" } : Jvm.MethodName)) ∈ lw_all := lw_g (lw_at lw_m11 127 rfl) rfl
theorem q2652 : (Jvm.Cond.selects "WreckSharesModel" ({ cls := "WreckSharesModel", name := "good", desc := "(II)I" } : Jvm.MethodName) ({ cls := "WreckSharesModel", name := "good", desc := "(II)I" } : Jvm.MethodName)) ∈ lw_all := lw_g (lw_at lw_m11 128 rfl) rfl
theorem q2653 : (Jvm.Cond.code ({ cls := "WreckSharesModel", name := "good", desc := "(II)I" } : Jvm.MethodName) prog_21_method_47_code (3 : Nat) (Option.some Jvm.ClassFile.FieldType.int)) ∈ lw_all := lw_g (lw_at lw_m11 129 rfl) rfl
theorem q2654 : (Jvm.Cond.methodLink "WreckSharesModel" (190 : Nat) ({ cls := "WreckSharesModel", name := "isGood", desc := "(I)Z" } : Jvm.MethodName)) ∈ lw_all := lw_g (lw_at lw_m11 130 rfl) rfl
theorem q2655 : (Jvm.Cond.privateMethod ({ cls := "WreckSharesModel", name := "isGood", desc := "(I)Z" } : Jvm.MethodName)) ∈ lw_tbl := lw_at lw_m11 131 rfl
theorem q2656 : (Jvm.Cond.instanceMethod ({ cls := "WreckSharesModel", name := "isGood", desc := "(I)Z" } : Jvm.MethodName)) ∈ lw_all := lw_g (lw_at lw_m11 132 rfl) rfl
theorem q2657 : (Jvm.Cond.code ({ cls := "WreckSharesModel", name := "isGood", desc := "(I)Z" } : Jvm.MethodName) prog_21_method_14_code (2 : Nat) (Option.some Jvm.ClassFile.FieldType.boolean)) ∈ lw_all := lw_g (lw_at lw_m11 133 rfl) rfl
theorem q2658 : (Jvm.Cond.methodLink "WreckSharesModel" (193 : Nat) ({ cls := "WreckSharesModel", name := "raise", desc := "(I)I" } : Jvm.MethodName)) ∈ lw_all := lw_g (lw_at lw_m11 134 rfl) rfl
theorem q2659 : (Jvm.Cond.privateMethod ({ cls := "WreckSharesModel", name := "raise", desc := "(I)I" } : Jvm.MethodName)) ∈ lw_tbl := lw_at lw_m11 135 rfl
theorem q2660 : (Jvm.Cond.instanceMethod ({ cls := "WreckSharesModel", name := "raise", desc := "(I)I" } : Jvm.MethodName)) ∈ lw_all := lw_g (lw_at lw_m11 136 rfl) rfl
theorem q2661 : (Jvm.Cond.code ({ cls := "WreckSharesModel", name := "raise", desc := "(I)I" } : Jvm.MethodName) prog_21_method_3_code (2 : Nat) (Option.some Jvm.ClassFile.FieldType.int)) ∈ lw_all := lw_g (lw_at lw_m11 137 rfl) rfl
theorem q2663 : (Jvm.Cond.instanceMethod ({ cls := "WreckSharesModel", name := "finder", desc := "(II)I" } : Jvm.MethodName)) ∈ lw_all := lw_g (lw_at lw_m11 139 rfl) rfl
theorem q2664 : (Jvm.Cond.selects "WreckSharesModel" ({ cls := "WreckSharesModel", name := "finder", desc := "(II)I" } : Jvm.MethodName) ({ cls := "WreckSharesModel", name := "finder", desc := "(II)I" } : Jvm.MethodName)) ∈ lw_all := lw_g (lw_at lw_m11 140 rfl) rfl
theorem q2665 : (Jvm.Cond.code ({ cls := "WreckSharesModel", name := "finder", desc := "(II)I" } : Jvm.MethodName) prog_21_method_49_code (4 : Nat) (Option.some Jvm.ClassFile.FieldType.int)) ∈ lw_all := lw_g (lw_at lw_m11 141 rfl) rfl
theorem q2666 : (Jvm.Cond.methodLink "WreckSharesModel" (196 : Nat) ({ cls := "WreckSharesModel", name := "isFinder", desc := "(I)Z" } : Jvm.MethodName)) ∈ lw_all := lw_g (lw_at lw_m11 142 rfl) rfl
theorem q2667 : (Jvm.Cond.privateMethod ({ cls := "WreckSharesModel", name := "isFinder", desc := "(I)Z" } : Jvm.MethodName)) ∈ lw_tbl := lw_at lw_m11 143 rfl
theorem q2668 : (Jvm.Cond.instanceMethod ({ cls := "WreckSharesModel", name := "isFinder", desc := "(I)Z" } : Jvm.MethodName)) ∈ lw_all := lw_g (lw_at lw_m11 144 rfl) rfl
theorem q2669 : (Jvm.Cond.code ({ cls := "WreckSharesModel", name := "isFinder", desc := "(I)Z" } : Jvm.MethodName) prog_21_method_15_code (2 : Nat) (Option.some Jvm.ClassFile.FieldType.boolean)) ∈ lw_all := lw_g (lw_at lw_m11 145 rfl) rfl
theorem q2670 : (Jvm.Cond.methodLink "WreckSharesModel" (130 : Nat) ({ cls := "WreckSharesModel", name := "placeOf", desc := "(II)I" } : Jvm.MethodName)) ∈ lw_all := lw_g (lw_at lw_m11 146 rfl) rfl
theorem q2671 : (Jvm.Cond.privateMethod ({ cls := "WreckSharesModel", name := "placeOf", desc := "(II)I" } : Jvm.MethodName)) ∈ lw_tbl := lw_at lw_m11 147 rfl
theorem q2672 : (Jvm.Cond.instanceMethod ({ cls := "WreckSharesModel", name := "placeOf", desc := "(II)I" } : Jvm.MethodName)) ∈ lw_all := lw_g (lw_at lw_m11 148 rfl) rfl
theorem q2673 : (Jvm.Cond.code ({ cls := "WreckSharesModel", name := "placeOf", desc := "(II)I" } : Jvm.MethodName) prog_21_method_23_code (4 : Nat) (Option.some Jvm.ClassFile.FieldType.int)) ∈ lw_all := lw_g (lw_at lw_m11 149 rfl) rfl
theorem q2674 : (Jvm.Cond.methodLink "WreckSharesModel" (124 : Nat) ({ cls := "WreckSharesModel", name := "handOf", desc := "(II)I" } : Jvm.MethodName)) ∈ lw_all := lw_g (lw_at lw_m11 150 rfl) rfl
theorem q2675 : (Jvm.Cond.privateMethod ({ cls := "WreckSharesModel", name := "handOf", desc := "(II)I" } : Jvm.MethodName)) ∈ lw_tbl := lw_at lw_m11 151 rfl
theorem q2676 : (Jvm.Cond.instanceMethod ({ cls := "WreckSharesModel", name := "handOf", desc := "(II)I" } : Jvm.MethodName)) ∈ lw_all := lw_g (lw_at lw_m11 152 rfl) rfl
theorem q2677 : (Jvm.Cond.code ({ cls := "WreckSharesModel", name := "handOf", desc := "(II)I" } : Jvm.MethodName) prog_21_method_22_code (3 : Nat) (Option.some Jvm.ClassFile.FieldType.int)) ∈ lw_all := lw_g (lw_at lw_m11 153 rfl) rfl
theorem q2678 : (Jvm.Cond.methodLink "WreckSharesModel" (199 : Nat) ({ cls := "WreckSharesModel", name := "crewsWith", desc := "(I)I" } : Jvm.MethodName)) ∈ lw_all := lw_g (lw_at lw_m11 154 rfl) rfl
theorem q2679 : (Jvm.Cond.privateMethod ({ cls := "WreckSharesModel", name := "crewsWith", desc := "(I)I" } : Jvm.MethodName)) ∈ lw_tbl := lw_at lw_m11 155 rfl
theorem q2680 : (Jvm.Cond.instanceMethod ({ cls := "WreckSharesModel", name := "crewsWith", desc := "(I)I" } : Jvm.MethodName)) ∈ lw_all := lw_g (lw_at lw_m11 156 rfl) rfl
theorem q2681 : (Jvm.Cond.code ({ cls := "WreckSharesModel", name := "crewsWith", desc := "(I)I" } : Jvm.MethodName) prog_21_method_48_code (4 : Nat) (Option.some Jvm.ClassFile.FieldType.int)) ∈ lw_all := lw_g (lw_at lw_m11 157 rfl) rfl
theorem q2683 : (Jvm.Cond.instanceMethod ({ cls := "WreckSharesModel", name := "owner", desc := "(I)I" } : Jvm.MethodName)) ∈ lw_all := lw_g (lw_at lw_m11 159 rfl) rfl
theorem q2684 : (Jvm.Cond.selects "WreckSharesModel" ({ cls := "WreckSharesModel", name := "owner", desc := "(I)I" } : Jvm.MethodName) ({ cls := "WreckSharesModel", name := "owner", desc := "(I)I" } : Jvm.MethodName)) ∈ lw_all := lw_g (lw_at lw_m11 160 rfl) rfl
theorem q2685 : (Jvm.Cond.code ({ cls := "WreckSharesModel", name := "owner", desc := "(I)I" } : Jvm.MethodName) prog_21_method_51_code (2 : Nat) (Option.some Jvm.ClassFile.FieldType.int)) ∈ lw_all := lw_g (lw_at lw_m11 161 rfl) rfl
theorem q2686 : (Jvm.Cond.methodLink "WreckSharesModel" (202 : Nat) ({ cls := "WreckSharesModel", name := "isOwner", desc := "(I)Z" } : Jvm.MethodName)) ∈ lw_all := lw_g (lw_at lw_m11 162 rfl) rfl
theorem q2687 : (Jvm.Cond.static ({ cls := "WreckSharesModel", name := "isOwner", desc := "(I)Z" } : Jvm.MethodName)) ∈ lw_all := lw_g (lw_at lw_m11 163 rfl) rfl
theorem q2688 : (Jvm.Cond.code ({ cls := "WreckSharesModel", name := "isOwner", desc := "(I)Z" } : Jvm.MethodName) prog_21_method_50_code (1 : Nat) (Option.some Jvm.ClassFile.FieldType.boolean)) ∈ lw_all := lw_g (lw_at lw_m11 164 rfl) rfl
theorem q2690 : (Jvm.Cond.instanceMethod ({ cls := "WreckSharesModel", name := "hand", desc := "(IIZ)I" } : Jvm.MethodName)) ∈ lw_all := lw_g (lw_at lw_m11 166 rfl) rfl
theorem q2691 : (Jvm.Cond.selects "WreckSharesModel" ({ cls := "WreckSharesModel", name := "hand", desc := "(IIZ)I" } : Jvm.MethodName) ({ cls := "WreckSharesModel", name := "hand", desc := "(IIZ)I" } : Jvm.MethodName)) ∈ lw_all := lw_g (lw_at lw_m11 167 rfl) rfl
theorem q2692 : (Jvm.Cond.code ({ cls := "WreckSharesModel", name := "hand", desc := "(IIZ)I" } : Jvm.MethodName) prog_21_method_52_code (5 : Nat) (Option.some Jvm.ClassFile.FieldType.int)) ∈ lw_all := lw_g (lw_at lw_m11 168 rfl) rfl
theorem q2694 : (Jvm.Cond.instanceMethod ({ cls := "WreckSharesModel", name := "count", desc := "(II)I" } : Jvm.MethodName)) ∈ lw_all := lw_g (lw_at lw_m11 170 rfl) rfl
theorem q2695 : (Jvm.Cond.selects "WreckSharesModel" ({ cls := "WreckSharesModel", name := "count", desc := "(II)I" } : Jvm.MethodName) ({ cls := "WreckSharesModel", name := "count", desc := "(II)I" } : Jvm.MethodName)) ∈ lw_all := lw_g (lw_at lw_m11 171 rfl) rfl
theorem q2696 : (Jvm.Cond.code ({ cls := "WreckSharesModel", name := "count", desc := "(II)I" } : Jvm.MethodName) prog_21_method_53_code (5 : Nat) (Option.some Jvm.ClassFile.FieldType.int)) ∈ lw_all := lw_g (lw_at lw_m11 172 rfl) rfl
theorem q2698 : (Jvm.Cond.instanceMethod ({ cls := "WreckSharesModel", name := "marked", desc := "(II)I" } : Jvm.MethodName)) ∈ lw_all := lw_g (lw_at lw_m11 174 rfl) rfl
theorem q2699 : (Jvm.Cond.selects "WreckSharesModel" ({ cls := "WreckSharesModel", name := "marked", desc := "(II)I" } : Jvm.MethodName) ({ cls := "WreckSharesModel", name := "marked", desc := "(II)I" } : Jvm.MethodName)) ∈ lw_all := lw_g (lw_at lw_m11 175 rfl) rfl
theorem q2700 : (Jvm.Cond.code ({ cls := "WreckSharesModel", name := "marked", desc := "(II)I" } : Jvm.MethodName) prog_21_method_54_code (5 : Nat) (Option.some Jvm.ClassFile.FieldType.int)) ∈ lw_all := lw_g (lw_at lw_m11 176 rfl) rfl
theorem q2702 : (Jvm.Cond.instanceMethod ({ cls := "WreckSharesModel", name := "ranked", desc := "(I)I" } : Jvm.MethodName)) ∈ lw_all := lw_g (lw_at lw_m11 178 rfl) rfl
theorem q2703 : (Jvm.Cond.selects "WreckSharesModel" ({ cls := "WreckSharesModel", name := "ranked", desc := "(I)I" } : Jvm.MethodName) ({ cls := "WreckSharesModel", name := "ranked", desc := "(I)I" } : Jvm.MethodName)) ∈ lw_all := lw_g (lw_at lw_m11 179 rfl) rfl
theorem q2704 : (Jvm.Cond.code ({ cls := "WreckSharesModel", name := "ranked", desc := "(I)I" } : Jvm.MethodName) prog_21_method_56_code (3 : Nat) (Option.some Jvm.ClassFile.FieldType.int)) ∈ lw_all := lw_g (lw_at lw_m11 180 rfl) rfl
theorem q2705 : (Jvm.Cond.methodLink "WreckSharesModel" (205 : Nat) ({ cls := "WreckSharesModel", name := "rankOf", desc := "(I)I" } : Jvm.MethodName)) ∈ lw_all := lw_g (lw_at lw_m11 181 rfl) rfl
theorem q2706 : (Jvm.Cond.privateMethod ({ cls := "WreckSharesModel", name := "rankOf", desc := "(I)I" } : Jvm.MethodName)) ∈ lw_tbl := lw_at lw_m11 182 rfl
theorem q2707 : (Jvm.Cond.instanceMethod ({ cls := "WreckSharesModel", name := "rankOf", desc := "(I)I" } : Jvm.MethodName)) ∈ lw_all := lw_g (lw_at lw_m11 183 rfl) rfl
theorem q2708 : (Jvm.Cond.code ({ cls := "WreckSharesModel", name := "rankOf", desc := "(I)I" } : Jvm.MethodName) prog_21_method_55_code (5 : Nat) (Option.some Jvm.ClassFile.FieldType.int)) ∈ lw_all := lw_g (lw_at lw_m11 184 rfl) rfl
theorem q2710 : (Jvm.Cond.instanceMethod ({ cls := "WreckSharesModel", name := "earned", desc := "(I)I" } : Jvm.MethodName)) ∈ lw_all := lw_g (lw_at lw_m11 186 rfl) rfl
theorem q2711 : (Jvm.Cond.selects "WreckSharesModel" ({ cls := "WreckSharesModel", name := "earned", desc := "(I)I" } : Jvm.MethodName) ({ cls := "WreckSharesModel", name := "earned", desc := "(I)I" } : Jvm.MethodName)) ∈ lw_all := lw_g (lw_at lw_m11 187 rfl) rfl
theorem q2712 : (Jvm.Cond.code ({ cls := "WreckSharesModel", name := "earned", desc := "(I)I" } : Jvm.MethodName) prog_21_method_57_code (4 : Nat) (Option.some Jvm.ClassFile.FieldType.int)) ∈ lw_all := lw_g (lw_at lw_m11 188 rfl) rfl
theorem q2713 : (Jvm.Cond.methodLink "WreckSharesModel" (208 : Nat) ({ cls := "WreckSharesModel", name := "shareOf", desc := "(II)I" } : Jvm.MethodName)) ∈ lw_all := lw_g (lw_at lw_m11 189 rfl) rfl
theorem q2714 : (Jvm.Cond.privateMethod ({ cls := "WreckSharesModel", name := "shareOf", desc := "(II)I" } : Jvm.MethodName)) ∈ lw_tbl := lw_at lw_m11 190 rfl
theorem q2715 : (Jvm.Cond.instanceMethod ({ cls := "WreckSharesModel", name := "shareOf", desc := "(II)I" } : Jvm.MethodName)) ∈ lw_all := lw_g (lw_at lw_m11 191 rfl) rfl
theorem q2716 : (Jvm.Cond.code ({ cls := "WreckSharesModel", name := "shareOf", desc := "(II)I" } : Jvm.MethodName) prog_21_method_36_code (4 : Nat) (Option.some Jvm.ClassFile.FieldType.int)) ∈ lw_all := lw_g (lw_at lw_m11 192 rfl) rfl
theorem q2717 : (Jvm.Cond.methodLink "WreckSharesModel" (156 : Nat) ({ cls := "WreckSharesModel", name := "shareAt", desc := "(II)I" } : Jvm.MethodName)) ∈ lw_all := lw_g (lw_at lw_m11 193 rfl) rfl
theorem q2718 : (Jvm.Cond.privateMethod ({ cls := "WreckSharesModel", name := "shareAt", desc := "(II)I" } : Jvm.MethodName)) ∈ lw_tbl := lw_at lw_m11 194 rfl
theorem q2719 : (Jvm.Cond.instanceMethod ({ cls := "WreckSharesModel", name := "shareAt", desc := "(II)I" } : Jvm.MethodName)) ∈ lw_all := lw_g (lw_at lw_m11 195 rfl) rfl
theorem q2720 : (Jvm.Cond.code ({ cls := "WreckSharesModel", name := "shareAt", desc := "(II)I" } : Jvm.MethodName) prog_21_method_35_code (3 : Nat) (Option.some Jvm.ClassFile.FieldType.int)) ∈ lw_all := lw_g (lw_at lw_m11 196 rfl) rfl
theorem q2721 : (Jvm.Cond.methodLink "WreckSharesModel" (150 : Nat) ({ cls := "WreckSharesModel", name := "partOf", desc := "(II)I" } : Jvm.MethodName)) ∈ lw_all := lw_g (lw_at lw_m11 197 rfl) rfl
theorem q2722 : (Jvm.Cond.privateMethod ({ cls := "WreckSharesModel", name := "partOf", desc := "(II)I" } : Jvm.MethodName)) ∈ lw_tbl := lw_at lw_m11 198 rfl
theorem q2723 : (Jvm.Cond.instanceMethod ({ cls := "WreckSharesModel", name := "partOf", desc := "(II)I" } : Jvm.MethodName)) ∈ lw_all := lw_g (lw_at lw_m11 199 rfl) rfl
theorem q2724 : (Jvm.Cond.code ({ cls := "WreckSharesModel", name := "partOf", desc := "(II)I" } : Jvm.MethodName) prog_21_method_33_code (4 : Nat) (Option.some Jvm.ClassFile.FieldType.int)) ∈ lw_all := lw_g (lw_at lw_m11 200 rfl) rfl
theorem q2725 : (Jvm.Cond.methodLink "WreckSharesModel" (143 : Nat) ({ cls := "WreckSharesModel", name := "isClaimed", desc := "(I)Z" } : Jvm.MethodName)) ∈ lw_all := lw_g (lw_at lw_m11 201 rfl) rfl
theorem q2726 : (Jvm.Cond.privateMethod ({ cls := "WreckSharesModel", name := "isClaimed", desc := "(I)Z" } : Jvm.MethodName)) ∈ lw_tbl := lw_at lw_m11 202 rfl
theorem q2727 : (Jvm.Cond.instanceMethod ({ cls := "WreckSharesModel", name := "isClaimed", desc := "(I)Z" } : Jvm.MethodName)) ∈ lw_all := lw_g (lw_at lw_m11 203 rfl) rfl
theorem q2728 : (Jvm.Cond.code ({ cls := "WreckSharesModel", name := "isClaimed", desc := "(I)Z" } : Jvm.MethodName) prog_21_method_32_code (2 : Nat) (Option.some Jvm.ClassFile.FieldType.boolean)) ∈ lw_all := lw_g (lw_at lw_m11 204 rfl) rfl
theorem q2729 : (Jvm.Cond.methodLink "WreckSharesModel" (147 : Nat) ({ cls := "WreckSharesModel", name := "crewOf", desc := "(IZ)I" } : Jvm.MethodName)) ∈ lw_all := lw_g (lw_at lw_m11 205 rfl) rfl
theorem q2730 : (Jvm.Cond.privateMethod ({ cls := "WreckSharesModel", name := "crewOf", desc := "(IZ)I" } : Jvm.MethodName)) ∈ lw_tbl := lw_at lw_m11 206 rfl
theorem q2731 : (Jvm.Cond.instanceMethod ({ cls := "WreckSharesModel", name := "crewOf", desc := "(IZ)I" } : Jvm.MethodName)) ∈ lw_all := lw_g (lw_at lw_m11 207 rfl) rfl
theorem q2732 : (Jvm.Cond.code ({ cls := "WreckSharesModel", name := "crewOf", desc := "(IZ)I" } : Jvm.MethodName) prog_21_method_31_code (3 : Nat) (Option.some Jvm.ClassFile.FieldType.int)) ∈ lw_all := lw_g (lw_at lw_m11 208 rfl) rfl
theorem q2733 : (Jvm.Cond.methodLink "WreckSharesModel" (136 : Nat) ({ cls := "WreckSharesModel", name := "ownerOf", desc := "(IZ)I" } : Jvm.MethodName)) ∈ lw_all := lw_g (lw_at lw_m11 209 rfl) rfl
theorem q2734 : (Jvm.Cond.privateMethod ({ cls := "WreckSharesModel", name := "ownerOf", desc := "(IZ)I" } : Jvm.MethodName)) ∈ lw_tbl := lw_at lw_m11 210 rfl
theorem q2735 : (Jvm.Cond.instanceMethod ({ cls := "WreckSharesModel", name := "ownerOf", desc := "(IZ)I" } : Jvm.MethodName)) ∈ lw_all := lw_g (lw_at lw_m11 211 rfl) rfl
theorem q2736 : (Jvm.Cond.code ({ cls := "WreckSharesModel", name := "ownerOf", desc := "(IZ)I" } : Jvm.MethodName) prog_21_method_30_code (3 : Nat) (Option.some Jvm.ClassFile.FieldType.int)) ∈ lw_all := lw_g (lw_at lw_m11 212 rfl) rfl
theorem q2737 : (Jvm.Cond.methodLink "WreckSharesModel" (133 : Nat) ({ cls := "WreckSharesModel", name := "salvageOf", desc := "(I)I" } : Jvm.MethodName)) ∈ lw_all := lw_g (lw_at lw_m11 213 rfl) rfl
theorem q2738 : (Jvm.Cond.privateMethod ({ cls := "WreckSharesModel", name := "salvageOf", desc := "(I)I" } : Jvm.MethodName)) ∈ lw_tbl := lw_at lw_m11 214 rfl
theorem q2739 : (Jvm.Cond.instanceMethod ({ cls := "WreckSharesModel", name := "salvageOf", desc := "(I)I" } : Jvm.MethodName)) ∈ lw_all := lw_g (lw_at lw_m11 215 rfl) rfl
theorem q2740 : (Jvm.Cond.code ({ cls := "WreckSharesModel", name := "salvageOf", desc := "(I)I" } : Jvm.MethodName) prog_21_method_28_code (2 : Nat) (Option.some Jvm.ClassFile.FieldType.int)) ∈ lw_all := lw_g (lw_at lw_m11 216 rfl) rfl
theorem q2741 : (Jvm.Cond.methodLink "WreckSharesModel" (140 : Nat) ({ cls := "WreckSharesModel", name := "crownOf", desc := "(IZ)I" } : Jvm.MethodName)) ∈ lw_all := lw_g (lw_at lw_m11 217 rfl) rfl
theorem q2742 : (Jvm.Cond.privateMethod ({ cls := "WreckSharesModel", name := "crownOf", desc := "(IZ)I" } : Jvm.MethodName)) ∈ lw_tbl := lw_at lw_m11 218 rfl
theorem q2743 : (Jvm.Cond.instanceMethod ({ cls := "WreckSharesModel", name := "crownOf", desc := "(IZ)I" } : Jvm.MethodName)) ∈ lw_all := lw_g (lw_at lw_m11 219 rfl) rfl
theorem q2744 : (Jvm.Cond.code ({ cls := "WreckSharesModel", name := "crownOf", desc := "(IZ)I" } : Jvm.MethodName) prog_21_method_29_code (3 : Nat) (Option.some Jvm.ClassFile.FieldType.int)) ∈ lw_all := lw_g (lw_at lw_m11 220 rfl) rfl
theorem q2745 : (Jvm.Cond.methodLink "WreckSharesModel" (153 : Nat) ({ cls := "WreckSharesModel", name := "restOf", desc := "(I)I" } : Jvm.MethodName)) ∈ lw_all := lw_g (lw_at lw_m11 221 rfl) rfl
theorem q2746 : (Jvm.Cond.privateMethod ({ cls := "WreckSharesModel", name := "restOf", desc := "(I)I" } : Jvm.MethodName)) ∈ lw_tbl := lw_at lw_m11 222 rfl
theorem q2747 : (Jvm.Cond.instanceMethod ({ cls := "WreckSharesModel", name := "restOf", desc := "(I)I" } : Jvm.MethodName)) ∈ lw_all := lw_g (lw_at lw_m11 223 rfl) rfl
theorem q2748 : (Jvm.Cond.code ({ cls := "WreckSharesModel", name := "restOf", desc := "(I)I" } : Jvm.MethodName) prog_21_method_34_code (4 : Nat) (Option.some Jvm.ClassFile.FieldType.int)) ∈ lw_all := lw_g (lw_at lw_m11 224 rfl) rfl
theorem q2750 : (Jvm.Cond.instanceMethod ({ cls := "WreckSharesModel", name := "richest", desc := "()I" } : Jvm.MethodName)) ∈ lw_all := lw_g (lw_at lw_m11 226 rfl) rfl
theorem q2751 : (Jvm.Cond.selects "WreckSharesModel" ({ cls := "WreckSharesModel", name := "richest", desc := "()I" } : Jvm.MethodName) ({ cls := "WreckSharesModel", name := "richest", desc := "()I" } : Jvm.MethodName)) ∈ lw_all := lw_g (lw_at lw_m11 227 rfl) rfl
theorem q2752 : (Jvm.Cond.code ({ cls := "WreckSharesModel", name := "richest", desc := "()I" } : Jvm.MethodName) prog_21_method_58_code (3 : Nat) (Option.some Jvm.ClassFile.FieldType.int)) ∈ lw_all := lw_g (lw_at lw_m11 228 rfl) rfl
theorem q2754 : (Jvm.Cond.instanceMethod ({ cls := "WreckSharesModel", name := "gap", desc := "()I" } : Jvm.MethodName)) ∈ lw_all := lw_g (lw_at lw_m11 230 rfl) rfl
theorem q2755 : (Jvm.Cond.selects "WreckSharesModel" ({ cls := "WreckSharesModel", name := "gap", desc := "()I" } : Jvm.MethodName) ({ cls := "WreckSharesModel", name := "gap", desc := "()I" } : Jvm.MethodName)) ∈ lw_all := lw_g (lw_at lw_m11 231 rfl) rfl
theorem q2756 : (Jvm.Cond.code ({ cls := "WreckSharesModel", name := "gap", desc := "()I" } : Jvm.MethodName) prog_21_method_60_code (4 : Nat) (Option.some Jvm.ClassFile.FieldType.int)) ∈ lw_all := lw_g (lw_at lw_m11 232 rfl) rfl
theorem q2757 : (Jvm.Cond.methodLink "WreckSharesModel" (211 : Nat) ({ cls := "WreckSharesModel", name := "allPurses", desc := "()I" } : Jvm.MethodName)) ∈ lw_all := lw_g (lw_at lw_m11 233 rfl) rfl
theorem q2758 : (Jvm.Cond.privateMethod ({ cls := "WreckSharesModel", name := "allPurses", desc := "()I" } : Jvm.MethodName)) ∈ lw_tbl := lw_at lw_m11 234 rfl
theorem q2759 : (Jvm.Cond.instanceMethod ({ cls := "WreckSharesModel", name := "allPurses", desc := "()I" } : Jvm.MethodName)) ∈ lw_all := lw_g (lw_at lw_m11 235 rfl) rfl
theorem q2760 : (Jvm.Cond.code ({ cls := "WreckSharesModel", name := "allPurses", desc := "()I" } : Jvm.MethodName) prog_21_method_59_code (3 : Nat) (Option.some Jvm.ClassFile.FieldType.int)) ∈ lw_all := lw_g (lw_at lw_m11 236 rfl) rfl
theorem q2762 : (Jvm.Cond.instanceMethod ({ cls := "WreckSharesModel", name := "level", desc := "(I)I" } : Jvm.MethodName)) ∈ lw_all := lw_g (lw_at lw_m11 238 rfl) rfl
theorem q2763 : (Jvm.Cond.selects "WreckSharesModel" ({ cls := "WreckSharesModel", name := "level", desc := "(I)I" } : Jvm.MethodName) ({ cls := "WreckSharesModel", name := "level", desc := "(I)I" } : Jvm.MethodName)) ∈ lw_all := lw_g (lw_at lw_m11 239 rfl) rfl
theorem q2764 : (Jvm.Cond.code ({ cls := "WreckSharesModel", name := "level", desc := "(I)I" } : Jvm.MethodName) prog_21_method_61_code (2 : Nat) (Option.some Jvm.ClassFile.FieldType.int)) ∈ lw_all := lw_g (lw_at lw_m12 0 rfl) rfl
theorem q2765 : (Jvm.Cond.constant "WreckSharesModel" (214 : Nat) (99999 : Int32)) ∈ lw_all := lw_g (lw_at lw_m12 1 rfl) rfl
theorem q2767 : (Jvm.Cond.instanceMethod ({ cls := "WreckSharesModel", name := "turnIn", desc := "(Z)I" } : Jvm.MethodName)) ∈ lw_all := lw_g (lw_at lw_m12 3 rfl) rfl
theorem q2768 : (Jvm.Cond.selects "WreckSharesModel" ({ cls := "WreckSharesModel", name := "turnIn", desc := "(Z)I" } : Jvm.MethodName) ({ cls := "WreckSharesModel", name := "turnIn", desc := "(Z)I" } : Jvm.MethodName)) ∈ lw_all := lw_g (lw_at lw_m12 4 rfl) rfl
theorem q2769 : (Jvm.Cond.code ({ cls := "WreckSharesModel", name := "turnIn", desc := "(Z)I" } : Jvm.MethodName) prog_21_method_62_code (3 : Nat) (Option.some Jvm.ClassFile.FieldType.int)) ∈ lw_all := lw_g (lw_at lw_m12 5 rfl) rfl
theorem q2771 : (Jvm.Cond.instanceMethod ({ cls := "WreckSharesModel", name := "dryIn", desc := "(I)I" } : Jvm.MethodName)) ∈ lw_all := lw_g (lw_at lw_m12 7 rfl) rfl
theorem q2772 : (Jvm.Cond.selects "WreckSharesModel" ({ cls := "WreckSharesModel", name := "dryIn", desc := "(I)I" } : Jvm.MethodName) ({ cls := "WreckSharesModel", name := "dryIn", desc := "(I)I" } : Jvm.MethodName)) ∈ lw_all := lw_g (lw_at lw_m12 8 rfl) rfl
theorem q2773 : (Jvm.Cond.code ({ cls := "WreckSharesModel", name := "dryIn", desc := "(I)I" } : Jvm.MethodName) prog_21_method_63_code (2 : Nat) (Option.some Jvm.ClassFile.FieldType.int)) ∈ lw_all := lw_g (lw_at lw_m12 9 rfl) rfl
theorem q2774 : (Jvm.Cond.methodLink "WreckSharesModel" (215 : Nat) ({ cls := "WreckSharesModel", name := "ticksToDry", desc := "(I)I" } : Jvm.MethodName)) ∈ lw_all := lw_g (lw_at lw_m12 10 rfl) rfl
theorem q2775 : (Jvm.Cond.privateMethod ({ cls := "WreckSharesModel", name := "ticksToDry", desc := "(I)I" } : Jvm.MethodName)) ∈ lw_tbl := lw_at lw_m12 11 rfl
theorem q2776 : (Jvm.Cond.instanceMethod ({ cls := "WreckSharesModel", name := "ticksToDry", desc := "(I)I" } : Jvm.MethodName)) ∈ lw_all := lw_g (lw_at lw_m12 12 rfl) rfl
theorem q2777 : (Jvm.Cond.code ({ cls := "WreckSharesModel", name := "ticksToDry", desc := "(I)I" } : Jvm.MethodName) prog_21_method_19_code (3 : Nat) (Option.some Jvm.ClassFile.FieldType.int)) ∈ lw_all := lw_g (lw_at lw_m12 13 rfl) rfl
theorem q2779 : (Jvm.Cond.instanceMethod ({ cls := "WreckSharesModel", name := "dryTicks", desc := "(I)I" } : Jvm.MethodName)) ∈ lw_all := lw_g (lw_at lw_m12 15 rfl) rfl
theorem q2780 : (Jvm.Cond.selects "WreckSharesModel" ({ cls := "WreckSharesModel", name := "dryTicks", desc := "(I)I" } : Jvm.MethodName) ({ cls := "WreckSharesModel", name := "dryTicks", desc := "(I)I" } : Jvm.MethodName)) ∈ lw_all := lw_g (lw_at lw_m12 16 rfl) rfl
theorem q2781 : (Jvm.Cond.code ({ cls := "WreckSharesModel", name := "dryTicks", desc := "(I)I" } : Jvm.MethodName) prog_21_method_64_code (2 : Nat) (Option.some Jvm.ClassFile.FieldType.int)) ∈ lw_all := lw_g (lw_at lw_m12 17 rfl) rfl
theorem q2782 : (Jvm.Cond.methodLink "WreckSharesModel" (121 : Nat) ({ cls := "WreckSharesModel", name := "countDry", desc := "(I)I" } : Jvm.MethodName)) ∈ lw_all := lw_g (lw_at lw_m12 18 rfl) rfl
theorem q2783 : (Jvm.Cond.privateMethod ({ cls := "WreckSharesModel", name := "countDry", desc := "(I)I" } : Jvm.MethodName)) ∈ lw_tbl := lw_at lw_m12 19 rfl
theorem q2784 : (Jvm.Cond.instanceMethod ({ cls := "WreckSharesModel", name := "countDry", desc := "(I)I" } : Jvm.MethodName)) ∈ lw_all := lw_g (lw_at lw_m12 20 rfl) rfl
theorem q2785 : (Jvm.Cond.code ({ cls := "WreckSharesModel", name := "countDry", desc := "(I)I" } : Jvm.MethodName) prog_21_method_20_code (4 : Nat) (Option.some Jvm.ClassFile.FieldType.int)) ∈ lw_all := lw_g (lw_at lw_m12 21 rfl) rfl
theorem q2787 : (Jvm.Cond.instanceMethod ({ cls := "WreckSharesModel", name := "lostIn", desc := "(I)I" } : Jvm.MethodName)) ∈ lw_all := lw_g (lw_at lw_m12 23 rfl) rfl
theorem q2788 : (Jvm.Cond.selects "WreckSharesModel" ({ cls := "WreckSharesModel", name := "lostIn", desc := "(I)I" } : Jvm.MethodName) ({ cls := "WreckSharesModel", name := "lostIn", desc := "(I)I" } : Jvm.MethodName)) ∈ lw_all := lw_g (lw_at lw_m12 24 rfl) rfl
theorem q2789 : (Jvm.Cond.code ({ cls := "WreckSharesModel", name := "lostIn", desc := "(I)I" } : Jvm.MethodName) prog_21_method_65_code (2 : Nat) (Option.some Jvm.ClassFile.FieldType.int)) ∈ lw_all := lw_g (lw_at lw_m12 25 rfl) rfl
theorem q2790 : (Jvm.Cond.methodLink "WreckSharesModel" (218 : Nat) ({ cls := "WreckSharesModel", name := "ticksToLoss", desc := "(I)I" } : Jvm.MethodName)) ∈ lw_all := lw_g (lw_at lw_m12 26 rfl) rfl
theorem q2791 : (Jvm.Cond.privateMethod ({ cls := "WreckSharesModel", name := "ticksToLoss", desc := "(I)I" } : Jvm.MethodName)) ∈ lw_tbl := lw_at lw_m12 27 rfl
theorem q2792 : (Jvm.Cond.instanceMethod ({ cls := "WreckSharesModel", name := "ticksToLoss", desc := "(I)I" } : Jvm.MethodName)) ∈ lw_all := lw_g (lw_at lw_m12 28 rfl) rfl
theorem q2793 : (Jvm.Cond.code ({ cls := "WreckSharesModel", name := "ticksToLoss", desc := "(I)I" } : Jvm.MethodName) prog_21_method_21_code (4 : Nat) (Option.some Jvm.ClassFile.FieldType.int)) ∈ lw_all := lw_g (lw_at lw_m12 29 rfl) rfl
theorem q2795 : (Jvm.Cond.instanceMethod ({ cls := "WreckSharesModel", name := "nextLost", desc := "()I" } : Jvm.MethodName)) ∈ lw_all := lw_g (lw_at lw_m12 31 rfl) rfl
theorem q2796 : (Jvm.Cond.selects "WreckSharesModel" ({ cls := "WreckSharesModel", name := "nextLost", desc := "()I" } : Jvm.MethodName) ({ cls := "WreckSharesModel", name := "nextLost", desc := "()I" } : Jvm.MethodName)) ∈ lw_all := lw_g (lw_at lw_m12 32 rfl) rfl
theorem q2797 : (Jvm.Cond.code ({ cls := "WreckSharesModel", name := "nextLost", desc := "()I" } : Jvm.MethodName) prog_21_method_66_code (5 : Nat) (Option.some Jvm.ClassFile.FieldType.int)) ∈ lw_all := lw_g (lw_at lw_m12 33 rfl) rfl
theorem q2799 : (Jvm.Cond.instanceMethod ({ cls := "WreckSharesModel", name := "lossIn", desc := "(I)I" } : Jvm.MethodName)) ∈ lw_all := lw_g (lw_at lw_m12 35 rfl) rfl
theorem q2800 : (Jvm.Cond.selects "WreckSharesModel" ({ cls := "WreckSharesModel", name := "lossIn", desc := "(I)I" } : Jvm.MethodName) ({ cls := "WreckSharesModel", name := "lossIn", desc := "(I)I" } : Jvm.MethodName)) ∈ lw_all := lw_g (lw_at lw_m12 36 rfl) rfl
theorem q2801 : (Jvm.Cond.code ({ cls := "WreckSharesModel", name := "lossIn", desc := "(I)I" } : Jvm.MethodName) prog_21_method_67_code (5 : Nat) (Option.some Jvm.ClassFile.FieldType.int)) ∈ lw_all := lw_g (lw_at lw_m12 37 rfl) rfl
theorem q2803 : (Jvm.Cond.instanceMethod ({ cls := "WreckSharesModel", name := "share", desc := "(II)I" } : Jvm.MethodName)) ∈ lw_all := lw_g (lw_at lw_m12 39 rfl) rfl
theorem q2804 : (Jvm.Cond.selects "WreckSharesModel" ({ cls := "WreckSharesModel", name := "share", desc := "(II)I" } : Jvm.MethodName) ({ cls := "WreckSharesModel", name := "share", desc := "(II)I" } : Jvm.MethodName)) ∈ lw_all := lw_g (lw_at lw_m12 40 rfl) rfl
theorem q2805 : (Jvm.Cond.code ({ cls := "WreckSharesModel", name := "share", desc := "(II)I" } : Jvm.MethodName) prog_21_method_68_code (3 : Nat) (Option.some Jvm.ClassFile.FieldType.int)) ∈ lw_all := lw_g (lw_at lw_m12 41 rfl) rfl
theorem q2807 : (Jvm.Cond.instanceMethod ({ cls := "WreckSharesModel", name := "crownShare", desc := "(I)I" } : Jvm.MethodName)) ∈ lw_all := lw_g (lw_at lw_m12 43 rfl) rfl
theorem q2808 : (Jvm.Cond.selects "WreckSharesModel" ({ cls := "WreckSharesModel", name := "crownShare", desc := "(I)I" } : Jvm.MethodName) ({ cls := "WreckSharesModel", name := "crownShare", desc := "(I)I" } : Jvm.MethodName)) ∈ lw_all := lw_g (lw_at lw_m12 44 rfl) rfl
theorem q2809 : (Jvm.Cond.code ({ cls := "WreckSharesModel", name := "crownShare", desc := "(I)I" } : Jvm.MethodName) prog_21_method_69_code (2 : Nat) (Option.some Jvm.ClassFile.FieldType.int)) ∈ lw_all := lw_g (lw_at lw_m12 45 rfl) rfl
theorem q2811 : (Jvm.Cond.instanceMethod ({ cls := "WreckSharesModel", name := "ownerShare", desc := "(I)I" } : Jvm.MethodName)) ∈ lw_all := lw_g (lw_at lw_m12 47 rfl) rfl
theorem q2812 : (Jvm.Cond.selects "WreckSharesModel" ({ cls := "WreckSharesModel", name := "ownerShare", desc := "(I)I" } : Jvm.MethodName) ({ cls := "WreckSharesModel", name := "ownerShare", desc := "(I)I" } : Jvm.MethodName)) ∈ lw_all := lw_g (lw_at lw_m12 48 rfl) rfl
theorem q2813 : (Jvm.Cond.code ({ cls := "WreckSharesModel", name := "ownerShare", desc := "(I)I" } : Jvm.MethodName) prog_21_method_70_code (2 : Nat) (Option.some Jvm.ClassFile.FieldType.int)) ∈ lw_all := lw_g (lw_at lw_m12 49 rfl) rfl
theorem q2815 : (Jvm.Cond.instanceMethod ({ cls := "WreckSharesModel", name := "unequal", desc := "(I)I" } : Jvm.MethodName)) ∈ lw_all := lw_g (lw_at lw_m12 51 rfl) rfl
theorem q2816 : (Jvm.Cond.selects "WreckSharesModel" ({ cls := "WreckSharesModel", name := "unequal", desc := "(I)I" } : Jvm.MethodName) ({ cls := "WreckSharesModel", name := "unequal", desc := "(I)I" } : Jvm.MethodName)) ∈ lw_all := lw_g (lw_at lw_m12 52 rfl) rfl
theorem q2817 : (Jvm.Cond.code ({ cls := "WreckSharesModel", name := "unequal", desc := "(I)I" } : Jvm.MethodName) prog_21_method_71_code (3 : Nat) (Option.some Jvm.ClassFile.FieldType.int)) ∈ lw_all := lw_g (lw_at lw_m12 53 rfl) rfl
theorem q2819 : (Jvm.Cond.instanceMethod ({ cls := "WreckSharesModel", name := "claimTime", desc := "(I)I" } : Jvm.MethodName)) ∈ lw_all := lw_g (lw_at lw_m12 55 rfl) rfl
theorem q2820 : (Jvm.Cond.selects "WreckSharesModel" ({ cls := "WreckSharesModel", name := "claimTime", desc := "(I)I" } : Jvm.MethodName) ({ cls := "WreckSharesModel", name := "claimTime", desc := "(I)I" } : Jvm.MethodName)) ∈ lw_all := lw_g (lw_at lw_m12 56 rfl) rfl
theorem q2821 : (Jvm.Cond.code ({ cls := "WreckSharesModel", name := "claimTime", desc := "(I)I" } : Jvm.MethodName) prog_21_method_72_code (3 : Nat) (Option.some Jvm.ClassFile.FieldType.int)) ∈ lw_all := lw_g (lw_at lw_m12 57 rfl) rfl
theorem q2823 : (Jvm.Cond.instanceMethod ({ cls := "WreckSharesModel", name := "bestClaim", desc := "()I" } : Jvm.MethodName)) ∈ lw_all := lw_g (lw_at lw_m12 59 rfl) rfl
theorem q2824 : (Jvm.Cond.selects "WreckSharesModel" ({ cls := "WreckSharesModel", name := "bestClaim", desc := "()I" } : Jvm.MethodName) ({ cls := "WreckSharesModel", name := "bestClaim", desc := "()I" } : Jvm.MethodName)) ∈ lw_all := lw_g (lw_at lw_m12 60 rfl) rfl
theorem q2825 : (Jvm.Cond.code ({ cls := "WreckSharesModel", name := "bestClaim", desc := "()I" } : Jvm.MethodName) prog_21_method_74_code (4 : Nat) (Option.some Jvm.ClassFile.FieldType.int)) ∈ lw_all := lw_g (lw_at lw_m12 61 rfl) rfl
theorem q2826 : (Jvm.Cond.methodLink "WreckSharesModel" (221 : Nat) ({ cls := "WreckSharesModel", name := "claimable", desc := "(I)I" } : Jvm.MethodName)) ∈ lw_all := lw_g (lw_at lw_m12 62 rfl) rfl
theorem q2827 : (Jvm.Cond.privateMethod ({ cls := "WreckSharesModel", name := "claimable", desc := "(I)I" } : Jvm.MethodName)) ∈ lw_tbl := lw_at lw_m12 63 rfl
theorem q2828 : (Jvm.Cond.instanceMethod ({ cls := "WreckSharesModel", name := "claimable", desc := "(I)I" } : Jvm.MethodName)) ∈ lw_all := lw_g (lw_at lw_m12 64 rfl) rfl
theorem q2829 : (Jvm.Cond.code ({ cls := "WreckSharesModel", name := "claimable", desc := "(I)I" } : Jvm.MethodName) prog_21_method_73_code (5 : Nat) (Option.some Jvm.ClassFile.FieldType.int)) ∈ lw_all := lw_g (lw_at lw_m12 65 rfl) rfl
theorem q2831 : (Jvm.Cond.instanceMethod ({ cls := "WreckSharesModel", name := "firstDue", desc := "()I" } : Jvm.MethodName)) ∈ lw_all := lw_g (lw_at lw_m12 67 rfl) rfl
theorem q2832 : (Jvm.Cond.selects "WreckSharesModel" ({ cls := "WreckSharesModel", name := "firstDue", desc := "()I" } : Jvm.MethodName) ({ cls := "WreckSharesModel", name := "firstDue", desc := "()I" } : Jvm.MethodName)) ∈ lw_all := lw_g (lw_at lw_m12 68 rfl) rfl
theorem q2833 : (Jvm.Cond.code ({ cls := "WreckSharesModel", name := "firstDue", desc := "()I" } : Jvm.MethodName) prog_21_method_75_code (4 : Nat) (Option.some Jvm.ClassFile.FieldType.int)) ∈ lw_all := lw_g (lw_at lw_m12 69 rfl) rfl
theorem q2835 : (Jvm.Cond.instanceMethod ({ cls := "WreckSharesModel", name := "claimCosts", desc := "(I)I" } : Jvm.MethodName)) ∈ lw_all := lw_g (lw_at lw_m12 71 rfl) rfl
theorem q2836 : (Jvm.Cond.selects "WreckSharesModel" ({ cls := "WreckSharesModel", name := "claimCosts", desc := "(I)I" } : Jvm.MethodName) ({ cls := "WreckSharesModel", name := "claimCosts", desc := "(I)I" } : Jvm.MethodName)) ∈ lw_all := lw_g (lw_at lw_m12 72 rfl) rfl
theorem q2837 : (Jvm.Cond.code ({ cls := "WreckSharesModel", name := "claimCosts", desc := "(I)I" } : Jvm.MethodName) prog_21_method_76_code (3 : Nat) (Option.some Jvm.ClassFile.FieldType.int)) ∈ lw_all := lw_g (lw_at lw_m12 73 rfl) rfl
theorem q2839 : (Jvm.Cond.instanceMethod ({ cls := "WreckSharesModel", name := "purseIf", desc := "(I)I" } : Jvm.MethodName)) ∈ lw_all := lw_g (lw_at lw_m12 75 rfl) rfl
theorem q2840 : (Jvm.Cond.selects "WreckSharesModel" ({ cls := "WreckSharesModel", name := "purseIf", desc := "(I)I" } : Jvm.MethodName) ({ cls := "WreckSharesModel", name := "purseIf", desc := "(I)I" } : Jvm.MethodName)) ∈ lw_all := lw_g (lw_at lw_m12 76 rfl) rfl
theorem q2841 : (Jvm.Cond.code ({ cls := "WreckSharesModel", name := "purseIf", desc := "(I)I" } : Jvm.MethodName) prog_21_method_77_code (4 : Nat) (Option.some Jvm.ClassFile.FieldType.int)) ∈ lw_all := lw_g (lw_at lw_m12 77 rfl) rfl
theorem q2843 : (Jvm.Cond.instanceMethod ({ cls := "WreckSharesModel", name := "why", desc := "(I)I" } : Jvm.MethodName)) ∈ lw_all := lw_g (lw_at lw_m12 79 rfl) rfl
theorem q2844 : (Jvm.Cond.selects "WreckSharesModel" ({ cls := "WreckSharesModel", name := "why", desc := "(I)I" } : Jvm.MethodName) ({ cls := "WreckSharesModel", name := "why", desc := "(I)I" } : Jvm.MethodName)) ∈ lw_all := lw_g (lw_at lw_m12 80 rfl) rfl
theorem q2845 : (Jvm.Cond.code ({ cls := "WreckSharesModel", name := "why", desc := "(I)I" } : Jvm.MethodName) prog_21_method_78_code (2 : Nat) (Option.some Jvm.ClassFile.FieldType.int)) ∈ lw_all := lw_g (lw_at lw_m12 81 rfl) rfl
theorem q2846 : (Jvm.Cond.methodLink "WreckSharesModel" (224 : Nat) ({ cls := "WreckSharesModel", name := "haulRefusal", desc := "(I)I" } : Jvm.MethodName)) ∈ lw_all := lw_g (lw_at lw_m12 82 rfl) rfl
theorem q2847 : (Jvm.Cond.privateMethod ({ cls := "WreckSharesModel", name := "haulRefusal", desc := "(I)I" } : Jvm.MethodName)) ∈ lw_tbl := lw_at lw_m12 83 rfl
theorem q2848 : (Jvm.Cond.instanceMethod ({ cls := "WreckSharesModel", name := "haulRefusal", desc := "(I)I" } : Jvm.MethodName)) ∈ lw_all := lw_g (lw_at lw_m12 84 rfl) rfl
theorem q2849 : (Jvm.Cond.code ({ cls := "WreckSharesModel", name := "haulRefusal", desc := "(I)I" } : Jvm.MethodName) prog_21_method_40_code (2 : Nat) (Option.some Jvm.ClassFile.FieldType.int)) ∈ lw_all := lw_g (lw_at lw_m12 85 rfl) rfl
theorem q2851 : (Jvm.Cond.instanceMethod ({ cls := "WreckSharesModel", name := "cause", desc := "(I)I" } : Jvm.MethodName)) ∈ lw_all := lw_g (lw_at lw_m12 87 rfl) rfl
theorem q2852 : (Jvm.Cond.selects "WreckSharesModel" ({ cls := "WreckSharesModel", name := "cause", desc := "(I)I" } : Jvm.MethodName) ({ cls := "WreckSharesModel", name := "cause", desc := "(I)I" } : Jvm.MethodName)) ∈ lw_all := lw_g (lw_at lw_m12 88 rfl) rfl
theorem q2853 : (Jvm.Cond.code ({ cls := "WreckSharesModel", name := "cause", desc := "(I)I" } : Jvm.MethodName) prog_21_method_79_code (2 : Nat) (Option.some Jvm.ClassFile.FieldType.int)) ∈ lw_all := lw_g (lw_at lw_m12 89 rfl) rfl
theorem q2855 : (Jvm.Cond.instanceMethod ({ cls := "WreckSharesModel", name := "whyDivide", desc := "(I)I" } : Jvm.MethodName)) ∈ lw_all := lw_g (lw_at lw_m12 91 rfl) rfl
theorem q2856 : (Jvm.Cond.selects "WreckSharesModel" ({ cls := "WreckSharesModel", name := "whyDivide", desc := "(I)I" } : Jvm.MethodName) ({ cls := "WreckSharesModel", name := "whyDivide", desc := "(I)I" } : Jvm.MethodName)) ∈ lw_all := lw_g (lw_at lw_m12 92 rfl) rfl
theorem q2857 : (Jvm.Cond.code ({ cls := "WreckSharesModel", name := "whyDivide", desc := "(I)I" } : Jvm.MethodName) prog_21_method_80_code (2 : Nat) (Option.some Jvm.ClassFile.FieldType.int)) ∈ lw_all := lw_g (lw_at lw_m12 93 rfl) rfl
theorem q2858 : (Jvm.Cond.methodLink "WreckSharesModel" (227 : Nat) ({ cls := "WreckSharesModel", name := "divideRefusal", desc := "(I)I" } : Jvm.MethodName)) ∈ lw_all := lw_g (lw_at lw_m12 94 rfl) rfl
theorem q2859 : (Jvm.Cond.privateMethod ({ cls := "WreckSharesModel", name := "divideRefusal", desc := "(I)I" } : Jvm.MethodName)) ∈ lw_tbl := lw_at lw_m12 95 rfl
theorem q2860 : (Jvm.Cond.instanceMethod ({ cls := "WreckSharesModel", name := "divideRefusal", desc := "(I)I" } : Jvm.MethodName)) ∈ lw_all := lw_g (lw_at lw_m12 96 rfl) rfl
theorem q2861 : (Jvm.Cond.code ({ cls := "WreckSharesModel", name := "divideRefusal", desc := "(I)I" } : Jvm.MethodName) prog_21_method_41_code (2 : Nat) (Option.some Jvm.ClassFile.FieldType.int)) ∈ lw_all := lw_g (lw_at lw_m12 97 rfl) rfl
theorem q2863 : (Jvm.Cond.instanceMethod ({ cls := "WreckSharesModel", name := "bestHaul", desc := "()I" } : Jvm.MethodName)) ∈ lw_all := lw_g (lw_at lw_m12 99 rfl) rfl
theorem q2864 : (Jvm.Cond.selects "WreckSharesModel" ({ cls := "WreckSharesModel", name := "bestHaul", desc := "()I" } : Jvm.MethodName) ({ cls := "WreckSharesModel", name := "bestHaul", desc := "()I" } : Jvm.MethodName)) ∈ lw_all := lw_g (lw_at lw_m12 100 rfl) rfl
theorem q2865 : (Jvm.Cond.code ({ cls := "WreckSharesModel", name := "bestHaul", desc := "()I" } : Jvm.MethodName) prog_21_method_81_code (5 : Nat) (Option.some Jvm.ClassFile.FieldType.int)) ∈ lw_all := lw_g (lw_at lw_m12 101 rfl) rfl
theorem q2867 : (Jvm.Cond.instanceMethod ({ cls := "WreckSharesModel", name := "savedShare", desc := "()F" } : Jvm.MethodName)) ∈ lw_all := lw_g (lw_at lw_m12 103 rfl) rfl
theorem q2868 : (Jvm.Cond.selects "WreckSharesModel" ({ cls := "WreckSharesModel", name := "savedShare", desc := "()F" } : Jvm.MethodName) ({ cls := "WreckSharesModel", name := "savedShare", desc := "()F" } : Jvm.MethodName)) ∈ lw_all := lw_g (lw_at lw_m12 104 rfl) rfl
theorem q2869 : (Jvm.Cond.code ({ cls := "WreckSharesModel", name := "savedShare", desc := "()F" } : Jvm.MethodName) prog_21_method_82_code (2 : Nat) (Option.some Jvm.ClassFile.FieldType.float)) ∈ lw_all := lw_g (lw_at lw_m12 105 rfl) rfl
theorem q2871 : (Jvm.Cond.instanceMethod ({ cls := "WreckSharesModel", name := "crownPart", desc := "()D" } : Jvm.MethodName)) ∈ lw_all := lw_g (lw_at lw_m12 107 rfl) rfl
theorem q2872 : (Jvm.Cond.selects "WreckSharesModel" ({ cls := "WreckSharesModel", name := "crownPart", desc := "()D" } : Jvm.MethodName) ({ cls := "WreckSharesModel", name := "crownPart", desc := "()D" } : Jvm.MethodName)) ∈ lw_all := lw_g (lw_at lw_m12 108 rfl) rfl
theorem q2873 : (Jvm.Cond.code ({ cls := "WreckSharesModel", name := "crownPart", desc := "()D" } : Jvm.MethodName) prog_21_method_83_code (2 : Nat) (Option.some Jvm.ClassFile.FieldType.double)) ∈ lw_all := lw_g (lw_at lw_m12 109 rfl) rfl
theorem q2875 : (Jvm.Cond.instanceMethod ({ cls := "WreckSharesModel", name := "rope", desc := "(II)I" } : Jvm.MethodName)) ∈ lw_all := lw_g (lw_at lw_m12 111 rfl) rfl
theorem q2876 : (Jvm.Cond.selects "WreckSharesModel" ({ cls := "WreckSharesModel", name := "rope", desc := "(II)I" } : Jvm.MethodName) ({ cls := "WreckSharesModel", name := "rope", desc := "(II)I" } : Jvm.MethodName)) ∈ lw_all := lw_g (lw_at lw_m12 112 rfl) rfl
theorem q2877 : (Jvm.Cond.code ({ cls := "WreckSharesModel", name := "rope", desc := "(II)I" } : Jvm.MethodName) prog_21_method_98_code (3 : Nat) (Option.some Jvm.ClassFile.FieldType.int)) ∈ lw_all := lw_g (lw_at lw_m12 113 rfl) rfl
theorem q2878 : (Jvm.Cond.methodLink "WreckSharesModel" (260 : Nat) ({ cls := "WreckSharesModel", name := "keep", desc := "()V" } : Jvm.MethodName)) ∈ lw_all := lw_g (lw_at lw_m12 114 rfl) rfl
theorem q2879 : (Jvm.Cond.privateMethod ({ cls := "WreckSharesModel", name := "keep", desc := "()V" } : Jvm.MethodName)) ∈ lw_tbl := lw_at lw_m12 115 rfl
theorem q2880 : (Jvm.Cond.instanceMethod ({ cls := "WreckSharesModel", name := "keep", desc := "()V" } : Jvm.MethodName)) ∈ lw_all := lw_g (lw_at lw_m12 116 rfl) rfl
theorem q2881 : (Jvm.Cond.code ({ cls := "WreckSharesModel", name := "keep", desc := "()V" } : Jvm.MethodName) prog_21_method_95_code (1 : Nat) (Option.none : Option Jvm.ClassFile.FieldType)) ∈ lw_all := lw_g (lw_at lw_m12 117 rfl) rfl
theorem q2882 : (Jvm.Cond.methodLink "WreckSharesModel" (250 : Nat) ({ cls := "WreckSharesModel", name := "copy", desc := "([II[II)V" } : Jvm.MethodName)) ∈ lw_all := lw_g (lw_at lw_m12 118 rfl) rfl
theorem q2883 : (Jvm.Cond.static ({ cls := "WreckSharesModel", name := "copy", desc := "([II[II)V" } : Jvm.MethodName)) ∈ lw_all := lw_g (lw_at lw_m12 119 rfl) rfl
theorem q2884 : (Jvm.Cond.code ({ cls := "WreckSharesModel", name := "copy", desc := "([II[II)V" } : Jvm.MethodName) prog_21_method_94_code (4 : Nat) (Option.none : Option Jvm.ClassFile.FieldType)) ∈ lw_all := lw_g (lw_at lw_m12 120 rfl) rfl
theorem q2885 : (Jvm.Cond.methodLink "WreckSharesModel" (244 : Nat) ({ cls := "java/lang/System", name := "arraycopy", desc := "(Ljava/lang/Object;ILjava/lang/Object;II)V" } : Jvm.MethodName)) ∈ lw_all := lw_g (lw_at lw_m12 121 rfl) rfl
theorem q2886 : (Jvm.Cond.methodLink "WreckSharesModel" (263 : Nat) ({ cls := "WreckSharesModel", name := "doRope", desc := "(II)I" } : Jvm.MethodName)) ∈ lw_all := lw_g (lw_at lw_m12 122 rfl) rfl
theorem q2887 : (Jvm.Cond.privateMethod ({ cls := "WreckSharesModel", name := "doRope", desc := "(II)I" } : Jvm.MethodName)) ∈ lw_tbl := lw_at lw_m12 123 rfl
theorem q2888 : (Jvm.Cond.instanceMethod ({ cls := "WreckSharesModel", name := "doRope", desc := "(II)I" } : Jvm.MethodName)) ∈ lw_all := lw_g (lw_at lw_m12 124 rfl) rfl
theorem q2889 : (Jvm.Cond.code ({ cls := "WreckSharesModel", name := "doRope", desc := "(II)I" } : Jvm.MethodName) prog_21_method_85_code (3 : Nat) (Option.some Jvm.ClassFile.FieldType.int)) ∈ lw_all := lw_g (lw_at lw_m12 125 rfl) rfl
theorem q2890 : (Jvm.Cond.methodLink "WreckSharesModel" (230 : Nat) ({ cls := "WreckSharesModel", name := "ends", desc := "(I)I" } : Jvm.MethodName)) ∈ lw_all := lw_g (lw_at lw_m12 126 rfl) rfl
theorem q2891 : (Jvm.Cond.privateMethod ({ cls := "WreckSharesModel", name := "ends", desc := "(I)I" } : Jvm.MethodName)) ∈ lw_tbl := lw_at lw_m12 127 rfl
theorem q2892 : (Jvm.Cond.instanceMethod ({ cls := "WreckSharesModel", name := "ends", desc := "(I)I" } : Jvm.MethodName)) ∈ lw_all := lw_g (lw_at lw_m12 128 rfl) rfl
theorem q2893 : (Jvm.Cond.code ({ cls := "WreckSharesModel", name := "ends", desc := "(I)I" } : Jvm.MethodName) prog_21_method_84_code (2 : Nat) (Option.some Jvm.ClassFile.FieldType.int)) ∈ lw_all := lw_g (lw_at lw_m12 129 rfl) rfl
theorem q2894 : (Jvm.Cond.methodLink "WreckSharesModel" (233 : Nat) ({ cls := "WreckSharesModel", name := "removeHand", desc := "(I)V" } : Jvm.MethodName)) ∈ lw_all := lw_g (lw_at lw_m12 130 rfl) rfl
theorem q2895 : (Jvm.Cond.privateMethod ({ cls := "WreckSharesModel", name := "removeHand", desc := "(I)V" } : Jvm.MethodName)) ∈ lw_tbl := lw_at lw_m12 131 rfl
theorem q2896 : (Jvm.Cond.instanceMethod ({ cls := "WreckSharesModel", name := "removeHand", desc := "(I)V" } : Jvm.MethodName)) ∈ lw_all := lw_g (lw_at lw_m12 132 rfl) rfl
theorem q2897 : (Jvm.Cond.code ({ cls := "WreckSharesModel", name := "removeHand", desc := "(I)V" } : Jvm.MethodName) prog_21_method_25_code (5 : Nat) (Option.none : Option Jvm.ClassFile.FieldType)) ∈ lw_all := lw_g (lw_at lw_m12 133 rfl) rfl
theorem q2898 : (Jvm.Cond.methodLink "WreckSharesModel" (236 : Nat) ({ cls := "WreckSharesModel", name := "addHand", desc := "(II)V" } : Jvm.MethodName)) ∈ lw_all := lw_g (lw_at lw_m12 134 rfl) rfl
theorem q2899 : (Jvm.Cond.privateMethod ({ cls := "WreckSharesModel", name := "addHand", desc := "(II)V" } : Jvm.MethodName)) ∈ lw_tbl := lw_at lw_m12 135 rfl
theorem q2900 : (Jvm.Cond.instanceMethod ({ cls := "WreckSharesModel", name := "addHand", desc := "(II)V" } : Jvm.MethodName)) ∈ lw_all := lw_g (lw_at lw_m12 136 rfl) rfl
theorem q2901 : (Jvm.Cond.code ({ cls := "WreckSharesModel", name := "addHand", desc := "(II)V" } : Jvm.MethodName) prog_21_method_24_code (3 : Nat) (Option.none : Option Jvm.ClassFile.FieldType)) ∈ lw_all := lw_g (lw_at lw_m12 137 rfl) rfl
theorem q2902 : (Jvm.Cond.methodLink "WreckSharesModel" (266 : Nat) ({ cls := "WreckSharesModel", name := "recorded", desc := "(I)I" } : Jvm.MethodName)) ∈ lw_all := lw_g (lw_at lw_m12 138 rfl) rfl
theorem q2903 : (Jvm.Cond.privateMethod ({ cls := "WreckSharesModel", name := "recorded", desc := "(I)I" } : Jvm.MethodName)) ∈ lw_tbl := lw_at lw_m12 139 rfl
theorem q2904 : (Jvm.Cond.instanceMethod ({ cls := "WreckSharesModel", name := "recorded", desc := "(I)I" } : Jvm.MethodName)) ∈ lw_all := lw_g (lw_at lw_m12 140 rfl) rfl
theorem q2905 : (Jvm.Cond.code ({ cls := "WreckSharesModel", name := "recorded", desc := "(I)I" } : Jvm.MethodName) prog_21_method_97_code (2 : Nat) (Option.some Jvm.ClassFile.FieldType.int)) ∈ lw_all := lw_g (lw_at lw_m12 141 rfl) rfl
theorem q2906 : (Jvm.Cond.methodLink "WreckSharesModel" (257 : Nat) ({ cls := "WreckSharesModel", name := "record", desc := "()V" } : Jvm.MethodName)) ∈ lw_all := lw_g (lw_at lw_m12 142 rfl) rfl
theorem q2907 : (Jvm.Cond.privateMethod ({ cls := "WreckSharesModel", name := "record", desc := "()V" } : Jvm.MethodName)) ∈ lw_tbl := lw_at lw_m12 143 rfl
theorem q2908 : (Jvm.Cond.instanceMethod ({ cls := "WreckSharesModel", name := "record", desc := "()V" } : Jvm.MethodName)) ∈ lw_all := lw_g (lw_at lw_m12 144 rfl) rfl
theorem q2909 : (Jvm.Cond.code ({ cls := "WreckSharesModel", name := "record", desc := "()V" } : Jvm.MethodName) prog_21_method_96_code (2 : Nat) (Option.none : Option Jvm.ClassFile.FieldType)) ∈ lw_all := lw_g (lw_at lw_m12 145 rfl) rfl
theorem q2911 : (Jvm.Cond.instanceMethod ({ cls := "WreckSharesModel", name := "off", desc := "(I)I" } : Jvm.MethodName)) ∈ lw_all := lw_g (lw_at lw_m12 147 rfl) rfl
theorem q2912 : (Jvm.Cond.selects "WreckSharesModel" ({ cls := "WreckSharesModel", name := "off", desc := "(I)I" } : Jvm.MethodName) ({ cls := "WreckSharesModel", name := "off", desc := "(I)I" } : Jvm.MethodName)) ∈ lw_all := lw_g (lw_at lw_m12 148 rfl) rfl
theorem q2913 : (Jvm.Cond.code ({ cls := "WreckSharesModel", name := "off", desc := "(I)I" } : Jvm.MethodName) prog_21_method_99_code (2 : Nat) (Option.some Jvm.ClassFile.FieldType.int)) ∈ lw_all := lw_g (lw_at lw_m12 149 rfl) rfl
theorem q2914 : (Jvm.Cond.methodLink "WreckSharesModel" (269 : Nat) ({ cls := "WreckSharesModel", name := "doOff", desc := "(I)I" } : Jvm.MethodName)) ∈ lw_all := lw_g (lw_at lw_m12 150 rfl) rfl
theorem q2915 : (Jvm.Cond.privateMethod ({ cls := "WreckSharesModel", name := "doOff", desc := "(I)I" } : Jvm.MethodName)) ∈ lw_tbl := lw_at lw_m12 151 rfl
theorem q2916 : (Jvm.Cond.instanceMethod ({ cls := "WreckSharesModel", name := "doOff", desc := "(I)I" } : Jvm.MethodName)) ∈ lw_all := lw_g (lw_at lw_m12 152 rfl) rfl
theorem q2917 : (Jvm.Cond.code ({ cls := "WreckSharesModel", name := "doOff", desc := "(I)I" } : Jvm.MethodName) prog_21_method_86_code (3 : Nat) (Option.some Jvm.ClassFile.FieldType.int)) ∈ lw_all := lw_g (lw_at lw_m12 153 rfl) rfl
theorem q2919 : (Jvm.Cond.instanceMethod ({ cls := "WreckSharesModel", name := "offAll", desc := "()I" } : Jvm.MethodName)) ∈ lw_all := lw_g (lw_at lw_m12 155 rfl) rfl
theorem q2920 : (Jvm.Cond.selects "WreckSharesModel" ({ cls := "WreckSharesModel", name := "offAll", desc := "()I" } : Jvm.MethodName) ({ cls := "WreckSharesModel", name := "offAll", desc := "()I" } : Jvm.MethodName)) ∈ lw_all := lw_g (lw_at lw_m12 156 rfl) rfl
theorem q2921 : (Jvm.Cond.code ({ cls := "WreckSharesModel", name := "offAll", desc := "()I" } : Jvm.MethodName) prog_21_method_100_code (1 : Nat) (Option.some Jvm.ClassFile.FieldType.int)) ∈ lw_all := lw_g (lw_at lw_m12 157 rfl) rfl
theorem q2922 : (Jvm.Cond.methodLink "WreckSharesModel" (272 : Nat) ({ cls := "WreckSharesModel", name := "doOffAll", desc := "()I" } : Jvm.MethodName)) ∈ lw_all := lw_g (lw_at lw_m12 158 rfl) rfl
theorem q2923 : (Jvm.Cond.privateMethod ({ cls := "WreckSharesModel", name := "doOffAll", desc := "()I" } : Jvm.MethodName)) ∈ lw_tbl := lw_at lw_m12 159 rfl
theorem q2924 : (Jvm.Cond.instanceMethod ({ cls := "WreckSharesModel", name := "doOffAll", desc := "()I" } : Jvm.MethodName)) ∈ lw_all := lw_g (lw_at lw_m12 160 rfl) rfl
theorem q2925 : (Jvm.Cond.code ({ cls := "WreckSharesModel", name := "doOffAll", desc := "()I" } : Jvm.MethodName) prog_21_method_87_code (3 : Nat) (Option.some Jvm.ClassFile.FieldType.int)) ∈ lw_all := lw_g (lw_at lw_m12 161 rfl) rfl
theorem q2927 : (Jvm.Cond.instanceMethod ({ cls := "WreckSharesModel", name := "pay", desc := "(III)I" } : Jvm.MethodName)) ∈ lw_all := lw_g (lw_at lw_m12 163 rfl) rfl
theorem q2928 : (Jvm.Cond.selects "WreckSharesModel" ({ cls := "WreckSharesModel", name := "pay", desc := "(III)I" } : Jvm.MethodName) ({ cls := "WreckSharesModel", name := "pay", desc := "(III)I" } : Jvm.MethodName)) ∈ lw_all := lw_g (lw_at lw_m12 164 rfl) rfl
theorem q2929 : (Jvm.Cond.code ({ cls := "WreckSharesModel", name := "pay", desc := "(III)I" } : Jvm.MethodName) prog_21_method_101_code (4 : Nat) (Option.some Jvm.ClassFile.FieldType.int)) ∈ lw_all := lw_g (lw_at lw_m12 165 rfl) rfl
theorem q2930 : (Jvm.Cond.methodLink "WreckSharesModel" (275 : Nat) ({ cls := "WreckSharesModel", name := "doPay", desc := "(III)I" } : Jvm.MethodName)) ∈ lw_all := lw_g (lw_at lw_m12 166 rfl) rfl
theorem q2931 : (Jvm.Cond.privateMethod ({ cls := "WreckSharesModel", name := "doPay", desc := "(III)I" } : Jvm.MethodName)) ∈ lw_tbl := lw_at lw_m12 167 rfl
theorem q2932 : (Jvm.Cond.instanceMethod ({ cls := "WreckSharesModel", name := "doPay", desc := "(III)I" } : Jvm.MethodName)) ∈ lw_all := lw_g (lw_at lw_m12 168 rfl) rfl
theorem q2933 : (Jvm.Cond.code ({ cls := "WreckSharesModel", name := "doPay", desc := "(III)I" } : Jvm.MethodName) prog_21_method_88_code (4 : Nat) (Option.some Jvm.ClassFile.FieldType.int)) ∈ lw_all := lw_g (lw_at lw_m12 169 rfl) rfl
theorem q2935 : (Jvm.Cond.instanceMethod ({ cls := "WreckSharesModel", name := "haul", desc := "(I)I" } : Jvm.MethodName)) ∈ lw_all := lw_g (lw_at lw_m12 171 rfl) rfl
theorem q2936 : (Jvm.Cond.selects "WreckSharesModel" ({ cls := "WreckSharesModel", name := "haul", desc := "(I)I" } : Jvm.MethodName) ({ cls := "WreckSharesModel", name := "haul", desc := "(I)I" } : Jvm.MethodName)) ∈ lw_all := lw_g (lw_at lw_m12 172 rfl) rfl
theorem q2937 : (Jvm.Cond.code ({ cls := "WreckSharesModel", name := "haul", desc := "(I)I" } : Jvm.MethodName) prog_21_method_102_code (2 : Nat) (Option.some Jvm.ClassFile.FieldType.int)) ∈ lw_all := lw_g (lw_at lw_m12 173 rfl) rfl
theorem q2938 : (Jvm.Cond.methodLink "WreckSharesModel" (279 : Nat) ({ cls := "WreckSharesModel", name := "doHaul", desc := "(I)I" } : Jvm.MethodName)) ∈ lw_all := lw_g (lw_at lw_m12 174 rfl) rfl
theorem q2939 : (Jvm.Cond.privateMethod ({ cls := "WreckSharesModel", name := "doHaul", desc := "(I)I" } : Jvm.MethodName)) ∈ lw_tbl := lw_at lw_m12 175 rfl
theorem q2940 : (Jvm.Cond.instanceMethod ({ cls := "WreckSharesModel", name := "doHaul", desc := "(I)I" } : Jvm.MethodName)) ∈ lw_all := lw_g (lw_at lw_m12 176 rfl) rfl
theorem q2941 : (Jvm.Cond.code ({ cls := "WreckSharesModel", name := "doHaul", desc := "(I)I" } : Jvm.MethodName) prog_21_method_89_code (3 : Nat) (Option.some Jvm.ClassFile.FieldType.int)) ∈ lw_all := lw_g (lw_at lw_m12 177 rfl) rfl
theorem q2942 : (Jvm.Cond.methodLink "WreckSharesModel" (159 : Nat) ({ cls := "WreckSharesModel", name := "letGo", desc := "(I)V" } : Jvm.MethodName)) ∈ lw_all := lw_g (lw_at lw_m12 178 rfl) rfl
theorem q2943 : (Jvm.Cond.privateMethod ({ cls := "WreckSharesModel", name := "letGo", desc := "(I)V" } : Jvm.MethodName)) ∈ lw_tbl := lw_at lw_m12 179 rfl
theorem q2944 : (Jvm.Cond.instanceMethod ({ cls := "WreckSharesModel", name := "letGo", desc := "(I)V" } : Jvm.MethodName)) ∈ lw_all := lw_g (lw_at lw_m12 180 rfl) rfl
theorem q2945 : (Jvm.Cond.code ({ cls := "WreckSharesModel", name := "letGo", desc := "(I)V" } : Jvm.MethodName) prog_21_method_26_code (3 : Nat) (Option.none : Option Jvm.ClassFile.FieldType)) ∈ lw_all := lw_g (lw_at lw_m12 181 rfl) rfl
theorem q2946 : (Jvm.Cond.methodLink "WreckSharesModel" (163 : Nat) ({ cls := "WreckSharesModel", name := "tally", desc := "(II)V" } : Jvm.MethodName)) ∈ lw_all := lw_g (lw_at lw_m12 182 rfl) rfl
theorem q2947 : (Jvm.Cond.privateMethod ({ cls := "WreckSharesModel", name := "tally", desc := "(II)V" } : Jvm.MethodName)) ∈ lw_tbl := lw_at lw_m12 183 rfl
theorem q2948 : (Jvm.Cond.instanceMethod ({ cls := "WreckSharesModel", name := "tally", desc := "(II)V" } : Jvm.MethodName)) ∈ lw_all := lw_g (lw_at lw_m12 184 rfl) rfl
theorem q2949 : (Jvm.Cond.code ({ cls := "WreckSharesModel", name := "tally", desc := "(II)V" } : Jvm.MethodName) prog_21_method_7_code (3 : Nat) (Option.none : Option Jvm.ClassFile.FieldType)) ∈ lw_all := lw_g (lw_at lw_m12 185 rfl) rfl
theorem q2951 : (Jvm.Cond.instanceMethod ({ cls := "WreckSharesModel", name := "claim", desc := "(I)I" } : Jvm.MethodName)) ∈ lw_all := lw_g (lw_at lw_m12 187 rfl) rfl
theorem q2952 : (Jvm.Cond.selects "WreckSharesModel" ({ cls := "WreckSharesModel", name := "claim", desc := "(I)I" } : Jvm.MethodName) ({ cls := "WreckSharesModel", name := "claim", desc := "(I)I" } : Jvm.MethodName)) ∈ lw_all := lw_g (lw_at lw_m12 188 rfl) rfl
theorem q2953 : (Jvm.Cond.code ({ cls := "WreckSharesModel", name := "claim", desc := "(I)I" } : Jvm.MethodName) prog_21_method_103_code (2 : Nat) (Option.some Jvm.ClassFile.FieldType.int)) ∈ lw_all := lw_g (lw_at lw_m12 189 rfl) rfl
theorem q2954 : (Jvm.Cond.methodLink "WreckSharesModel" (282 : Nat) ({ cls := "WreckSharesModel", name := "doClaim", desc := "(I)I" } : Jvm.MethodName)) ∈ lw_all := lw_g (lw_at lw_m12 190 rfl) rfl
theorem q2955 : (Jvm.Cond.privateMethod ({ cls := "WreckSharesModel", name := "doClaim", desc := "(I)I" } : Jvm.MethodName)) ∈ lw_tbl := lw_at lw_m12 191 rfl
theorem q2956 : (Jvm.Cond.instanceMethod ({ cls := "WreckSharesModel", name := "doClaim", desc := "(I)I" } : Jvm.MethodName)) ∈ lw_all := lw_g (lw_at lw_m12 192 rfl) rfl
theorem q2957 : (Jvm.Cond.code ({ cls := "WreckSharesModel", name := "doClaim", desc := "(I)I" } : Jvm.MethodName) prog_21_method_90_code (5 : Nat) (Option.some Jvm.ClassFile.FieldType.int)) ∈ lw_all := lw_g (lw_at lw_m12 193 rfl) rfl
theorem q2959 : (Jvm.Cond.instanceMethod ({ cls := "WreckSharesModel", name := "divide", desc := "(I)I" } : Jvm.MethodName)) ∈ lw_all := lw_g (lw_at lw_m12 195 rfl) rfl
theorem q2960 : (Jvm.Cond.selects "WreckSharesModel" ({ cls := "WreckSharesModel", name := "divide", desc := "(I)I" } : Jvm.MethodName) ({ cls := "WreckSharesModel", name := "divide", desc := "(I)I" } : Jvm.MethodName)) ∈ lw_all := lw_g (lw_at lw_m12 196 rfl) rfl
theorem q2961 : (Jvm.Cond.code ({ cls := "WreckSharesModel", name := "divide", desc := "(I)I" } : Jvm.MethodName) prog_21_method_104_code (2 : Nat) (Option.some Jvm.ClassFile.FieldType.int)) ∈ lw_all := lw_g (lw_at lw_m12 197 rfl) rfl
theorem q2962 : (Jvm.Cond.methodLink "WreckSharesModel" (285 : Nat) ({ cls := "WreckSharesModel", name := "doDivide", desc := "(I)I" } : Jvm.MethodName)) ∈ lw_all := lw_g (lw_at lw_m12 198 rfl) rfl
theorem q2963 : (Jvm.Cond.privateMethod ({ cls := "WreckSharesModel", name := "doDivide", desc := "(I)I" } : Jvm.MethodName)) ∈ lw_tbl := lw_at lw_m12 199 rfl
theorem q2964 : (Jvm.Cond.instanceMethod ({ cls := "WreckSharesModel", name := "doDivide", desc := "(I)I" } : Jvm.MethodName)) ∈ lw_all := lw_g (lw_at lw_m12 200 rfl) rfl
theorem q2965 : (Jvm.Cond.code ({ cls := "WreckSharesModel", name := "doDivide", desc := "(I)I" } : Jvm.MethodName) prog_21_method_91_code (3 : Nat) (Option.some Jvm.ClassFile.FieldType.int)) ∈ lw_all := lw_g (lw_at lw_m12 201 rfl) rfl
theorem q2966 : (Jvm.Cond.methodLink "WreckSharesModel" (239 : Nat) ({ cls := "WreckSharesModel", name := "divideNow", desc := "(I)V" } : Jvm.MethodName)) ∈ lw_all := lw_g (lw_at lw_m12 202 rfl) rfl
theorem q2967 : (Jvm.Cond.privateMethod ({ cls := "WreckSharesModel", name := "divideNow", desc := "(I)V" } : Jvm.MethodName)) ∈ lw_tbl := lw_at lw_m12 203 rfl
theorem q2968 : (Jvm.Cond.instanceMethod ({ cls := "WreckSharesModel", name := "divideNow", desc := "(I)V" } : Jvm.MethodName)) ∈ lw_all := lw_g (lw_at lw_m12 204 rfl) rfl
theorem q2969 : (Jvm.Cond.code ({ cls := "WreckSharesModel", name := "divideNow", desc := "(I)V" } : Jvm.MethodName) prog_21_method_42_code (4 : Nat) (Option.none : Option Jvm.ClassFile.FieldType)) ∈ lw_all := lw_g (lw_at lw_m12 205 rfl) rfl
theorem q2971 : (Jvm.Cond.instanceMethod ({ cls := "WreckSharesModel", name := "divideAll", desc := "()I" } : Jvm.MethodName)) ∈ lw_all := lw_g (lw_at lw_m12 207 rfl) rfl
theorem q2972 : (Jvm.Cond.selects "WreckSharesModel" ({ cls := "WreckSharesModel", name := "divideAll", desc := "()I" } : Jvm.MethodName) ({ cls := "WreckSharesModel", name := "divideAll", desc := "()I" } : Jvm.MethodName)) ∈ lw_all := lw_g (lw_at lw_m12 208 rfl) rfl
theorem q2973 : (Jvm.Cond.code ({ cls := "WreckSharesModel", name := "divideAll", desc := "()I" } : Jvm.MethodName) prog_21_method_105_code (1 : Nat) (Option.some Jvm.ClassFile.FieldType.int)) ∈ lw_all := lw_g (lw_at lw_m12 209 rfl) rfl
theorem q2974 : (Jvm.Cond.methodLink "WreckSharesModel" (288 : Nat) ({ cls := "WreckSharesModel", name := "doDivideAll", desc := "()I" } : Jvm.MethodName)) ∈ lw_all := lw_g (lw_at lw_m12 210 rfl) rfl
theorem q2975 : (Jvm.Cond.privateMethod ({ cls := "WreckSharesModel", name := "doDivideAll", desc := "()I" } : Jvm.MethodName)) ∈ lw_tbl := lw_at lw_m12 211 rfl
theorem q2976 : (Jvm.Cond.instanceMethod ({ cls := "WreckSharesModel", name := "doDivideAll", desc := "()I" } : Jvm.MethodName)) ∈ lw_all := lw_g (lw_at lw_m12 212 rfl) rfl
theorem q2977 : (Jvm.Cond.code ({ cls := "WreckSharesModel", name := "doDivideAll", desc := "()I" } : Jvm.MethodName) prog_21_method_92_code (3 : Nat) (Option.some Jvm.ClassFile.FieldType.int)) ∈ lw_all := lw_g (lw_at lw_m12 213 rfl) rfl
theorem q2979 : (Jvm.Cond.instanceMethod ({ cls := "WreckSharesModel", name := "ticks", desc := "(I)I" } : Jvm.MethodName)) ∈ lw_all := lw_g (lw_at lw_m12 215 rfl) rfl
theorem q2980 : (Jvm.Cond.selects "WreckSharesModel" ({ cls := "WreckSharesModel", name := "ticks", desc := "(I)I" } : Jvm.MethodName) ({ cls := "WreckSharesModel", name := "ticks", desc := "(I)I" } : Jvm.MethodName)) ∈ lw_all := lw_g (lw_at lw_m12 216 rfl) rfl
theorem q2981 : (Jvm.Cond.code ({ cls := "WreckSharesModel", name := "ticks", desc := "(I)I" } : Jvm.MethodName) prog_21_method_106_code (2 : Nat) (Option.some Jvm.ClassFile.FieldType.int)) ∈ lw_all := lw_g (lw_at lw_m12 217 rfl) rfl
theorem q2982 : (Jvm.Cond.methodLink "WreckSharesModel" (291 : Nat) ({ cls := "WreckSharesModel", name := "doTicks", desc := "(I)I" } : Jvm.MethodName)) ∈ lw_all := lw_g (lw_at lw_m12 218 rfl) rfl
theorem q2983 : (Jvm.Cond.privateMethod ({ cls := "WreckSharesModel", name := "doTicks", desc := "(I)I" } : Jvm.MethodName)) ∈ lw_tbl := lw_at lw_m12 219 rfl
theorem q2984 : (Jvm.Cond.instanceMethod ({ cls := "WreckSharesModel", name := "doTicks", desc := "(I)I" } : Jvm.MethodName)) ∈ lw_all := lw_g (lw_at lw_m12 220 rfl) rfl
theorem q2985 : (Jvm.Cond.code ({ cls := "WreckSharesModel", name := "doTicks", desc := "(I)I" } : Jvm.MethodName) prog_21_method_93_code (4 : Nat) (Option.some Jvm.ClassFile.FieldType.int)) ∈ lw_all := lw_g (lw_at lw_m12 221 rfl) rfl
theorem q2986 : (Jvm.Cond.methodLink "WreckSharesModel" (242 : Nat) ({ cls := "WreckSharesModel", name := "tick", desc := "()V" } : Jvm.MethodName)) ∈ lw_all := lw_g (lw_at lw_m12 222 rfl) rfl
theorem q2987 : (Jvm.Cond.privateMethod ({ cls := "WreckSharesModel", name := "tick", desc := "()V" } : Jvm.MethodName)) ∈ lw_tbl := lw_at lw_m12 223 rfl
theorem q2988 : (Jvm.Cond.instanceMethod ({ cls := "WreckSharesModel", name := "tick", desc := "()V" } : Jvm.MethodName)) ∈ lw_all := lw_g (lw_at lw_m12 224 rfl) rfl
theorem q2989 : (Jvm.Cond.code ({ cls := "WreckSharesModel", name := "tick", desc := "()V" } : Jvm.MethodName) prog_21_method_39_code (2 : Nat) (Option.none : Option Jvm.ClassFile.FieldType)) ∈ lw_all := lw_g (lw_at lw_m12 225 rfl) rfl
theorem q2990 : (Jvm.Cond.methodLink "WreckSharesModel" (170 : Nat) ({ cls := "WreckSharesModel", name := "wash", desc := "(I)V" } : Jvm.MethodName)) ∈ lw_all := lw_g (lw_at lw_m12 226 rfl) rfl
theorem q2991 : (Jvm.Cond.privateMethod ({ cls := "WreckSharesModel", name := "wash", desc := "(I)V" } : Jvm.MethodName)) ∈ lw_tbl := lw_at lw_m12 227 rfl
theorem q2992 : (Jvm.Cond.instanceMethod ({ cls := "WreckSharesModel", name := "wash", desc := "(I)V" } : Jvm.MethodName)) ∈ lw_all := lw_g (lw_at lw_m12 228 rfl) rfl
theorem q2993 : (Jvm.Cond.code ({ cls := "WreckSharesModel", name := "wash", desc := "(I)V" } : Jvm.MethodName) prog_21_method_38_code (2 : Nat) (Option.none : Option Jvm.ClassFile.FieldType)) ∈ lw_all := lw_g (lw_at lw_m12 229 rfl) rfl
theorem q2994 : (Jvm.Cond.methodLink "WreckSharesModel" (167 : Nat) ({ cls := "WreckSharesModel", name := "lose", desc := "(I)V" } : Jvm.MethodName)) ∈ lw_all := lw_g (lw_at lw_m12 230 rfl) rfl
theorem q2995 : (Jvm.Cond.privateMethod ({ cls := "WreckSharesModel", name := "lose", desc := "(I)V" } : Jvm.MethodName)) ∈ lw_tbl := lw_at lw_m12 231 rfl
theorem q2996 : (Jvm.Cond.instanceMethod ({ cls := "WreckSharesModel", name := "lose", desc := "(I)V" } : Jvm.MethodName)) ∈ lw_all := lw_g (lw_at lw_m12 232 rfl) rfl
theorem q2997 : (Jvm.Cond.code ({ cls := "WreckSharesModel", name := "lose", desc := "(I)V" } : Jvm.MethodName) prog_21_method_37_code (2 : Nat) (Option.none : Option Jvm.ClassFile.FieldType)) ∈ lw_all := lw_g (lw_at lw_m12 233 rfl) rfl
theorem q2999 : (Jvm.Cond.instanceMethod ({ cls := "WreckSharesModel", name := "format", desc := "(I)I" } : Jvm.MethodName)) ∈ lw_all := lw_g (lw_at lw_m12 235 rfl) rfl
theorem q3000 : (Jvm.Cond.selects "WreckSharesModel" ({ cls := "WreckSharesModel", name := "format", desc := "(I)I" } : Jvm.MethodName) ({ cls := "WreckSharesModel", name := "format", desc := "(I)I" } : Jvm.MethodName)) ∈ lw_all := lw_g (lw_at lw_m12 236 rfl) rfl
theorem q3001 : (Jvm.Cond.code ({ cls := "WreckSharesModel", name := "format", desc := "(I)I" } : Jvm.MethodName) prog_21_method_109_code (3 : Nat) (Option.some Jvm.ClassFile.FieldType.int)) ∈ lw_all := lw_g (lw_at lw_m12 237 rfl) rfl
theorem q3002 : (Jvm.Cond.methodLink "WreckSharesModel" (297 : Nat) ({ cls := "WreckSharesModel", name := "write", desc := "(I)V" } : Jvm.MethodName)) ∈ lw_all := lw_g (lw_at lw_m12 238 rfl) rfl
theorem q3003 : (Jvm.Cond.privateMethod ({ cls := "WreckSharesModel", name := "write", desc := "(I)V" } : Jvm.MethodName)) ∈ lw_tbl := lw_at lw_m12 239 rfl
theorem q3004 : (Jvm.Cond.instanceMethod ({ cls := "WreckSharesModel", name := "write", desc := "(I)V" } : Jvm.MethodName)) ∈ lw_all := lw_g (lw_at lw_m13 0 rfl) rfl
theorem q3005 : (Jvm.Cond.code ({ cls := "WreckSharesModel", name := "write", desc := "(I)V" } : Jvm.MethodName) prog_21_method_107_code (2 : Nat) (Option.none : Option Jvm.ClassFile.FieldType)) ∈ lw_all := lw_g (lw_at lw_m13 1 rfl) rfl
theorem q3006 : (Jvm.Cond.methodLink "WreckSharesModel" (300 : Nat) ({ cls := "WreckSharesModel", name := "writeNumber", desc := "(I)V" } : Jvm.MethodName)) ∈ lw_all := lw_g (lw_at lw_m13 2 rfl) rfl
theorem q3007 : (Jvm.Cond.privateMethod ({ cls := "WreckSharesModel", name := "writeNumber", desc := "(I)V" } : Jvm.MethodName)) ∈ lw_tbl := lw_at lw_m13 3 rfl
theorem q3008 : (Jvm.Cond.instanceMethod ({ cls := "WreckSharesModel", name := "writeNumber", desc := "(I)V" } : Jvm.MethodName)) ∈ lw_all := lw_g (lw_at lw_m13 4 rfl) rfl
theorem q3009 : (Jvm.Cond.code ({ cls := "WreckSharesModel", name := "writeNumber", desc := "(I)V" } : Jvm.MethodName) prog_21_method_108_code (4 : Nat) (Option.none : Option Jvm.ClassFile.FieldType)) ∈ lw_all := lw_g (lw_at lw_m13 5 rfl) rfl
theorem q3011 : (Jvm.Cond.instanceMethod ({ cls := "WreckSharesModel", name := "formattedByte", desc := "(I)I" } : Jvm.MethodName)) ∈ lw_all := lw_g (lw_at lw_m13 7 rfl) rfl
theorem q3012 : (Jvm.Cond.selects "WreckSharesModel" ({ cls := "WreckSharesModel", name := "formattedByte", desc := "(I)I" } : Jvm.MethodName) ({ cls := "WreckSharesModel", name := "formattedByte", desc := "(I)I" } : Jvm.MethodName)) ∈ lw_all := lw_g (lw_at lw_m13 8 rfl) rfl
theorem q3013 : (Jvm.Cond.code ({ cls := "WreckSharesModel", name := "formattedByte", desc := "(I)I" } : Jvm.MethodName) prog_21_method_110_code (2 : Nat) (Option.some Jvm.ClassFile.FieldType.int)) ∈ lw_all := lw_g (lw_at lw_m13 9 rfl) rfl
theorem q3015 : (Jvm.Cond.instanceMethod ({ cls := "WreckSharesModel", name := "undoCount", desc := "()I" } : Jvm.MethodName)) ∈ lw_all := lw_g (lw_at lw_m13 11 rfl) rfl
theorem q3016 : (Jvm.Cond.selects "WreckSharesModel" ({ cls := "WreckSharesModel", name := "undoCount", desc := "()I" } : Jvm.MethodName) ({ cls := "WreckSharesModel", name := "undoCount", desc := "()I" } : Jvm.MethodName)) ∈ lw_all := lw_g (lw_at lw_m13 12 rfl) rfl
theorem q3017 : (Jvm.Cond.code ({ cls := "WreckSharesModel", name := "undoCount", desc := "()I" } : Jvm.MethodName) prog_21_method_111_code (1 : Nat) (Option.some Jvm.ClassFile.FieldType.int)) ∈ lw_all := lw_g (lw_at lw_m13 13 rfl) rfl
theorem q3019 : (Jvm.Cond.instanceMethod ({ cls := "WreckSharesModel", name := "undo", desc := "()I" } : Jvm.MethodName)) ∈ lw_all := lw_g (lw_at lw_m13 15 rfl) rfl
theorem q3020 : (Jvm.Cond.selects "WreckSharesModel" ({ cls := "WreckSharesModel", name := "undo", desc := "()I" } : Jvm.MethodName) ({ cls := "WreckSharesModel", name := "undo", desc := "()I" } : Jvm.MethodName)) ∈ lw_all := lw_g (lw_at lw_m13 16 rfl) rfl
theorem q3021 : (Jvm.Cond.code ({ cls := "WreckSharesModel", name := "undo", desc := "()I" } : Jvm.MethodName) prog_21_method_112_code (1 : Nat) (Option.some Jvm.ClassFile.FieldType.int)) ∈ lw_all := lw_g (lw_at lw_m13 17 rfl) rfl
theorem q3023 : (Jvm.Cond.instanceMethod ({ cls := "WreckSharesModel", name := "saveSnapshot", desc := "()V" } : Jvm.MethodName)) ∈ lw_all := lw_g (lw_at lw_m13 19 rfl) rfl
theorem q3024 : (Jvm.Cond.selects "WreckSharesModel" ({ cls := "WreckSharesModel", name := "saveSnapshot", desc := "()V" } : Jvm.MethodName) ({ cls := "WreckSharesModel", name := "saveSnapshot", desc := "()V" } : Jvm.MethodName)) ∈ lw_all := lw_g (lw_at lw_m13 20 rfl) rfl
theorem q3025 : (Jvm.Cond.code ({ cls := "WreckSharesModel", name := "saveSnapshot", desc := "()V" } : Jvm.MethodName) prog_21_method_113_code (1 : Nat) (Option.none : Option Jvm.ClassFile.FieldType)) ∈ lw_all := lw_g (lw_at lw_m13 21 rfl) rfl
theorem q3027 : (Jvm.Cond.instanceMethod ({ cls := "WreckSharesModel", name := "restoreSnapshot", desc := "()Z" } : Jvm.MethodName)) ∈ lw_all := lw_g (lw_at lw_m13 23 rfl) rfl
theorem q3028 : (Jvm.Cond.selects "WreckSharesModel" ({ cls := "WreckSharesModel", name := "restoreSnapshot", desc := "()Z" } : Jvm.MethodName) ({ cls := "WreckSharesModel", name := "restoreSnapshot", desc := "()Z" } : Jvm.MethodName)) ∈ lw_all := lw_g (lw_at lw_m13 24 rfl) rfl
theorem q3029 : (Jvm.Cond.code ({ cls := "WreckSharesModel", name := "restoreSnapshot", desc := "()Z" } : Jvm.MethodName) prog_21_method_114_code (1 : Nat) (Option.some Jvm.ClassFile.FieldType.boolean)) ∈ lw_all := lw_g (lw_at lw_m13 25 rfl) rfl
theorem q3031 : (Jvm.Cond.instanceMethod ({ cls := "WreckSharesModel", name := "feed", desc := "(IIIII)I" } : Jvm.MethodName)) ∈ lw_all := lw_g (lw_at lw_m13 27 rfl) rfl
theorem q3032 : (Jvm.Cond.selects "WreckSharesModel" ({ cls := "WreckSharesModel", name := "feed", desc := "(IIIII)I" } : Jvm.MethodName) ({ cls := "WreckSharesModel", name := "feed", desc := "(IIIII)I" } : Jvm.MethodName)) ∈ lw_all := lw_g (lw_at lw_m13 28 rfl) rfl
theorem q3033 : (Jvm.Cond.code ({ cls := "WreckSharesModel", name := "feed", desc := "(IIIII)I" } : Jvm.MethodName) prog_21_method_115_code (8 : Nat) (Option.some Jvm.ClassFile.FieldType.int)) ∈ lw_all := lw_g (lw_at lw_m13 29 rfl) rfl
theorem q3035 : (Jvm.Cond.instanceMethod ({ cls := "WreckSharesModel", name := "errorPosition", desc := "()I" } : Jvm.MethodName)) ∈ lw_all := lw_g (lw_at lw_m13 31 rfl) rfl
theorem q3036 : (Jvm.Cond.selects "WreckSharesModel" ({ cls := "WreckSharesModel", name := "errorPosition", desc := "()I" } : Jvm.MethodName) ({ cls := "WreckSharesModel", name := "errorPosition", desc := "()I" } : Jvm.MethodName)) ∈ lw_all := lw_g (lw_at lw_m13 32 rfl) rfl
theorem q3037 : (Jvm.Cond.code ({ cls := "WreckSharesModel", name := "errorPosition", desc := "()I" } : Jvm.MethodName) prog_21_method_116_code (1 : Nat) (Option.some Jvm.ClassFile.FieldType.int)) ∈ lw_all := lw_g (lw_at lw_m13 33 rfl) rfl
theorem q3039 : (Jvm.Cond.instanceMethod ({ cls := "WreckSharesModel", name := "load", desc := "(I)I" } : Jvm.MethodName)) ∈ lw_all := lw_g (lw_at lw_m13 35 rfl) rfl
theorem q3040 : (Jvm.Cond.selects "WreckSharesModel" ({ cls := "WreckSharesModel", name := "load", desc := "(I)I" } : Jvm.MethodName) ({ cls := "WreckSharesModel", name := "load", desc := "(I)I" } : Jvm.MethodName)) ∈ lw_all := lw_g (lw_at lw_m13 36 rfl) rfl
theorem q3041 : (Jvm.Cond.code ({ cls := "WreckSharesModel", name := "load", desc := "(I)I" } : Jvm.MethodName) prog_21_method_135_code (2 : Nat) (Option.some Jvm.ClassFile.FieldType.int)) ∈ lw_all := lw_g (lw_at lw_m13 37 rfl) rfl
theorem q3042 : (Jvm.Cond.methodLink "WreckSharesModel" (390 : Nat) ({ cls := "WreckSharesModel", name := "startText", desc := "(I)V" } : Jvm.MethodName)) ∈ lw_all := lw_g (lw_at lw_m13 38 rfl) rfl
theorem q3043 : (Jvm.Cond.privateMethod ({ cls := "WreckSharesModel", name := "startText", desc := "(I)V" } : Jvm.MethodName)) ∈ lw_tbl := lw_at lw_m13 39 rfl
theorem q3044 : (Jvm.Cond.instanceMethod ({ cls := "WreckSharesModel", name := "startText", desc := "(I)V" } : Jvm.MethodName)) ∈ lw_all := lw_g (lw_at lw_m13 40 rfl) rfl
theorem q3045 : (Jvm.Cond.code ({ cls := "WreckSharesModel", name := "startText", desc := "(I)V" } : Jvm.MethodName) prog_21_method_121_code (2 : Nat) (Option.none : Option Jvm.ClassFile.FieldType)) ∈ lw_all := lw_g (lw_at lw_m13 41 rfl) rfl
theorem q3046 : (Jvm.Cond.methodLink "WreckSharesModel" (337 : Nat) ({ cls := "WreckSharesModel", name := "scan", desc := "()V" } : Jvm.MethodName)) ∈ lw_all := lw_g (lw_at lw_m13 42 rfl) rfl
theorem q3047 : (Jvm.Cond.privateMethod ({ cls := "WreckSharesModel", name := "scan", desc := "()V" } : Jvm.MethodName)) ∈ lw_tbl := lw_at lw_m13 43 rfl
theorem q3048 : (Jvm.Cond.instanceMethod ({ cls := "WreckSharesModel", name := "scan", desc := "()V" } : Jvm.MethodName)) ∈ lw_all := lw_g (lw_at lw_m13 44 rfl) rfl
theorem q3049 : (Jvm.Cond.code ({ cls := "WreckSharesModel", name := "scan", desc := "()V" } : Jvm.MethodName) prog_21_method_120_code (1 : Nat) (Option.none : Option Jvm.ClassFile.FieldType)) ∈ lw_all := lw_g (lw_at lw_m13 45 rfl) rfl
theorem q3050 : (Jvm.Cond.methodLink "WreckSharesModel" (313 : Nat) ({ cls := "WreckSharesModel", name := "byteAt", desc := "(I)I" } : Jvm.MethodName)) ∈ lw_all := lw_g (lw_at lw_m13 46 rfl) rfl
theorem q3051 : (Jvm.Cond.privateMethod ({ cls := "WreckSharesModel", name := "byteAt", desc := "(I)I" } : Jvm.MethodName)) ∈ lw_tbl := lw_at lw_m13 47 rfl
theorem q3052 : (Jvm.Cond.instanceMethod ({ cls := "WreckSharesModel", name := "byteAt", desc := "(I)I" } : Jvm.MethodName)) ∈ lw_all := lw_g (lw_at lw_m13 48 rfl) rfl
theorem q3053 : (Jvm.Cond.code ({ cls := "WreckSharesModel", name := "byteAt", desc := "(I)I" } : Jvm.MethodName) prog_21_method_117_code (2 : Nat) (Option.some Jvm.ClassFile.FieldType.int)) ∈ lw_all := lw_g (lw_at lw_m13 49 rfl) rfl
theorem q3054 : (Jvm.Cond.methodLink "WreckSharesModel" (325 : Nat) ({ cls := "WreckSharesModel", name := "isLetter", desc := "(I)Z" } : Jvm.MethodName)) ∈ lw_all := lw_g (lw_at lw_m13 50 rfl) rfl
theorem q3055 : (Jvm.Cond.privateMethod ({ cls := "WreckSharesModel", name := "isLetter", desc := "(I)Z" } : Jvm.MethodName)) ∈ lw_tbl := lw_at lw_m13 51 rfl
theorem q3056 : (Jvm.Cond.instanceMethod ({ cls := "WreckSharesModel", name := "isLetter", desc := "(I)Z" } : Jvm.MethodName)) ∈ lw_all := lw_g (lw_at lw_m13 52 rfl) rfl
theorem q3057 : (Jvm.Cond.code ({ cls := "WreckSharesModel", name := "isLetter", desc := "(I)Z" } : Jvm.MethodName) prog_21_method_118_code (2 : Nat) (Option.some Jvm.ClassFile.FieldType.boolean)) ∈ lw_all := lw_g (lw_at lw_m13 53 rfl) rfl
theorem q3058 : (Jvm.Cond.methodLink "WreckSharesModel" (328 : Nat) ({ cls := "WreckSharesModel", name := "isDigit", desc := "(I)Z" } : Jvm.MethodName)) ∈ lw_all := lw_g (lw_at lw_m13 54 rfl) rfl
theorem q3059 : (Jvm.Cond.privateMethod ({ cls := "WreckSharesModel", name := "isDigit", desc := "(I)Z" } : Jvm.MethodName)) ∈ lw_tbl := lw_at lw_m13 55 rfl
theorem q3060 : (Jvm.Cond.instanceMethod ({ cls := "WreckSharesModel", name := "isDigit", desc := "(I)Z" } : Jvm.MethodName)) ∈ lw_all := lw_g (lw_at lw_m13 56 rfl) rfl
theorem q3061 : (Jvm.Cond.code ({ cls := "WreckSharesModel", name := "isDigit", desc := "(I)Z" } : Jvm.MethodName) prog_21_method_119_code (2 : Nat) (Option.some Jvm.ClassFile.FieldType.boolean)) ∈ lw_all := lw_g (lw_at lw_m13 57 rfl) rfl
theorem q3062 : (Jvm.Cond.methodLink "WreckSharesModel" (393 : Nat) ({ cls := "WreckSharesModel", name := "readText", desc := "()V" } : Jvm.MethodName)) ∈ lw_all := lw_g (lw_at lw_m13 58 rfl) rfl
theorem q3063 : (Jvm.Cond.privateMethod ({ cls := "WreckSharesModel", name := "readText", desc := "()V" } : Jvm.MethodName)) ∈ lw_tbl := lw_at lw_m13 59 rfl
theorem q3064 : (Jvm.Cond.instanceMethod ({ cls := "WreckSharesModel", name := "readText", desc := "()V" } : Jvm.MethodName)) ∈ lw_all := lw_g (lw_at lw_m13 60 rfl) rfl
theorem q3065 : (Jvm.Cond.code ({ cls := "WreckSharesModel", name := "readText", desc := "()V" } : Jvm.MethodName) prog_21_method_134_code (5 : Nat) (Option.none : Option Jvm.ClassFile.FieldType)) ∈ lw_all := lw_g (lw_at lw_m13 61 rfl) rfl
theorem q3066 : (Jvm.Cond.stringRef "WreckSharesModel" (385 : Nat) "wreck") ∈ lw_tbl := lw_at lw_m13 62 rfl
theorem q3067 : (Jvm.Cond.methodLink "WreckSharesModel" (350 : Nat) ({ cls := "WreckSharesModel", name := "isWord", desc := "(Ljava/lang/String;)Z" } : Jvm.MethodName)) ∈ lw_all := lw_g (lw_at lw_m13 63 rfl) rfl
theorem q3068 : (Jvm.Cond.privateMethod ({ cls := "WreckSharesModel", name := "isWord", desc := "(Ljava/lang/String;)Z" } : Jvm.MethodName)) ∈ lw_tbl := lw_at lw_m13 64 rfl
theorem q3069 : (Jvm.Cond.instanceMethod ({ cls := "WreckSharesModel", name := "isWord", desc := "(Ljava/lang/String;)Z" } : Jvm.MethodName)) ∈ lw_all := lw_g (lw_at lw_m13 65 rfl) rfl
theorem q3070 : (Jvm.Cond.code ({ cls := "WreckSharesModel", name := "isWord", desc := "(Ljava/lang/String;)Z" } : Jvm.MethodName) prog_21_method_126_code (4 : Nat) (Option.some Jvm.ClassFile.FieldType.boolean)) ∈ lw_all := lw_g (lw_at lw_m13 66 rfl) rfl
theorem q3071 : (Jvm.Cond.methodLink "WreckSharesModel" (343 : Nat) ({ cls := "java/lang/String", name := "length", desc := "()I" } : Jvm.MethodName)) ∈ lw_all := lw_g (lw_at lw_m13 67 rfl) rfl
theorem q3072 : (Jvm.Cond.methodLink "WreckSharesModel" (346 : Nat) ({ cls := "java/lang/String", name := "charAt", desc := "(I)C" } : Jvm.MethodName)) ∈ lw_all := lw_g (lw_at lw_m13 68 rfl) rfl
theorem q3073 : (Jvm.Cond.methodLink "WreckSharesModel" (357 : Nat) ({ cls := "WreckSharesModel", name := "check", desc := "(ZI)V" } : Jvm.MethodName)) ∈ lw_all := lw_g (lw_at lw_m13 69 rfl) rfl
theorem q3074 : (Jvm.Cond.privateMethod ({ cls := "WreckSharesModel", name := "check", desc := "(ZI)V" } : Jvm.MethodName)) ∈ lw_tbl := lw_at lw_m13 70 rfl
theorem q3075 : (Jvm.Cond.instanceMethod ({ cls := "WreckSharesModel", name := "check", desc := "(ZI)V" } : Jvm.MethodName)) ∈ lw_all := lw_g (lw_at lw_m13 71 rfl) rfl
theorem q3076 : (Jvm.Cond.code ({ cls := "WreckSharesModel", name := "check", desc := "(ZI)V" } : Jvm.MethodName) prog_21_method_123_code (3 : Nat) (Option.none : Option Jvm.ClassFile.FieldType)) ∈ lw_all := lw_g (lw_at lw_m13 72 rfl) rfl
theorem q3077 : (Jvm.Cond.methodLink "WreckSharesModel" (361 : Nat) ({ cls := "WreckSharesModel", name := "advance", desc := "()V" } : Jvm.MethodName)) ∈ lw_all := lw_g (lw_at lw_m13 73 rfl) rfl
theorem q3078 : (Jvm.Cond.privateMethod ({ cls := "WreckSharesModel", name := "advance", desc := "()V" } : Jvm.MethodName)) ∈ lw_tbl := lw_at lw_m13 74 rfl
theorem q3079 : (Jvm.Cond.instanceMethod ({ cls := "WreckSharesModel", name := "advance", desc := "()V" } : Jvm.MethodName)) ∈ lw_all := lw_g (lw_at lw_m13 75 rfl) rfl
theorem q3080 : (Jvm.Cond.code ({ cls := "WreckSharesModel", name := "advance", desc := "()V" } : Jvm.MethodName) prog_21_method_124_code (1 : Nat) (Option.none : Option Jvm.ClassFile.FieldType)) ∈ lw_all := lw_g (lw_at lw_m13 76 rfl) rfl
theorem q3081 : (Jvm.Cond.methodLink "WreckSharesModel" (368 : Nat) ({ cls := "WreckSharesModel", name := "look", desc := "(II)I" } : Jvm.MethodName)) ∈ lw_all := lw_g (lw_at lw_m13 77 rfl) rfl
theorem q3082 : (Jvm.Cond.privateMethod ({ cls := "WreckSharesModel", name := "look", desc := "(II)I" } : Jvm.MethodName)) ∈ lw_tbl := lw_at lw_m13 78 rfl
theorem q3083 : (Jvm.Cond.instanceMethod ({ cls := "WreckSharesModel", name := "look", desc := "(II)I" } : Jvm.MethodName)) ∈ lw_all := lw_g (lw_at lw_m13 79 rfl) rfl
theorem q3084 : (Jvm.Cond.code ({ cls := "WreckSharesModel", name := "look", desc := "(II)I" } : Jvm.MethodName) prog_21_method_130_code (4 : Nat) (Option.some Jvm.ClassFile.FieldType.int)) ∈ lw_all := lw_g (lw_at lw_m13 80 rfl) rfl
theorem q3085 : (Jvm.Cond.methodLink "WreckSharesModel" (365 : Nat) ({ cls := "WreckSharesModel", name := "value", desc := "()I" } : Jvm.MethodName)) ∈ lw_all := lw_g (lw_at lw_m13 81 rfl) rfl
theorem q3086 : (Jvm.Cond.privateMethod ({ cls := "WreckSharesModel", name := "value", desc := "()I" } : Jvm.MethodName)) ∈ lw_tbl := lw_at lw_m13 82 rfl
theorem q3087 : (Jvm.Cond.instanceMethod ({ cls := "WreckSharesModel", name := "value", desc := "()I" } : Jvm.MethodName)) ∈ lw_all := lw_g (lw_at lw_m13 83 rfl) rfl
theorem q3088 : (Jvm.Cond.code ({ cls := "WreckSharesModel", name := "value", desc := "()I" } : Jvm.MethodName) prog_21_method_129_code (3 : Nat) (Option.some Jvm.ClassFile.FieldType.int)) ∈ lw_all := lw_g (lw_at lw_m13 84 rfl) rfl
theorem q3089 : (Jvm.Cond.constant "WreckSharesModel" (364 : Nat) (9999999 : Int32)) ∈ lw_all := lw_g (lw_at lw_m13 85 rfl) rfl
theorem q3090 : (Jvm.Cond.methodLink "WreckSharesModel" (374 : Nat) ({ cls := "WreckSharesModel", name := "readNumber", desc := "(II)I" } : Jvm.MethodName)) ∈ lw_all := lw_g (lw_at lw_m13 86 rfl) rfl
theorem q3091 : (Jvm.Cond.privateMethod ({ cls := "WreckSharesModel", name := "readNumber", desc := "(II)I" } : Jvm.MethodName)) ∈ lw_tbl := lw_at lw_m13 87 rfl
theorem q3092 : (Jvm.Cond.instanceMethod ({ cls := "WreckSharesModel", name := "readNumber", desc := "(II)I" } : Jvm.MethodName)) ∈ lw_all := lw_g (lw_at lw_m13 88 rfl) rfl
theorem q3093 : (Jvm.Cond.code ({ cls := "WreckSharesModel", name := "readNumber", desc := "(II)I" } : Jvm.MethodName) prog_21_method_131_code (4 : Nat) (Option.some Jvm.ClassFile.FieldType.int)) ∈ lw_all := lw_g (lw_at lw_m13 89 rfl) rfl
theorem q3094 : (Jvm.Cond.methodLink "WreckSharesModel" (382 : Nat) ({ cls := "WreckSharesModel", name := "expect", desc := "(I)V" } : Jvm.MethodName)) ∈ lw_all := lw_g (lw_at lw_m13 90 rfl) rfl
theorem q3095 : (Jvm.Cond.privateMethod ({ cls := "WreckSharesModel", name := "expect", desc := "(I)V" } : Jvm.MethodName)) ∈ lw_tbl := lw_at lw_m13 91 rfl
theorem q3096 : (Jvm.Cond.instanceMethod ({ cls := "WreckSharesModel", name := "expect", desc := "(I)V" } : Jvm.MethodName)) ∈ lw_all := lw_g (lw_at lw_m13 92 rfl) rfl
theorem q3097 : (Jvm.Cond.code ({ cls := "WreckSharesModel", name := "expect", desc := "(I)V" } : Jvm.MethodName) prog_21_method_128_code (2 : Nat) (Option.none : Option Jvm.ClassFile.FieldType)) ∈ lw_all := lw_g (lw_at lw_m13 93 rfl) rfl
theorem q3098 : (Jvm.Cond.methodLink "WreckSharesModel" (354 : Nat) ({ cls := "WreckSharesModel", name := "isSymbol", desc := "(I)Z" } : Jvm.MethodName)) ∈ lw_all := lw_g (lw_at lw_m13 94 rfl) rfl
theorem q3099 : (Jvm.Cond.privateMethod ({ cls := "WreckSharesModel", name := "isSymbol", desc := "(I)Z" } : Jvm.MethodName)) ∈ lw_tbl := lw_at lw_m13 95 rfl
theorem q3100 : (Jvm.Cond.instanceMethod ({ cls := "WreckSharesModel", name := "isSymbol", desc := "(I)Z" } : Jvm.MethodName)) ∈ lw_all := lw_g (lw_at lw_m13 96 rfl) rfl
theorem q3101 : (Jvm.Cond.code ({ cls := "WreckSharesModel", name := "isSymbol", desc := "(I)Z" } : Jvm.MethodName) prog_21_method_125_code (2 : Nat) (Option.some Jvm.ClassFile.FieldType.boolean)) ∈ lw_all := lw_g (lw_at lw_m13 97 rfl) rfl
theorem q3102 : (Jvm.Cond.methodLink "WreckSharesModel" (387 : Nat) ({ cls := "WreckSharesModel", name := "readGood", desc := "()V" } : Jvm.MethodName)) ∈ lw_all := lw_g (lw_at lw_m13 98 rfl) rfl
theorem q3103 : (Jvm.Cond.privateMethod ({ cls := "WreckSharesModel", name := "readGood", desc := "()V" } : Jvm.MethodName)) ∈ lw_tbl := lw_at lw_m13 99 rfl
theorem q3104 : (Jvm.Cond.instanceMethod ({ cls := "WreckSharesModel", name := "readGood", desc := "()V" } : Jvm.MethodName)) ∈ lw_all := lw_g (lw_at lw_m13 100 rfl) rfl
theorem q3105 : (Jvm.Cond.code ({ cls := "WreckSharesModel", name := "readGood", desc := "()V" } : Jvm.MethodName) prog_21_method_133_code (6 : Nat) (Option.none : Option Jvm.ClassFile.FieldType)) ∈ lw_all := lw_g (lw_at lw_m13 101 rfl) rfl
theorem q3106 : (Jvm.Cond.methodLink "WreckSharesModel" (371 : Nat) ({ cls := "WreckSharesModel", name := "kindHere", desc := "()I" } : Jvm.MethodName)) ∈ lw_all := lw_g (lw_at lw_m13 102 rfl) rfl
theorem q3107 : (Jvm.Cond.privateMethod ({ cls := "WreckSharesModel", name := "kindHere", desc := "()I" } : Jvm.MethodName)) ∈ lw_tbl := lw_at lw_m13 103 rfl
theorem q3108 : (Jvm.Cond.instanceMethod ({ cls := "WreckSharesModel", name := "kindHere", desc := "()I" } : Jvm.MethodName)) ∈ lw_all := lw_g (lw_at lw_m13 104 rfl) rfl
theorem q3109 : (Jvm.Cond.code ({ cls := "WreckSharesModel", name := "kindHere", desc := "()I" } : Jvm.MethodName) prog_21_method_132_code (2 : Nat) (Option.some Jvm.ClassFile.FieldType.int)) ∈ lw_all := lw_g (lw_at lw_m13 105 rfl) rfl
theorem q3110 : (Jvm.Cond.stringRef "WreckSharesModel" (377 : Nat) "mark") ∈ lw_tbl := lw_at lw_m13 106 rfl
theorem q3111 : (Jvm.Cond.methodLink "WreckSharesModel" (379 : Nat) ({ cls := "WreckSharesModel", name := "accept", desc := "(Ljava/lang/String;)Z" } : Jvm.MethodName)) ∈ lw_all := lw_g (lw_at lw_m13 107 rfl) rfl
theorem q3112 : (Jvm.Cond.privateMethod ({ cls := "WreckSharesModel", name := "accept", desc := "(Ljava/lang/String;)Z" } : Jvm.MethodName)) ∈ lw_tbl := lw_at lw_m13 108 rfl
theorem q3113 : (Jvm.Cond.instanceMethod ({ cls := "WreckSharesModel", name := "accept", desc := "(Ljava/lang/String;)Z" } : Jvm.MethodName)) ∈ lw_all := lw_g (lw_at lw_m13 109 rfl) rfl
theorem q3114 : (Jvm.Cond.code ({ cls := "WreckSharesModel", name := "accept", desc := "(Ljava/lang/String;)Z" } : Jvm.MethodName) prog_21_method_127_code (3 : Nat) (Option.some Jvm.ClassFile.FieldType.boolean)) ∈ lw_all := lw_g (lw_at lw_m13 110 rfl) rfl
theorem q3115 : (Jvm.Cond.methodLink "WreckSharesModel" (396 : Nat) ({ cls := "WreckSharesModel", name := "finish", desc := "()I" } : Jvm.MethodName)) ∈ lw_all := lw_g (lw_at lw_m13 111 rfl) rfl
theorem q3116 : (Jvm.Cond.privateMethod ({ cls := "WreckSharesModel", name := "finish", desc := "()I" } : Jvm.MethodName)) ∈ lw_tbl := lw_at lw_m13 112 rfl
theorem q3117 : (Jvm.Cond.instanceMethod ({ cls := "WreckSharesModel", name := "finish", desc := "()I" } : Jvm.MethodName)) ∈ lw_all := lw_g (lw_at lw_m13 113 rfl) rfl
theorem q3118 : (Jvm.Cond.code ({ cls := "WreckSharesModel", name := "finish", desc := "()I" } : Jvm.MethodName) prog_21_method_122_code (1 : Nat) (Option.some Jvm.ClassFile.FieldType.int)) ∈ lw_all := lw_g (lw_at lw_m13 114 rfl) rfl
theorem q3120 : (Jvm.Cond.instanceMethod ({ cls := "WreckSharesModel", name := "play", desc := "(I)I" } : Jvm.MethodName)) ∈ lw_all := lw_g (lw_at lw_m13 116 rfl) rfl
theorem q3121 : (Jvm.Cond.selects "WreckSharesModel" ({ cls := "WreckSharesModel", name := "play", desc := "(I)I" } : Jvm.MethodName) ({ cls := "WreckSharesModel", name := "play", desc := "(I)I" } : Jvm.MethodName)) ∈ lw_all := lw_g (lw_at lw_m13 117 rfl) rfl
theorem q3122 : (Jvm.Cond.code ({ cls := "WreckSharesModel", name := "play", desc := "(I)I" } : Jvm.MethodName) prog_21_method_140_code (3 : Nat) (Option.some Jvm.ClassFile.FieldType.int)) ∈ lw_all := lw_g (lw_at lw_m13 118 rfl) rfl
theorem q3123 : (Jvm.Cond.methodLink "WreckSharesModel" (408 : Nat) ({ cls := "WreckSharesModel", name := "readOrder", desc := "()V" } : Jvm.MethodName)) ∈ lw_all := lw_g (lw_at lw_m13 119 rfl) rfl
theorem q3124 : (Jvm.Cond.privateMethod ({ cls := "WreckSharesModel", name := "readOrder", desc := "()V" } : Jvm.MethodName)) ∈ lw_tbl := lw_at lw_m13 120 rfl
theorem q3125 : (Jvm.Cond.instanceMethod ({ cls := "WreckSharesModel", name := "readOrder", desc := "()V" } : Jvm.MethodName)) ∈ lw_all := lw_g (lw_at lw_m13 121 rfl) rfl
theorem q3126 : (Jvm.Cond.code ({ cls := "WreckSharesModel", name := "readOrder", desc := "()V" } : Jvm.MethodName) prog_21_method_138_code (3 : Nat) (Option.none : Option Jvm.ClassFile.FieldType)) ∈ lw_all := lw_g (lw_at lw_m13 122 rfl) rfl
theorem q3127 : (Jvm.Cond.methodLink "WreckSharesModel" (399 : Nat) ({ cls := "WreckSharesModel", name := "orderHere", desc := "()I" } : Jvm.MethodName)) ∈ lw_all := lw_g (lw_at lw_m13 123 rfl) rfl
theorem q3128 : (Jvm.Cond.privateMethod ({ cls := "WreckSharesModel", name := "orderHere", desc := "()I" } : Jvm.MethodName)) ∈ lw_tbl := lw_at lw_m13 124 rfl
theorem q3129 : (Jvm.Cond.instanceMethod ({ cls := "WreckSharesModel", name := "orderHere", desc := "()I" } : Jvm.MethodName)) ∈ lw_all := lw_g (lw_at lw_m13 125 rfl) rfl
theorem q3130 : (Jvm.Cond.code ({ cls := "WreckSharesModel", name := "orderHere", desc := "()I" } : Jvm.MethodName) prog_21_method_136_code (2 : Nat) (Option.some Jvm.ClassFile.FieldType.int)) ∈ lw_all := lw_g (lw_at lw_m13 126 rfl) rfl
theorem q3131 : (Jvm.Cond.methodLink "WreckSharesModel" (405 : Nat) ({ cls := "WreckSharesModel", name := "readFirst", desc := "(I)I" } : Jvm.MethodName)) ∈ lw_all := lw_g (lw_at lw_m13 127 rfl) rfl
theorem q3132 : (Jvm.Cond.privateMethod ({ cls := "WreckSharesModel", name := "readFirst", desc := "(I)I" } : Jvm.MethodName)) ∈ lw_tbl := lw_at lw_m13 128 rfl
theorem q3133 : (Jvm.Cond.instanceMethod ({ cls := "WreckSharesModel", name := "readFirst", desc := "(I)I" } : Jvm.MethodName)) ∈ lw_all := lw_g (lw_at lw_m13 129 rfl) rfl
theorem q3134 : (Jvm.Cond.code ({ cls := "WreckSharesModel", name := "readFirst", desc := "(I)I" } : Jvm.MethodName) prog_21_method_137_code (2 : Nat) (Option.some Jvm.ClassFile.FieldType.int)) ∈ lw_all := lw_g (lw_at lw_m13 130 rfl) rfl
theorem q3135 : (Jvm.Cond.methodLink "WreckSharesModel" (411 : Nat) ({ cls := "WreckSharesModel", name := "does", desc := "(I)I" } : Jvm.MethodName)) ∈ lw_all := lw_g (lw_at lw_m13 131 rfl) rfl
theorem q3136 : (Jvm.Cond.privateMethod ({ cls := "WreckSharesModel", name := "does", desc := "(I)I" } : Jvm.MethodName)) ∈ lw_tbl := lw_at lw_m13 132 rfl
theorem q3137 : (Jvm.Cond.instanceMethod ({ cls := "WreckSharesModel", name := "does", desc := "(I)I" } : Jvm.MethodName)) ∈ lw_all := lw_g (lw_at lw_m13 133 rfl) rfl
theorem q3138 : (Jvm.Cond.code ({ cls := "WreckSharesModel", name := "does", desc := "(I)I" } : Jvm.MethodName) prog_21_method_139_code (4 : Nat) (Option.some Jvm.ClassFile.FieldType.int)) ∈ lw_all := lw_g (lw_at lw_m13 134 rfl) rfl
theorem q3171 : (Jvm.Cond.castable "WreckSharesModel" "java/lang/Object") ∈ lw_tbl := lw_at lw_m13 167 rfl
theorem in_X5 : ∀ w ∈ wsX50, w ∈ lw_all := lw_in wsX50 [2536, 2538, 2540, 2542, 2544, 2546, 2548, 2550, 2552, 2554, 2556, 2558, 2560, 2562, 2564, 2566, 2568, 2570, 2572, 2574, 2576, 2578, 2580, 2582, 2584, 2586, 2588, 2590, 2592] (by decide +kernel) (by decide +kernel)

