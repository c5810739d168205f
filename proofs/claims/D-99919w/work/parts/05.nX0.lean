/-! SkySpire -/
set_option maxRecDepth 100000
def RX0 : String := "SkySpire"
def TX0 : u_T := fun k => match k with
  | 0 => ("SkySpire", "sky", "LSkySpire$Sky;", false)
  | 1 => ("SkySpire", "own", "LSkySpire$Sky;", true)
  | 2 => ("SkySpire", "spare", "LSkySpire$Sky;", true)
  | 3 => ("SkySpire", "steps", "[LSkySpire$Sky;", true)
  | 4 => ("SkySpire", "reading", "LSkySpire$Sky;", true)
  | 5 => ("SkySpire", "blank", "LSkySpire$Sky;", true)
  | 6 => ("SkySpire", "x", "I", false)
  | 7 => ("SkySpire", "inForce", "I", false)
  | 8 => ("SkySpire", "fault", "LSkySpire$Fault;", true)
  | 9 => ("SkySpire", "tape", "[B", true)
  | 10 => ("SkySpire", "taped", "I", false)
  | 11 => ("SkySpire", "lineWords", "[Ljava/lang/String;", true)
  | 12 => ("SkySpire", "clauseWords", "[Ljava/lang/String;", true)
  | 13 => ("SkySpire", "wordNames", "[Ljava/lang/String;", true)
  | 14 => ("SkySpire", "rules", "[LSkySpire$Rule;", true)
  | 15 => ("SkySpire", "ruleMany", "I", false)
  | 16 => ("SkySpire", "firstWay", "I", false)
  | 17 => ("SkySpire", "strokesOne", "[I", true)
  | 18 => ("SkySpire", "strokesOther", "[I", true)
  | 19 => ("SkySpire", "isFit", "[Z", true)
  | 20 => ("SkySpire", "whoseThen", "[I", true)
  | 21 => ("SkySpire", "drawX", "I", false)
  | _ => ("SkySpire", "images", "[LSkySpire$Image;", true)
def tyX0 : Nat → FieldType := fun k => match k with
  | 0 => .object "SkySpire$Sky"
  | 1 => .object "SkySpire$Sky"
  | 2 => .object "SkySpire$Sky"
  | 3 => .array (.object "SkySpire$Sky")
  | 4 => .object "SkySpire$Sky"
  | 5 => .object "SkySpire$Sky"
  | 6 => .int
  | 7 => .int
  | 8 => .object "SkySpire$Fault"
  | 9 => .array .byte
  | 10 => .int
  | 11 => .array (.object "java/lang/String")
  | 12 => .array (.object "java/lang/String")
  | 13 => .array (.object "java/lang/String")
  | 14 => .array (.object "SkySpire$Rule")
  | 15 => .int
  | 16 => .int
  | 17 => .array .int
  | 18 => .array .int
  | 19 => .array .boolean
  | 20 => .array .int
  | 21 => .int
  | _ => .array (.object "SkySpire$Image")
abbrev wsX00 : List Cond := u_ws RX0 TX0 23
set_option maxRecDepth 100000 in
theorem nmX0 : ∀ a, a < 23 → ∀ b, b < 23 → a ≠ b → (TX0 a).2.1 ≠ (TX0 b).2.1 := by decide +kernel
set_option maxRecDepth 100000 in
theorem tyX0_ok : ∀ k, k < 23 → parseFieldDescriptor (TX0 k).2.2.1 = some (tyX0 k) := by decide +kernel
abbrev cX0_init : ByteArray := prog_1_method_3_code
def yX0_init : MethodName := ⟨RX0, "<init>", "()V"⟩
def dkwX0_init_12 : List UInt8 := [188, 10, 181, 0, 103, 42, 7, 189, 0, 106, 181, 0, 108, 177]
abbrev dktX0_init_12 : List UInt8 := dkwX0_init_12 ++ []
def dkwX0_init_11 : List UInt8 := [181, 0, 92, 42, 16, 16, 188, 10, 181, 0, 96, 42, 16, 7, 188, 4, 181, 0, 99, 42, 17, 0, 252]
abbrev dktX0_init_11 : List UInt8 := dkwX0_init_11 ++ dktX0_init_12
def dkwX0_init_10 : List UInt8 := [89, 16, 11, 18, 81, 83, 181, 0, 83, 42, 16, 6, 189, 0, 86, 181, 0, 88, 42, 16, 16, 188, 10]
abbrev dktX0_init_10 : List UInt8 := dkwX0_init_10 ++ dktX0_init_11
def dkwX0_init_9 : List UInt8 := [89, 16, 7, 18, 75, 83, 89, 16, 8, 18, 77, 83, 89, 16, 9, 18, 52, 83, 89, 16, 10, 18, 79, 83]
abbrev dktX0_init_9 : List UInt8 := dkwX0_init_9 ++ dktX0_init_10
def dkwX0_init_8 : List UInt8 := [18, 65, 83, 89, 6, 18, 67, 83, 89, 7, 18, 69, 83, 89, 8, 18, 71, 83, 89, 16, 6, 18, 73, 83]
abbrev dktX0_init_8 : List UInt8 := dkwX0_init_8 ++ dktX0_init_9
def dkwX0_init_7 : List UInt8 := [18, 58, 83, 181, 0, 60, 42, 16, 12, 189, 0, 44, 89, 3, 18, 48, 83, 89, 4, 18, 63, 83, 89, 5]
abbrev dktX0_init_7 : List UInt8 := dkwX0_init_7 ++ dktX0_init_8
def dkwX0_init_6 : List UInt8 := [18, 48, 83, 89, 5, 18, 50, 83, 89, 6, 18, 52, 83, 181, 0, 54, 42, 4, 189, 0, 44, 89, 3]
abbrev dktX0_init_6 : List UInt8 := dkwX0_init_6 ++ dktX0_init_7
def dkwX0_init_5 : List UInt8 := [181, 0, 36, 42, 17, 1, 144, 188, 8, 181, 0, 40, 42, 7, 189, 0, 44, 89, 3, 18, 46, 83, 89, 4]
abbrev dktX0_init_5 : List UInt8 := dkwX0_init_5 ++ dktX0_init_6
def dkwX0_init_4 : List UInt8 := [42, 187, 0, 7, 89, 183, 0, 9, 181, 0, 26, 42, 2, 181, 0, 29, 42, 187, 0, 33, 89, 183, 0, 35]
abbrev dktX0_init_4 : List UInt8 := dkwX0_init_4 ++ dktX0_init_5
def dkwX0_init_3 : List UInt8 := [89, 7, 187, 0, 7, 89, 183, 0, 9, 83, 181, 0, 19, 42, 187, 0, 7, 89, 183, 0, 9, 181, 0, 23]
abbrev dktX0_init_3 : List UInt8 := dkwX0_init_3 ++ dktX0_init_4
def dkwX0_init_2 : List UInt8 := [183, 0, 9, 83, 89, 5, 187, 0, 7, 89, 183, 0, 9, 83, 89, 6, 187, 0, 7, 89, 183, 0, 9, 83]
abbrev dktX0_init_2 : List UInt8 := dkwX0_init_2 ++ dktX0_init_3
def dkwX0_init_1 : List UInt8 := [181, 0, 16, 42, 8, 189, 0, 7, 89, 3, 187, 0, 7, 89, 183, 0, 9, 83, 89, 4, 187, 0, 7, 89]
abbrev dktX0_init_1 : List UInt8 := dkwX0_init_1 ++ dktX0_init_2
def dkwX0_init_0 : List UInt8 := [42, 183, 0, 1, 42, 187, 0, 7, 89, 183, 0, 9, 181, 0, 10, 42, 187, 0, 7, 89, 183, 0, 9]
abbrev dktX0_init_0 : List UInt8 := dkwX0_init_0 ++ dktX0_init_1
theorem dksX0_init_0 : cX0_init.data.toList.drop 0 = dktX0_init_0 := by decide +kernel
theorem dksX0_init_1 : cX0_init.data.toList.drop 23 = dktX0_init_1 := dk_seg dksX0_init_0 23 rfl rfl
theorem dksX0_init_2 : cX0_init.data.toList.drop 47 = dktX0_init_2 := dk_seg dksX0_init_1 24 rfl rfl
theorem dksX0_init_3 : cX0_init.data.toList.drop 71 = dktX0_init_3 := dk_seg dksX0_init_2 24 rfl rfl
theorem dksX0_init_4 : cX0_init.data.toList.drop 95 = dktX0_init_4 := dk_seg dksX0_init_3 24 rfl rfl
theorem dksX0_init_5 : cX0_init.data.toList.drop 119 = dktX0_init_5 := dk_seg dksX0_init_4 24 rfl rfl
theorem dksX0_init_6 : cX0_init.data.toList.drop 143 = dktX0_init_6 := dk_seg dksX0_init_5 24 rfl rfl
theorem dksX0_init_7 : cX0_init.data.toList.drop 166 = dktX0_init_7 := dk_seg dksX0_init_6 23 rfl rfl
theorem dksX0_init_8 : cX0_init.data.toList.drop 190 = dktX0_init_8 := dk_seg dksX0_init_7 24 rfl rfl
theorem dksX0_init_9 : cX0_init.data.toList.drop 214 = dktX0_init_9 := dk_seg dksX0_init_8 24 rfl rfl
theorem dksX0_init_10 : cX0_init.data.toList.drop 238 = dktX0_init_10 := dk_seg dksX0_init_9 24 rfl rfl
theorem dksX0_init_11 : cX0_init.data.toList.drop 261 = dktX0_init_11 := dk_seg dksX0_init_10 23 rfl rfl
theorem dksX0_init_12 : cX0_init.data.toList.drop 284 = dktX0_init_12 := dk_seg dksX0_init_11 23 rfl rfl
theorem dX0_init_0 : decode cX0_init 0 = .ok (.aload_n 0, 1) := dk_42 (dk_at dksX0_init_0 0 rfl rfl)
theorem dX0_init_1 : decode cX0_init 1 = .ok (.invokespecial 1, 3) := dk_183 0 1 (dk_at dksX0_init_0 1 rfl rfl)
theorem dX0_init_4 : decode cX0_init 4 = .ok (.aload_n 0, 1) := dk_42 (dk_at dksX0_init_0 4 rfl rfl)
theorem dX0_init_5 : decode cX0_init 5 = .ok (.new 7, 3) := dk_187 0 7 (dk_at dksX0_init_0 5 rfl rfl)
theorem dX0_init_8 : decode cX0_init 8 = .ok (.dup, 1) := dk_89 (dk_at dksX0_init_0 8 rfl rfl)
theorem dX0_init_9 : decode cX0_init 9 = .ok (.invokespecial 9, 3) := dk_183 0 9 (dk_at dksX0_init_0 9 rfl rfl)
theorem dX0_init_12 : decode cX0_init 12 = .ok (.putfield 10, 3) := dk_181 0 10 (dk_at dksX0_init_0 12 rfl rfl)
theorem dX0_init_15 : decode cX0_init 15 = .ok (.aload_n 0, 1) := dk_42 (dk_at dksX0_init_0 15 rfl rfl)
theorem dX0_init_16 : decode cX0_init 16 = .ok (.new 7, 3) := dk_187 0 7 (dk_at dksX0_init_0 16 rfl rfl)
theorem dX0_init_19 : decode cX0_init 19 = .ok (.dup, 1) := dk_89 (dk_at dksX0_init_0 19 rfl rfl)
theorem dX0_init_20 : decode cX0_init 20 = .ok (.invokespecial 9, 3) := dk_183 0 9 (dk_at dksX0_init_0 20 rfl rfl)
theorem dX0_init_23 : decode cX0_init 23 = .ok (.putfield 16, 3) := dk_181 0 16 (dk_at dksX0_init_1 0 rfl rfl)
theorem dX0_init_26 : decode cX0_init 26 = .ok (.aload_n 0, 1) := dk_42 (dk_at dksX0_init_1 3 rfl rfl)
theorem dX0_init_27 : decode cX0_init 27 = .ok (.iconst 5, 1) := dk_8 (dk_at dksX0_init_1 4 rfl rfl)
theorem dX0_init_28 : decode cX0_init 28 = .ok (.anewarray 7, 3) := dk_189 0 7 (dk_at dksX0_init_1 5 rfl rfl)
theorem dX0_init_31 : decode cX0_init 31 = .ok (.dup, 1) := dk_89 (dk_at dksX0_init_1 8 rfl rfl)
theorem dX0_init_32 : decode cX0_init 32 = .ok (.iconst 0, 1) := dk_3 (dk_at dksX0_init_1 9 rfl rfl)
theorem dX0_init_33 : decode cX0_init 33 = .ok (.new 7, 3) := dk_187 0 7 (dk_at dksX0_init_1 10 rfl rfl)
theorem dX0_init_36 : decode cX0_init 36 = .ok (.dup, 1) := dk_89 (dk_at dksX0_init_1 13 rfl rfl)
theorem dX0_init_37 : decode cX0_init 37 = .ok (.invokespecial 9, 3) := dk_183 0 9 (dk_at dksX0_init_1 14 rfl rfl)
theorem dX0_init_40 : decode cX0_init 40 = .ok (.aastore, 1) := dk_83 (dk_at dksX0_init_1 17 rfl rfl)
theorem dX0_init_41 : decode cX0_init 41 = .ok (.dup, 1) := dk_89 (dk_at dksX0_init_1 18 rfl rfl)
theorem dX0_init_42 : decode cX0_init 42 = .ok (.iconst 1, 1) := dk_4 (dk_at dksX0_init_1 19 rfl rfl)
theorem dX0_init_43 : decode cX0_init 43 = .ok (.new 7, 3) := dk_187 0 7 (dk_at dksX0_init_1 20 rfl rfl)
theorem dX0_init_46 : decode cX0_init 46 = .ok (.dup, 1) := dk_89 (dk_at dksX0_init_1 23 rfl rfl)
theorem dX0_init_47 : decode cX0_init 47 = .ok (.invokespecial 9, 3) := dk_183 0 9 (dk_at dksX0_init_2 0 rfl rfl)
theorem dX0_init_50 : decode cX0_init 50 = .ok (.aastore, 1) := dk_83 (dk_at dksX0_init_2 3 rfl rfl)
theorem dX0_init_51 : decode cX0_init 51 = .ok (.dup, 1) := dk_89 (dk_at dksX0_init_2 4 rfl rfl)
theorem dX0_init_52 : decode cX0_init 52 = .ok (.iconst 2, 1) := dk_5 (dk_at dksX0_init_2 5 rfl rfl)
theorem dX0_init_53 : decode cX0_init 53 = .ok (.new 7, 3) := dk_187 0 7 (dk_at dksX0_init_2 6 rfl rfl)
theorem dX0_init_56 : decode cX0_init 56 = .ok (.dup, 1) := dk_89 (dk_at dksX0_init_2 9 rfl rfl)
theorem dX0_init_57 : decode cX0_init 57 = .ok (.invokespecial 9, 3) := dk_183 0 9 (dk_at dksX0_init_2 10 rfl rfl)
theorem dX0_init_60 : decode cX0_init 60 = .ok (.aastore, 1) := dk_83 (dk_at dksX0_init_2 13 rfl rfl)
theorem dX0_init_61 : decode cX0_init 61 = .ok (.dup, 1) := dk_89 (dk_at dksX0_init_2 14 rfl rfl)
theorem dX0_init_62 : decode cX0_init 62 = .ok (.iconst 3, 1) := dk_6 (dk_at dksX0_init_2 15 rfl rfl)
theorem dX0_init_63 : decode cX0_init 63 = .ok (.new 7, 3) := dk_187 0 7 (dk_at dksX0_init_2 16 rfl rfl)
theorem dX0_init_66 : decode cX0_init 66 = .ok (.dup, 1) := dk_89 (dk_at dksX0_init_2 19 rfl rfl)
theorem dX0_init_67 : decode cX0_init 67 = .ok (.invokespecial 9, 3) := dk_183 0 9 (dk_at dksX0_init_2 20 rfl rfl)
theorem dX0_init_70 : decode cX0_init 70 = .ok (.aastore, 1) := dk_83 (dk_at dksX0_init_2 23 rfl rfl)
theorem dX0_init_71 : decode cX0_init 71 = .ok (.dup, 1) := dk_89 (dk_at dksX0_init_3 0 rfl rfl)
theorem dX0_init_72 : decode cX0_init 72 = .ok (.iconst 4, 1) := dk_7 (dk_at dksX0_init_3 1 rfl rfl)
theorem dX0_init_73 : decode cX0_init 73 = .ok (.new 7, 3) := dk_187 0 7 (dk_at dksX0_init_3 2 rfl rfl)
theorem dX0_init_76 : decode cX0_init 76 = .ok (.dup, 1) := dk_89 (dk_at dksX0_init_3 5 rfl rfl)
theorem dX0_init_77 : decode cX0_init 77 = .ok (.invokespecial 9, 3) := dk_183 0 9 (dk_at dksX0_init_3 6 rfl rfl)
theorem dX0_init_80 : decode cX0_init 80 = .ok (.aastore, 1) := dk_83 (dk_at dksX0_init_3 9 rfl rfl)
theorem dX0_init_81 : decode cX0_init 81 = .ok (.putfield 19, 3) := dk_181 0 19 (dk_at dksX0_init_3 10 rfl rfl)
theorem dX0_init_84 : decode cX0_init 84 = .ok (.aload_n 0, 1) := dk_42 (dk_at dksX0_init_3 13 rfl rfl)
theorem dX0_init_85 : decode cX0_init 85 = .ok (.new 7, 3) := dk_187 0 7 (dk_at dksX0_init_3 14 rfl rfl)
theorem dX0_init_88 : decode cX0_init 88 = .ok (.dup, 1) := dk_89 (dk_at dksX0_init_3 17 rfl rfl)
theorem dX0_init_89 : decode cX0_init 89 = .ok (.invokespecial 9, 3) := dk_183 0 9 (dk_at dksX0_init_3 18 rfl rfl)
theorem dX0_init_92 : decode cX0_init 92 = .ok (.putfield 23, 3) := dk_181 0 23 (dk_at dksX0_init_3 21 rfl rfl)
theorem dX0_init_95 : decode cX0_init 95 = .ok (.aload_n 0, 1) := dk_42 (dk_at dksX0_init_4 0 rfl rfl)
theorem dX0_init_96 : decode cX0_init 96 = .ok (.new 7, 3) := dk_187 0 7 (dk_at dksX0_init_4 1 rfl rfl)
theorem dX0_init_99 : decode cX0_init 99 = .ok (.dup, 1) := dk_89 (dk_at dksX0_init_4 4 rfl rfl)
theorem dX0_init_100 : decode cX0_init 100 = .ok (.invokespecial 9, 3) := dk_183 0 9 (dk_at dksX0_init_4 5 rfl rfl)
theorem dX0_init_103 : decode cX0_init 103 = .ok (.putfield 26, 3) := dk_181 0 26 (dk_at dksX0_init_4 8 rfl rfl)
theorem dX0_init_106 : decode cX0_init 106 = .ok (.aload_n 0, 1) := dk_42 (dk_at dksX0_init_4 11 rfl rfl)
theorem dX0_init_107 : decode cX0_init 107 = .ok (.iconst (-1), 1) := dk_2 (dk_at dksX0_init_4 12 rfl rfl)
theorem dX0_init_108 : decode cX0_init 108 = .ok (.putfield 29, 3) := dk_181 0 29 (dk_at dksX0_init_4 13 rfl rfl)
theorem dX0_init_111 : decode cX0_init 111 = .ok (.aload_n 0, 1) := dk_42 (dk_at dksX0_init_4 16 rfl rfl)
theorem dX0_init_112 : decode cX0_init 112 = .ok (.new 33, 3) := dk_187 0 33 (dk_at dksX0_init_4 17 rfl rfl)
theorem dX0_init_115 : decode cX0_init 115 = .ok (.dup, 1) := dk_89 (dk_at dksX0_init_4 20 rfl rfl)
theorem dX0_init_116 : decode cX0_init 116 = .ok (.invokespecial 35, 3) := dk_183 0 35 (dk_at dksX0_init_4 21 rfl rfl)
theorem dX0_init_119 : decode cX0_init 119 = .ok (.putfield 36, 3) := dk_181 0 36 (dk_at dksX0_init_5 0 rfl rfl)
theorem dX0_init_122 : decode cX0_init 122 = .ok (.aload_n 0, 1) := dk_42 (dk_at dksX0_init_5 3 rfl rfl)
theorem dX0_init_123 : decode cX0_init 123 = .ok (.sipush 400, 3) := dk_17 1 144 (dk_at dksX0_init_5 4 rfl rfl)
theorem dX0_init_126 : decode cX0_init 126 = .ok (.newarray .byte, 2) := dk_188_8 (dk_at dksX0_init_5 7 rfl rfl)
theorem dX0_init_128 : decode cX0_init 128 = .ok (.putfield 40, 3) := dk_181 0 40 (dk_at dksX0_init_5 9 rfl rfl)
theorem dX0_init_131 : decode cX0_init 131 = .ok (.aload_n 0, 1) := dk_42 (dk_at dksX0_init_5 12 rfl rfl)
theorem dX0_init_132 : decode cX0_init 132 = .ok (.iconst 4, 1) := dk_7 (dk_at dksX0_init_5 13 rfl rfl)
theorem dX0_init_133 : decode cX0_init 133 = .ok (.anewarray 44, 3) := dk_189 0 44 (dk_at dksX0_init_5 14 rfl rfl)
theorem dX0_init_136 : decode cX0_init 136 = .ok (.dup, 1) := dk_89 (dk_at dksX0_init_5 17 rfl rfl)
theorem dX0_init_137 : decode cX0_init 137 = .ok (.iconst 0, 1) := dk_3 (dk_at dksX0_init_5 18 rfl rfl)
theorem dX0_init_138 : decode cX0_init 138 = .ok (.ldc 46, 2) := dk_18 46 (dk_at dksX0_init_5 19 rfl rfl)
theorem dX0_init_140 : decode cX0_init 140 = .ok (.aastore, 1) := dk_83 (dk_at dksX0_init_5 21 rfl rfl)
theorem dX0_init_141 : decode cX0_init 141 = .ok (.dup, 1) := dk_89 (dk_at dksX0_init_5 22 rfl rfl)
theorem dX0_init_142 : decode cX0_init 142 = .ok (.iconst 1, 1) := dk_4 (dk_at dksX0_init_5 23 rfl rfl)
theorem dX0_init_143 : decode cX0_init 143 = .ok (.ldc 48, 2) := dk_18 48 (dk_at dksX0_init_6 0 rfl rfl)
theorem dX0_init_145 : decode cX0_init 145 = .ok (.aastore, 1) := dk_83 (dk_at dksX0_init_6 2 rfl rfl)
theorem dX0_init_146 : decode cX0_init 146 = .ok (.dup, 1) := dk_89 (dk_at dksX0_init_6 3 rfl rfl)
theorem dX0_init_147 : decode cX0_init 147 = .ok (.iconst 2, 1) := dk_5 (dk_at dksX0_init_6 4 rfl rfl)
theorem dX0_init_148 : decode cX0_init 148 = .ok (.ldc 50, 2) := dk_18 50 (dk_at dksX0_init_6 5 rfl rfl)
theorem dX0_init_150 : decode cX0_init 150 = .ok (.aastore, 1) := dk_83 (dk_at dksX0_init_6 7 rfl rfl)
theorem dX0_init_151 : decode cX0_init 151 = .ok (.dup, 1) := dk_89 (dk_at dksX0_init_6 8 rfl rfl)
theorem dX0_init_152 : decode cX0_init 152 = .ok (.iconst 3, 1) := dk_6 (dk_at dksX0_init_6 9 rfl rfl)
theorem dX0_init_153 : decode cX0_init 153 = .ok (.ldc 52, 2) := dk_18 52 (dk_at dksX0_init_6 10 rfl rfl)
theorem dX0_init_155 : decode cX0_init 155 = .ok (.aastore, 1) := dk_83 (dk_at dksX0_init_6 12 rfl rfl)
theorem dX0_init_156 : decode cX0_init 156 = .ok (.putfield 54, 3) := dk_181 0 54 (dk_at dksX0_init_6 13 rfl rfl)
theorem dX0_init_159 : decode cX0_init 159 = .ok (.aload_n 0, 1) := dk_42 (dk_at dksX0_init_6 16 rfl rfl)
theorem dX0_init_160 : decode cX0_init 160 = .ok (.iconst 1, 1) := dk_4 (dk_at dksX0_init_6 17 rfl rfl)
theorem dX0_init_161 : decode cX0_init 161 = .ok (.anewarray 44, 3) := dk_189 0 44 (dk_at dksX0_init_6 18 rfl rfl)
theorem dX0_init_164 : decode cX0_init 164 = .ok (.dup, 1) := dk_89 (dk_at dksX0_init_6 21 rfl rfl)
theorem dX0_init_165 : decode cX0_init 165 = .ok (.iconst 0, 1) := dk_3 (dk_at dksX0_init_6 22 rfl rfl)
theorem dX0_init_166 : decode cX0_init 166 = .ok (.ldc 58, 2) := dk_18 58 (dk_at dksX0_init_7 0 rfl rfl)
theorem dX0_init_168 : decode cX0_init 168 = .ok (.aastore, 1) := dk_83 (dk_at dksX0_init_7 2 rfl rfl)
theorem dX0_init_169 : decode cX0_init 169 = .ok (.putfield 60, 3) := dk_181 0 60 (dk_at dksX0_init_7 3 rfl rfl)
theorem dX0_init_172 : decode cX0_init 172 = .ok (.aload_n 0, 1) := dk_42 (dk_at dksX0_init_7 6 rfl rfl)
theorem dX0_init_173 : decode cX0_init 173 = .ok (.bipush 12, 2) := dk_16 12 (dk_at dksX0_init_7 7 rfl rfl)
theorem dX0_init_175 : decode cX0_init 175 = .ok (.anewarray 44, 3) := dk_189 0 44 (dk_at dksX0_init_7 9 rfl rfl)
theorem dX0_init_178 : decode cX0_init 178 = .ok (.dup, 1) := dk_89 (dk_at dksX0_init_7 12 rfl rfl)
theorem dX0_init_179 : decode cX0_init 179 = .ok (.iconst 0, 1) := dk_3 (dk_at dksX0_init_7 13 rfl rfl)
theorem dX0_init_180 : decode cX0_init 180 = .ok (.ldc 48, 2) := dk_18 48 (dk_at dksX0_init_7 14 rfl rfl)
theorem dX0_init_182 : decode cX0_init 182 = .ok (.aastore, 1) := dk_83 (dk_at dksX0_init_7 16 rfl rfl)
theorem dX0_init_183 : decode cX0_init 183 = .ok (.dup, 1) := dk_89 (dk_at dksX0_init_7 17 rfl rfl)
theorem dX0_init_184 : decode cX0_init 184 = .ok (.iconst 1, 1) := dk_4 (dk_at dksX0_init_7 18 rfl rfl)
theorem dX0_init_185 : decode cX0_init 185 = .ok (.ldc 63, 2) := dk_18 63 (dk_at dksX0_init_7 19 rfl rfl)
theorem dX0_init_187 : decode cX0_init 187 = .ok (.aastore, 1) := dk_83 (dk_at dksX0_init_7 21 rfl rfl)
theorem dX0_init_188 : decode cX0_init 188 = .ok (.dup, 1) := dk_89 (dk_at dksX0_init_7 22 rfl rfl)
theorem dX0_init_189 : decode cX0_init 189 = .ok (.iconst 2, 1) := dk_5 (dk_at dksX0_init_7 23 rfl rfl)
theorem dX0_init_190 : decode cX0_init 190 = .ok (.ldc 65, 2) := dk_18 65 (dk_at dksX0_init_8 0 rfl rfl)
theorem dX0_init_192 : decode cX0_init 192 = .ok (.aastore, 1) := dk_83 (dk_at dksX0_init_8 2 rfl rfl)
theorem dX0_init_193 : decode cX0_init 193 = .ok (.dup, 1) := dk_89 (dk_at dksX0_init_8 3 rfl rfl)
theorem dX0_init_194 : decode cX0_init 194 = .ok (.iconst 3, 1) := dk_6 (dk_at dksX0_init_8 4 rfl rfl)
theorem dX0_init_195 : decode cX0_init 195 = .ok (.ldc 67, 2) := dk_18 67 (dk_at dksX0_init_8 5 rfl rfl)
theorem dX0_init_197 : decode cX0_init 197 = .ok (.aastore, 1) := dk_83 (dk_at dksX0_init_8 7 rfl rfl)
theorem dX0_init_198 : decode cX0_init 198 = .ok (.dup, 1) := dk_89 (dk_at dksX0_init_8 8 rfl rfl)
theorem dX0_init_199 : decode cX0_init 199 = .ok (.iconst 4, 1) := dk_7 (dk_at dksX0_init_8 9 rfl rfl)
theorem dX0_init_200 : decode cX0_init 200 = .ok (.ldc 69, 2) := dk_18 69 (dk_at dksX0_init_8 10 rfl rfl)
theorem dX0_init_202 : decode cX0_init 202 = .ok (.aastore, 1) := dk_83 (dk_at dksX0_init_8 12 rfl rfl)
theorem dX0_init_203 : decode cX0_init 203 = .ok (.dup, 1) := dk_89 (dk_at dksX0_init_8 13 rfl rfl)
theorem dX0_init_204 : decode cX0_init 204 = .ok (.iconst 5, 1) := dk_8 (dk_at dksX0_init_8 14 rfl rfl)
theorem dX0_init_205 : decode cX0_init 205 = .ok (.ldc 71, 2) := dk_18 71 (dk_at dksX0_init_8 15 rfl rfl)
theorem dX0_init_207 : decode cX0_init 207 = .ok (.aastore, 1) := dk_83 (dk_at dksX0_init_8 17 rfl rfl)
theorem dX0_init_208 : decode cX0_init 208 = .ok (.dup, 1) := dk_89 (dk_at dksX0_init_8 18 rfl rfl)
theorem dX0_init_209 : decode cX0_init 209 = .ok (.bipush 6, 2) := dk_16 6 (dk_at dksX0_init_8 19 rfl rfl)
theorem dX0_init_211 : decode cX0_init 211 = .ok (.ldc 73, 2) := dk_18 73 (dk_at dksX0_init_8 21 rfl rfl)
theorem dX0_init_213 : decode cX0_init 213 = .ok (.aastore, 1) := dk_83 (dk_at dksX0_init_8 23 rfl rfl)
theorem dX0_init_214 : decode cX0_init 214 = .ok (.dup, 1) := dk_89 (dk_at dksX0_init_9 0 rfl rfl)
theorem dX0_init_215 : decode cX0_init 215 = .ok (.bipush 7, 2) := dk_16 7 (dk_at dksX0_init_9 1 rfl rfl)
theorem dX0_init_217 : decode cX0_init 217 = .ok (.ldc 75, 2) := dk_18 75 (dk_at dksX0_init_9 3 rfl rfl)
theorem dX0_init_219 : decode cX0_init 219 = .ok (.aastore, 1) := dk_83 (dk_at dksX0_init_9 5 rfl rfl)
theorem dX0_init_220 : decode cX0_init 220 = .ok (.dup, 1) := dk_89 (dk_at dksX0_init_9 6 rfl rfl)
theorem dX0_init_221 : decode cX0_init 221 = .ok (.bipush 8, 2) := dk_16 8 (dk_at dksX0_init_9 7 rfl rfl)
theorem dX0_init_223 : decode cX0_init 223 = .ok (.ldc 77, 2) := dk_18 77 (dk_at dksX0_init_9 9 rfl rfl)
theorem dX0_init_225 : decode cX0_init 225 = .ok (.aastore, 1) := dk_83 (dk_at dksX0_init_9 11 rfl rfl)
theorem dX0_init_226 : decode cX0_init 226 = .ok (.dup, 1) := dk_89 (dk_at dksX0_init_9 12 rfl rfl)
theorem dX0_init_227 : decode cX0_init 227 = .ok (.bipush 9, 2) := dk_16 9 (dk_at dksX0_init_9 13 rfl rfl)
theorem dX0_init_229 : decode cX0_init 229 = .ok (.ldc 52, 2) := dk_18 52 (dk_at dksX0_init_9 15 rfl rfl)
theorem dX0_init_231 : decode cX0_init 231 = .ok (.aastore, 1) := dk_83 (dk_at dksX0_init_9 17 rfl rfl)
theorem dX0_init_232 : decode cX0_init 232 = .ok (.dup, 1) := dk_89 (dk_at dksX0_init_9 18 rfl rfl)
theorem dX0_init_233 : decode cX0_init 233 = .ok (.bipush 10, 2) := dk_16 10 (dk_at dksX0_init_9 19 rfl rfl)
theorem dX0_init_235 : decode cX0_init 235 = .ok (.ldc 79, 2) := dk_18 79 (dk_at dksX0_init_9 21 rfl rfl)
theorem dX0_init_237 : decode cX0_init 237 = .ok (.aastore, 1) := dk_83 (dk_at dksX0_init_9 23 rfl rfl)
theorem dX0_init_238 : decode cX0_init 238 = .ok (.dup, 1) := dk_89 (dk_at dksX0_init_10 0 rfl rfl)
theorem dX0_init_239 : decode cX0_init 239 = .ok (.bipush 11, 2) := dk_16 11 (dk_at dksX0_init_10 1 rfl rfl)
theorem dX0_init_241 : decode cX0_init 241 = .ok (.ldc 81, 2) := dk_18 81 (dk_at dksX0_init_10 3 rfl rfl)
theorem dX0_init_243 : decode cX0_init 243 = .ok (.aastore, 1) := dk_83 (dk_at dksX0_init_10 5 rfl rfl)
theorem dX0_init_244 : decode cX0_init 244 = .ok (.putfield 83, 3) := dk_181 0 83 (dk_at dksX0_init_10 6 rfl rfl)
theorem dX0_init_247 : decode cX0_init 247 = .ok (.aload_n 0, 1) := dk_42 (dk_at dksX0_init_10 9 rfl rfl)
theorem dX0_init_248 : decode cX0_init 248 = .ok (.bipush 6, 2) := dk_16 6 (dk_at dksX0_init_10 10 rfl rfl)
theorem dX0_init_250 : decode cX0_init 250 = .ok (.anewarray 86, 3) := dk_189 0 86 (dk_at dksX0_init_10 12 rfl rfl)
theorem dX0_init_253 : decode cX0_init 253 = .ok (.putfield 88, 3) := dk_181 0 88 (dk_at dksX0_init_10 15 rfl rfl)
theorem dX0_init_256 : decode cX0_init 256 = .ok (.aload_n 0, 1) := dk_42 (dk_at dksX0_init_10 18 rfl rfl)
theorem dX0_init_257 : decode cX0_init 257 = .ok (.bipush 16, 2) := dk_16 16 (dk_at dksX0_init_10 19 rfl rfl)
theorem dX0_init_259 : decode cX0_init 259 = .ok (.newarray .int, 2) := dk_188_10 (dk_at dksX0_init_10 21 rfl rfl)
theorem dX0_init_261 : decode cX0_init 261 = .ok (.putfield 92, 3) := dk_181 0 92 (dk_at dksX0_init_11 0 rfl rfl)
theorem dX0_init_264 : decode cX0_init 264 = .ok (.aload_n 0, 1) := dk_42 (dk_at dksX0_init_11 3 rfl rfl)
theorem dX0_init_265 : decode cX0_init 265 = .ok (.bipush 16, 2) := dk_16 16 (dk_at dksX0_init_11 4 rfl rfl)
theorem dX0_init_267 : decode cX0_init 267 = .ok (.newarray .int, 2) := dk_188_10 (dk_at dksX0_init_11 6 rfl rfl)
theorem dX0_init_269 : decode cX0_init 269 = .ok (.putfield 96, 3) := dk_181 0 96 (dk_at dksX0_init_11 8 rfl rfl)
theorem dX0_init_272 : decode cX0_init 272 = .ok (.aload_n 0, 1) := dk_42 (dk_at dksX0_init_11 11 rfl rfl)
theorem dX0_init_273 : decode cX0_init 273 = .ok (.bipush 7, 2) := dk_16 7 (dk_at dksX0_init_11 12 rfl rfl)
theorem dX0_init_275 : decode cX0_init 275 = .ok (.newarray .boolean, 2) := dk_188_4 (dk_at dksX0_init_11 14 rfl rfl)
theorem dX0_init_277 : decode cX0_init 277 = .ok (.putfield 99, 3) := dk_181 0 99 (dk_at dksX0_init_11 16 rfl rfl)
theorem dX0_init_280 : decode cX0_init 280 = .ok (.aload_n 0, 1) := dk_42 (dk_at dksX0_init_11 19 rfl rfl)
theorem dX0_init_281 : decode cX0_init 281 = .ok (.sipush 252, 3) := dk_17 0 252 (dk_at dksX0_init_11 20 rfl rfl)
theorem dX0_init_284 : decode cX0_init 284 = .ok (.newarray .int, 2) := dk_188_10 (dk_at dksX0_init_12 0 rfl rfl)
theorem dX0_init_286 : decode cX0_init 286 = .ok (.putfield 103, 3) := dk_181 0 103 (dk_at dksX0_init_12 2 rfl rfl)
theorem dX0_init_289 : decode cX0_init 289 = .ok (.aload_n 0, 1) := dk_42 (dk_at dksX0_init_12 5 rfl rfl)
theorem dX0_init_290 : decode cX0_init 290 = .ok (.iconst 4, 1) := dk_7 (dk_at dksX0_init_12 6 rfl rfl)
theorem dX0_init_291 : decode cX0_init 291 = .ok (.anewarray 106, 3) := dk_189 0 106 (dk_at dksX0_init_12 7 rfl rfl)
theorem dX0_init_294 : decode cX0_init 294 = .ok (.putfield 108, 3) := dk_181 0 108 (dk_at dksX0_init_12 10 rfl rfl)
theorem dX0_init_297 : decode cX0_init 297 = .ok (.return_, 1) := dk_177 (dk_at dksX0_init_12 13 rfl rfl)
abbrev cX0_feed : ByteArray := prog_1_method_4_code
def yX0_feed : MethodName := ⟨RX0, "feed", "(IIIII)I"⟩
def dkwX0_feed_2 : List UInt8 := [172]
abbrev dktX0_feed_2 : List UInt8 := dkwX0_feed_2 ++ []
def dkwX0_feed_1 : List UInt8 := [182, 0, 115, 42, 29, 182, 0, 115, 42, 21, 4, 182, 0, 115, 42, 21, 5, 182, 0, 115, 42, 180, 0, 112]
abbrev dktX0_feed_1 : List UInt8 := dkwX0_feed_1 ++ dktX0_feed_2
def dkwX0_feed_0 : List UInt8 := [42, 180, 0, 112, 16, 20, 96, 17, 1, 144, 164, 0, 5, 2, 172, 42, 27, 182, 0, 115, 42, 28]
abbrev dktX0_feed_0 : List UInt8 := dkwX0_feed_0 ++ dktX0_feed_1
theorem dksX0_feed_0 : cX0_feed.data.toList.drop 0 = dktX0_feed_0 := by decide +kernel
theorem dksX0_feed_1 : cX0_feed.data.toList.drop 22 = dktX0_feed_1 := dk_seg dksX0_feed_0 22 rfl rfl
theorem dksX0_feed_2 : cX0_feed.data.toList.drop 46 = dktX0_feed_2 := dk_seg dksX0_feed_1 24 rfl rfl
theorem dX0_feed_0 : decode cX0_feed 0 = .ok (.aload_n 0, 1) := dk_42 (dk_at dksX0_feed_0 0 rfl rfl)
theorem dX0_feed_1 : decode cX0_feed 1 = .ok (.getfield 112, 3) := dk_180 0 112 (dk_at dksX0_feed_0 1 rfl rfl)
theorem dX0_feed_4 : decode cX0_feed 4 = .ok (.bipush 20, 2) := dk_16 20 (dk_at dksX0_feed_0 4 rfl rfl)
theorem dX0_feed_6 : decode cX0_feed 6 = .ok (.iadd, 1) := dk_96 (dk_at dksX0_feed_0 6 rfl rfl)
theorem dX0_feed_7 : decode cX0_feed 7 = .ok (.sipush 400, 3) := dk_17 1 144 (dk_at dksX0_feed_0 7 rfl rfl)
theorem dX0_feed_10 : decode cX0_feed 10 = .ok (.if_icmp .le 5, 3) := dk_164 0 5 (dk_at dksX0_feed_0 10 rfl rfl)
theorem dX0_feed_13 : decode cX0_feed 13 = .ok (.iconst (-1), 1) := dk_2 (dk_at dksX0_feed_0 13 rfl rfl)
theorem dX0_feed_14 : decode cX0_feed 14 = .ok (.ireturn, 1) := dk_172 (dk_at dksX0_feed_0 14 rfl rfl)
theorem dX0_feed_15 : decode cX0_feed 15 = .ok (.aload_n 0, 1) := dk_42 (dk_at dksX0_feed_0 15 rfl rfl)
theorem dX0_feed_16 : decode cX0_feed 16 = .ok (.iload_n 1, 1) := dk_27 (dk_at dksX0_feed_0 16 rfl rfl)
theorem dX0_feed_17 : decode cX0_feed 17 = .ok (.invokevirtual 115, 3) := dk_182 0 115 (dk_at dksX0_feed_0 17 rfl rfl)
theorem dX0_feed_20 : decode cX0_feed 20 = .ok (.aload_n 0, 1) := dk_42 (dk_at dksX0_feed_0 20 rfl rfl)
theorem dX0_feed_21 : decode cX0_feed 21 = .ok (.iload_n 2, 1) := dk_28 (dk_at dksX0_feed_0 21 rfl rfl)
theorem dX0_feed_22 : decode cX0_feed 22 = .ok (.invokevirtual 115, 3) := dk_182 0 115 (dk_at dksX0_feed_1 0 rfl rfl)
theorem dX0_feed_25 : decode cX0_feed 25 = .ok (.aload_n 0, 1) := dk_42 (dk_at dksX0_feed_1 3 rfl rfl)
theorem dX0_feed_26 : decode cX0_feed 26 = .ok (.iload_n 3, 1) := dk_29 (dk_at dksX0_feed_1 4 rfl rfl)
theorem dX0_feed_27 : decode cX0_feed 27 = .ok (.invokevirtual 115, 3) := dk_182 0 115 (dk_at dksX0_feed_1 5 rfl rfl)
theorem dX0_feed_30 : decode cX0_feed 30 = .ok (.aload_n 0, 1) := dk_42 (dk_at dksX0_feed_1 8 rfl rfl)
theorem dX0_feed_31 : decode cX0_feed 31 = .ok (.iload 4, 2) := dk_21 4 (dk_at dksX0_feed_1 9 rfl rfl)
theorem dX0_feed_33 : decode cX0_feed 33 = .ok (.invokevirtual 115, 3) := dk_182 0 115 (dk_at dksX0_feed_1 11 rfl rfl)
theorem dX0_feed_36 : decode cX0_feed 36 = .ok (.aload_n 0, 1) := dk_42 (dk_at dksX0_feed_1 14 rfl rfl)
theorem dX0_feed_37 : decode cX0_feed 37 = .ok (.iload 5, 2) := dk_21 5 (dk_at dksX0_feed_1 15 rfl rfl)
theorem dX0_feed_39 : decode cX0_feed 39 = .ok (.invokevirtual 115, 3) := dk_182 0 115 (dk_at dksX0_feed_1 17 rfl rfl)
theorem dX0_feed_42 : decode cX0_feed 42 = .ok (.aload_n 0, 1) := dk_42 (dk_at dksX0_feed_1 20 rfl rfl)
theorem dX0_feed_43 : decode cX0_feed 43 = .ok (.getfield 112, 3) := dk_180 0 112 (dk_at dksX0_feed_1 21 rfl rfl)
theorem dX0_feed_46 : decode cX0_feed 46 = .ok (.ireturn, 1) := dk_172 (dk_at dksX0_feed_2 0 rfl rfl)
abbrev cX0_four : ByteArray := prog_1_method_5_code
def yX0_four : MethodName := ⟨RX0, "four", "(I)V"⟩
def dkwX0_four_1 : List UInt8 := [180, 0, 112, 4, 96, 181, 0, 112, 132, 2, 248, 167, 255, 226, 177]
abbrev dktX0_four_1 : List UInt8 := dkwX0_four_1 ++ []
def dkwX0_four_0 : List UInt8 := [16, 24, 61, 28, 155, 0, 32, 42, 180, 0, 40, 42, 180, 0, 112, 27, 28, 122, 145, 84, 42, 89]
abbrev dktX0_four_0 : List UInt8 := dkwX0_four_0 ++ dktX0_four_1
theorem dksX0_four_0 : cX0_four.data.toList.drop 0 = dktX0_four_0 := by decide +kernel
theorem dksX0_four_1 : cX0_four.data.toList.drop 22 = dktX0_four_1 := dk_seg dksX0_four_0 22 rfl rfl
theorem dX0_four_0 : decode cX0_four 0 = .ok (.bipush 24, 2) := dk_16 24 (dk_at dksX0_four_0 0 rfl rfl)
theorem dX0_four_2 : decode cX0_four 2 = .ok (.istore_n 2, 1) := dk_61 (dk_at dksX0_four_0 2 rfl rfl)
theorem dX0_four_3 : decode cX0_four 3 = .ok (.iload_n 2, 1) := dk_28 (dk_at dksX0_four_0 3 rfl rfl)
theorem dX0_four_4 : decode cX0_four 4 = .ok (.ifCond .lt 32, 3) := dk_155 0 32 (dk_at dksX0_four_0 4 rfl rfl)
theorem dX0_four_7 : decode cX0_four 7 = .ok (.aload_n 0, 1) := dk_42 (dk_at dksX0_four_0 7 rfl rfl)
theorem dX0_four_8 : decode cX0_four 8 = .ok (.getfield 40, 3) := dk_180 0 40 (dk_at dksX0_four_0 8 rfl rfl)
theorem dX0_four_11 : decode cX0_four 11 = .ok (.aload_n 0, 1) := dk_42 (dk_at dksX0_four_0 11 rfl rfl)
theorem dX0_four_12 : decode cX0_four 12 = .ok (.getfield 112, 3) := dk_180 0 112 (dk_at dksX0_four_0 12 rfl rfl)
theorem dX0_four_15 : decode cX0_four 15 = .ok (.iload_n 1, 1) := dk_27 (dk_at dksX0_four_0 15 rfl rfl)
theorem dX0_four_16 : decode cX0_four 16 = .ok (.iload_n 2, 1) := dk_28 (dk_at dksX0_four_0 16 rfl rfl)
theorem dX0_four_17 : decode cX0_four 17 = .ok (.ishr, 1) := dk_122 (dk_at dksX0_four_0 17 rfl rfl)
theorem dX0_four_18 : decode cX0_four 18 = .ok (.i2b, 1) := dk_145 (dk_at dksX0_four_0 18 rfl rfl)
theorem dX0_four_19 : decode cX0_four 19 = .ok (.bastore, 1) := dk_84 (dk_at dksX0_four_0 19 rfl rfl)
theorem dX0_four_20 : decode cX0_four 20 = .ok (.aload_n 0, 1) := dk_42 (dk_at dksX0_four_0 20 rfl rfl)
theorem dX0_four_21 : decode cX0_four 21 = .ok (.dup, 1) := dk_89 (dk_at dksX0_four_0 21 rfl rfl)
theorem dX0_four_22 : decode cX0_four 22 = .ok (.getfield 112, 3) := dk_180 0 112 (dk_at dksX0_four_1 0 rfl rfl)
theorem dX0_four_25 : decode cX0_four 25 = .ok (.iconst 1, 1) := dk_4 (dk_at dksX0_four_1 3 rfl rfl)
theorem dX0_four_26 : decode cX0_four 26 = .ok (.iadd, 1) := dk_96 (dk_at dksX0_four_1 4 rfl rfl)
theorem dX0_four_27 : decode cX0_four 27 = .ok (.putfield 112, 3) := dk_181 0 112 (dk_at dksX0_four_1 5 rfl rfl)
theorem dX0_four_30 : decode cX0_four 30 = .ok (.iinc 2 (-8), 3) := dk_132 2 248 (dk_at dksX0_four_1 8 rfl rfl)
theorem dX0_four_33 : decode cX0_four 33 = .ok (.goto (-30), 3) := dk_167 255 226 (dk_at dksX0_four_1 11 rfl rfl)
theorem dX0_four_36 : decode cX0_four 36 = .ok (.return_, 1) := dk_177 (dk_at dksX0_four_1 14 rfl rfl)
abbrev cX0_end : ByteArray := prog_1_method_6_code
def yX0_end : MethodName := ⟨RX0, "end", "(I)I"⟩
def dkwX0_end_0 : List UInt8 := [27, 155, 0, 11, 27, 42, 180, 0, 112, 164, 0, 5, 2, 172, 42, 27, 181, 0, 112, 27, 172]
abbrev dktX0_end_0 : List UInt8 := dkwX0_end_0 ++ []
theorem dksX0_end_0 : cX0_end.data.toList.drop 0 = dktX0_end_0 := by decide +kernel
theorem dX0_end_0 : decode cX0_end 0 = .ok (.iload_n 1, 1) := dk_27 (dk_at dksX0_end_0 0 rfl rfl)
theorem dX0_end_1 : decode cX0_end 1 = .ok (.ifCond .lt 11, 3) := dk_155 0 11 (dk_at dksX0_end_0 1 rfl rfl)
theorem dX0_end_4 : decode cX0_end 4 = .ok (.iload_n 1, 1) := dk_27 (dk_at dksX0_end_0 4 rfl rfl)
theorem dX0_end_5 : decode cX0_end 5 = .ok (.aload_n 0, 1) := dk_42 (dk_at dksX0_end_0 5 rfl rfl)
theorem dX0_end_6 : decode cX0_end 6 = .ok (.getfield 112, 3) := dk_180 0 112 (dk_at dksX0_end_0 6 rfl rfl)
theorem dX0_end_9 : decode cX0_end 9 = .ok (.if_icmp .le 5, 3) := dk_164 0 5 (dk_at dksX0_end_0 9 rfl rfl)
theorem dX0_end_12 : decode cX0_end 12 = .ok (.iconst (-1), 1) := dk_2 (dk_at dksX0_end_0 12 rfl rfl)
theorem dX0_end_13 : decode cX0_end 13 = .ok (.ireturn, 1) := dk_172 (dk_at dksX0_end_0 13 rfl rfl)
theorem dX0_end_14 : decode cX0_end 14 = .ok (.aload_n 0, 1) := dk_42 (dk_at dksX0_end_0 14 rfl rfl)
theorem dX0_end_15 : decode cX0_end 15 = .ok (.iload_n 1, 1) := dk_27 (dk_at dksX0_end_0 15 rfl rfl)
theorem dX0_end_16 : decode cX0_end 16 = .ok (.putfield 112, 3) := dk_181 0 112 (dk_at dksX0_end_0 16 rfl rfl)
theorem dX0_end_19 : decode cX0_end 19 = .ok (.iload_n 1, 1) := dk_27 (dk_at dksX0_end_0 19 rfl rfl)
theorem dX0_end_20 : decode cX0_end 20 = .ok (.ireturn, 1) := dk_172 (dk_at dksX0_end_0 20 rfl rfl)
abbrev cX0_sky : ByteArray := prog_1_method_8_code
def yX0_sky : MethodName := ⟨RX0, "sky", "()I"⟩
def dkwX0_sky_1 : List UInt8 := [180, 0, 138, 180, 0, 140, 60, 167, 0, 9, 77, 42, 182, 0, 143, 60, 42, 3, 181, 0, 112, 27, 172]
abbrev dktX0_sky_1 : List UInt8 := dkwX0_sky_1 ++ []
def dkwX0_sky_0 : List UInt8 := [42, 42, 180, 0, 10, 187, 0, 125, 89, 42, 183, 0, 127, 182, 0, 130, 182, 0, 134, 181, 0, 138, 42]
abbrev dktX0_sky_0 : List UInt8 := dkwX0_sky_0 ++ dktX0_sky_1
theorem dksX0_sky_0 : cX0_sky.data.toList.drop 0 = dktX0_sky_0 := by decide +kernel
theorem dksX0_sky_1 : cX0_sky.data.toList.drop 23 = dktX0_sky_1 := dk_seg dksX0_sky_0 23 rfl rfl
theorem dX0_sky_0 : decode cX0_sky 0 = .ok (.aload_n 0, 1) := dk_42 (dk_at dksX0_sky_0 0 rfl rfl)
theorem dX0_sky_1 : decode cX0_sky 1 = .ok (.aload_n 0, 1) := dk_42 (dk_at dksX0_sky_0 1 rfl rfl)
theorem dX0_sky_2 : decode cX0_sky 2 = .ok (.getfield 10, 3) := dk_180 0 10 (dk_at dksX0_sky_0 2 rfl rfl)
theorem dX0_sky_5 : decode cX0_sky 5 = .ok (.new 125, 3) := dk_187 0 125 (dk_at dksX0_sky_0 5 rfl rfl)
theorem dX0_sky_8 : decode cX0_sky 8 = .ok (.dup, 1) := dk_89 (dk_at dksX0_sky_0 8 rfl rfl)
theorem dX0_sky_9 : decode cX0_sky 9 = .ok (.aload_n 0, 1) := dk_42 (dk_at dksX0_sky_0 9 rfl rfl)
theorem dX0_sky_10 : decode cX0_sky 10 = .ok (.invokespecial 127, 3) := dk_183 0 127 (dk_at dksX0_sky_0 10 rfl rfl)
theorem dX0_sky_13 : decode cX0_sky 13 = .ok (.invokevirtual 130, 3) := dk_182 0 130 (dk_at dksX0_sky_0 13 rfl rfl)
theorem dX0_sky_16 : decode cX0_sky 16 = .ok (.invokevirtual 134, 3) := dk_182 0 134 (dk_at dksX0_sky_0 16 rfl rfl)
theorem dX0_sky_19 : decode cX0_sky 19 = .ok (.putfield 138, 3) := dk_181 0 138 (dk_at dksX0_sky_0 19 rfl rfl)
theorem dX0_sky_22 : decode cX0_sky 22 = .ok (.aload_n 0, 1) := dk_42 (dk_at dksX0_sky_0 22 rfl rfl)
theorem dX0_sky_23 : decode cX0_sky 23 = .ok (.getfield 138, 3) := dk_180 0 138 (dk_at dksX0_sky_1 0 rfl rfl)
theorem dX0_sky_26 : decode cX0_sky 26 = .ok (.getfield 140, 3) := dk_180 0 140 (dk_at dksX0_sky_1 3 rfl rfl)
theorem dX0_sky_29 : decode cX0_sky 29 = .ok (.istore_n 1, 1) := dk_60 (dk_at dksX0_sky_1 6 rfl rfl)
theorem dX0_sky_30 : decode cX0_sky 30 = .ok (.goto 9, 3) := dk_167 0 9 (dk_at dksX0_sky_1 7 rfl rfl)
theorem dX0_sky_33 : decode cX0_sky 33 = .ok (.astore_n 2, 1) := dk_77 (dk_at dksX0_sky_1 10 rfl rfl)
theorem dX0_sky_34 : decode cX0_sky 34 = .ok (.aload_n 0, 1) := dk_42 (dk_at dksX0_sky_1 11 rfl rfl)
theorem dX0_sky_35 : decode cX0_sky 35 = .ok (.invokevirtual 143, 3) := dk_182 0 143 (dk_at dksX0_sky_1 12 rfl rfl)
theorem dX0_sky_38 : decode cX0_sky 38 = .ok (.istore_n 1, 1) := dk_60 (dk_at dksX0_sky_1 15 rfl rfl)
theorem dX0_sky_39 : decode cX0_sky 39 = .ok (.aload_n 0, 1) := dk_42 (dk_at dksX0_sky_1 16 rfl rfl)
theorem dX0_sky_40 : decode cX0_sky 40 = .ok (.iconst 0, 1) := dk_3 (dk_at dksX0_sky_1 17 rfl rfl)
theorem dX0_sky_41 : decode cX0_sky 41 = .ok (.putfield 112, 3) := dk_181 0 112 (dk_at dksX0_sky_1 18 rfl rfl)
theorem dX0_sky_44 : decode cX0_sky 44 = .ok (.iload_n 1, 1) := dk_27 (dk_at dksX0_sky_1 21 rfl rfl)
theorem dX0_sky_45 : decode cX0_sky 45 = .ok (.ireturn, 1) := dk_172 (dk_at dksX0_sky_1 22 rfl rfl)
abbrev cX0_in : ByteArray := prog_1_method_1_code
def yX0_in : MethodName := ⟨RX0, "in", "(JJJ)Z"⟩
def dkwX0_in_0 : List UInt8 := [30, 32, 148, 155, 0, 14, 30, 22, 4, 148, 157, 0, 7, 4, 167, 0, 4, 3, 172]
abbrev dktX0_in_0 : List UInt8 := dkwX0_in_0 ++ []
theorem dksX0_in_0 : cX0_in.data.toList.drop 0 = dktX0_in_0 := by decide +kernel
theorem dX0_in_0 : decode cX0_in 0 = .ok (.lload_n 0, 1) := dk_30 (dk_at dksX0_in_0 0 rfl rfl)
theorem dX0_in_1 : decode cX0_in 1 = .ok (.lload_n 2, 1) := dk_32 (dk_at dksX0_in_0 1 rfl rfl)
theorem dX0_in_2 : decode cX0_in 2 = .ok (.lcmp, 1) := dk_148 (dk_at dksX0_in_0 2 rfl rfl)
theorem dX0_in_3 : decode cX0_in 3 = .ok (.ifCond .lt 14, 3) := dk_155 0 14 (dk_at dksX0_in_0 3 rfl rfl)
theorem dX0_in_6 : decode cX0_in 6 = .ok (.lload_n 0, 1) := dk_30 (dk_at dksX0_in_0 6 rfl rfl)
theorem dX0_in_7 : decode cX0_in 7 = .ok (.lload 4, 2) := dk_22 4 (dk_at dksX0_in_0 7 rfl rfl)
theorem dX0_in_9 : decode cX0_in 9 = .ok (.lcmp, 1) := dk_148 (dk_at dksX0_in_0 9 rfl rfl)
theorem dX0_in_10 : decode cX0_in 10 = .ok (.ifCond .gt 7, 3) := dk_157 0 7 (dk_at dksX0_in_0 10 rfl rfl)
theorem dX0_in_13 : decode cX0_in 13 = .ok (.iconst 1, 1) := dk_4 (dk_at dksX0_in_0 13 rfl rfl)
theorem dX0_in_14 : decode cX0_in 14 = .ok (.goto 4, 3) := dk_167 0 4 (dk_at dksX0_in_0 14 rfl rfl)
theorem dX0_in_17 : decode cX0_in 17 = .ok (.iconst 0, 1) := dk_3 (dk_at dksX0_in_0 17 rfl rfl)
theorem dX0_in_18 : decode cX0_in 18 = .ok (.ireturn, 1) := dk_172 (dk_at dksX0_in_0 18 rfl rfl)
abbrev cX0_faulted : ByteArray := prog_1_method_7_code
def yX0_faulted : MethodName := ⟨RX0, "faulted", "()I"⟩
def dkwX0_faulted_0 : List UInt8 := [16, 254, 4, 16, 8, 42, 180, 0, 36, 180, 0, 119, 104, 96, 42, 180, 0, 36, 180, 0, 122, 96, 100, 172]
abbrev dktX0_faulted_0 : List UInt8 := dkwX0_faulted_0 ++ []
theorem dksX0_faulted_0 : cX0_faulted.data.toList.drop 0 = dktX0_faulted_0 := by decide +kernel
theorem dX0_faulted_0 : decode cX0_faulted 0 = .ok (.bipush (-2), 2) := dk_16 254 (dk_at dksX0_faulted_0 0 rfl rfl)
theorem dX0_faulted_2 : decode cX0_faulted 2 = .ok (.iconst 1, 1) := dk_4 (dk_at dksX0_faulted_0 2 rfl rfl)
theorem dX0_faulted_3 : decode cX0_faulted 3 = .ok (.bipush 8, 2) := dk_16 8 (dk_at dksX0_faulted_0 3 rfl rfl)
theorem dX0_faulted_5 : decode cX0_faulted 5 = .ok (.aload_n 0, 1) := dk_42 (dk_at dksX0_faulted_0 5 rfl rfl)
theorem dX0_faulted_6 : decode cX0_faulted 6 = .ok (.getfield 36, 3) := dk_180 0 36 (dk_at dksX0_faulted_0 6 rfl rfl)
theorem dX0_faulted_9 : decode cX0_faulted 9 = .ok (.getfield 119, 3) := dk_180 0 119 (dk_at dksX0_faulted_0 9 rfl rfl)
theorem dX0_faulted_12 : decode cX0_faulted 12 = .ok (.imul, 1) := dk_104 (dk_at dksX0_faulted_0 12 rfl rfl)
theorem dX0_faulted_13 : decode cX0_faulted 13 = .ok (.iadd, 1) := dk_96 (dk_at dksX0_faulted_0 13 rfl rfl)
theorem dX0_faulted_14 : decode cX0_faulted 14 = .ok (.aload_n 0, 1) := dk_42 (dk_at dksX0_faulted_0 14 rfl rfl)
theorem dX0_faulted_15 : decode cX0_faulted 15 = .ok (.getfield 36, 3) := dk_180 0 36 (dk_at dksX0_faulted_0 15 rfl rfl)
theorem dX0_faulted_18 : decode cX0_faulted 18 = .ok (.getfield 122, 3) := dk_180 0 122 (dk_at dksX0_faulted_0 18 rfl rfl)
theorem dX0_faulted_21 : decode cX0_faulted 21 = .ok (.iadd, 1) := dk_96 (dk_at dksX0_faulted_0 21 rfl rfl)
theorem dX0_faulted_22 : decode cX0_faulted 22 = .ok (.isub, 1) := dk_100 (dk_at dksX0_faulted_0 22 rfl rfl)
theorem dX0_faulted_23 : decode cX0_faulted 23 = .ok (.ireturn, 1) := dk_172 (dk_at dksX0_faulted_0 23 rfl rfl)
abbrev cX0_rule : ByteArray := prog_1_method_9_code
def yX0_rule : MethodName := ⟨RX0, "rule", "()I"⟩
def dkwX0_rule_2 : List UInt8 := [167, 0, 9, 77, 42, 182, 0, 143, 60, 42, 3, 181, 0, 112, 27, 172]
abbrev dktX0_rule_2 : List UInt8 := dkwX0_rule_2 ++ []
def dkwX0_rule_1 : List UInt8 := [187, 0, 125, 89, 42, 183, 0, 127, 182, 0, 150, 83, 42, 89, 180, 0, 147, 4, 96, 181, 0, 147]
abbrev dktX0_rule_1 : List UInt8 := dkwX0_rule_1 ++ dktX0_rule_2
def dkwX0_rule_0 : List UInt8 := [42, 180, 0, 147, 16, 6, 160, 0, 5, 2, 172, 42, 180, 0, 147, 60, 42, 180, 0, 88, 42, 180, 0, 147]
abbrev dktX0_rule_0 : List UInt8 := dkwX0_rule_0 ++ dktX0_rule_1
theorem dksX0_rule_0 : cX0_rule.data.toList.drop 0 = dktX0_rule_0 := by decide +kernel
theorem dksX0_rule_1 : cX0_rule.data.toList.drop 24 = dktX0_rule_1 := dk_seg dksX0_rule_0 24 rfl rfl
theorem dksX0_rule_2 : cX0_rule.data.toList.drop 46 = dktX0_rule_2 := dk_seg dksX0_rule_1 22 rfl rfl
theorem dX0_rule_0 : decode cX0_rule 0 = .ok (.aload_n 0, 1) := dk_42 (dk_at dksX0_rule_0 0 rfl rfl)
theorem dX0_rule_1 : decode cX0_rule 1 = .ok (.getfield 147, 3) := dk_180 0 147 (dk_at dksX0_rule_0 1 rfl rfl)
theorem dX0_rule_4 : decode cX0_rule 4 = .ok (.bipush 6, 2) := dk_16 6 (dk_at dksX0_rule_0 4 rfl rfl)
theorem dX0_rule_6 : decode cX0_rule 6 = .ok (.if_icmp .ne 5, 3) := dk_160 0 5 (dk_at dksX0_rule_0 6 rfl rfl)
theorem dX0_rule_9 : decode cX0_rule 9 = .ok (.iconst (-1), 1) := dk_2 (dk_at dksX0_rule_0 9 rfl rfl)
theorem dX0_rule_10 : decode cX0_rule 10 = .ok (.ireturn, 1) := dk_172 (dk_at dksX0_rule_0 10 rfl rfl)
theorem dX0_rule_11 : decode cX0_rule 11 = .ok (.aload_n 0, 1) := dk_42 (dk_at dksX0_rule_0 11 rfl rfl)
theorem dX0_rule_12 : decode cX0_rule 12 = .ok (.getfield 147, 3) := dk_180 0 147 (dk_at dksX0_rule_0 12 rfl rfl)
theorem dX0_rule_15 : decode cX0_rule 15 = .ok (.istore_n 1, 1) := dk_60 (dk_at dksX0_rule_0 15 rfl rfl)
theorem dX0_rule_16 : decode cX0_rule 16 = .ok (.aload_n 0, 1) := dk_42 (dk_at dksX0_rule_0 16 rfl rfl)
theorem dX0_rule_17 : decode cX0_rule 17 = .ok (.getfield 88, 3) := dk_180 0 88 (dk_at dksX0_rule_0 17 rfl rfl)
theorem dX0_rule_20 : decode cX0_rule 20 = .ok (.aload_n 0, 1) := dk_42 (dk_at dksX0_rule_0 20 rfl rfl)
theorem dX0_rule_21 : decode cX0_rule 21 = .ok (.getfield 147, 3) := dk_180 0 147 (dk_at dksX0_rule_0 21 rfl rfl)
theorem dX0_rule_24 : decode cX0_rule 24 = .ok (.new 125, 3) := dk_187 0 125 (dk_at dksX0_rule_1 0 rfl rfl)
theorem dX0_rule_27 : decode cX0_rule 27 = .ok (.dup, 1) := dk_89 (dk_at dksX0_rule_1 3 rfl rfl)
theorem dX0_rule_28 : decode cX0_rule 28 = .ok (.aload_n 0, 1) := dk_42 (dk_at dksX0_rule_1 4 rfl rfl)
theorem dX0_rule_29 : decode cX0_rule 29 = .ok (.invokespecial 127, 3) := dk_183 0 127 (dk_at dksX0_rule_1 5 rfl rfl)
theorem dX0_rule_32 : decode cX0_rule 32 = .ok (.invokevirtual 150, 3) := dk_182 0 150 (dk_at dksX0_rule_1 8 rfl rfl)
theorem dX0_rule_35 : decode cX0_rule 35 = .ok (.aastore, 1) := dk_83 (dk_at dksX0_rule_1 11 rfl rfl)
theorem dX0_rule_36 : decode cX0_rule 36 = .ok (.aload_n 0, 1) := dk_42 (dk_at dksX0_rule_1 12 rfl rfl)
theorem dX0_rule_37 : decode cX0_rule 37 = .ok (.dup, 1) := dk_89 (dk_at dksX0_rule_1 13 rfl rfl)
theorem dX0_rule_38 : decode cX0_rule 38 = .ok (.getfield 147, 3) := dk_180 0 147 (dk_at dksX0_rule_1 14 rfl rfl)
theorem dX0_rule_41 : decode cX0_rule 41 = .ok (.iconst 1, 1) := dk_4 (dk_at dksX0_rule_1 17 rfl rfl)
theorem dX0_rule_42 : decode cX0_rule 42 = .ok (.iadd, 1) := dk_96 (dk_at dksX0_rule_1 18 rfl rfl)
theorem dX0_rule_43 : decode cX0_rule 43 = .ok (.putfield 147, 3) := dk_181 0 147 (dk_at dksX0_rule_1 19 rfl rfl)
theorem dX0_rule_46 : decode cX0_rule 46 = .ok (.goto 9, 3) := dk_167 0 9 (dk_at dksX0_rule_2 0 rfl rfl)
theorem dX0_rule_49 : decode cX0_rule 49 = .ok (.astore_n 2, 1) := dk_77 (dk_at dksX0_rule_2 3 rfl rfl)
theorem dX0_rule_50 : decode cX0_rule 50 = .ok (.aload_n 0, 1) := dk_42 (dk_at dksX0_rule_2 4 rfl rfl)
theorem dX0_rule_51 : decode cX0_rule 51 = .ok (.invokevirtual 143, 3) := dk_182 0 143 (dk_at dksX0_rule_2 5 rfl rfl)
theorem dX0_rule_54 : decode cX0_rule 54 = .ok (.istore_n 1, 1) := dk_60 (dk_at dksX0_rule_2 8 rfl rfl)
theorem dX0_rule_55 : decode cX0_rule 55 = .ok (.aload_n 0, 1) := dk_42 (dk_at dksX0_rule_2 9 rfl rfl)
theorem dX0_rule_56 : decode cX0_rule 56 = .ok (.iconst 0, 1) := dk_3 (dk_at dksX0_rule_2 10 rfl rfl)
theorem dX0_rule_57 : decode cX0_rule 57 = .ok (.putfield 112, 3) := dk_181 0 112 (dk_at dksX0_rule_2 11 rfl rfl)
theorem dX0_rule_60 : decode cX0_rule 60 = .ok (.iload_n 1, 1) := dk_27 (dk_at dksX0_rule_2 14 rfl rfl)
theorem dX0_rule_61 : decode cX0_rule 61 = .ok (.ireturn, 1) := dk_172 (dk_at dksX0_rule_2 15 rfl rfl)
abbrev cX0_force : ByteArray := prog_1_method_10_code
def yX0_force : MethodName := ⟨RX0, "force", "(I)I"⟩
def dkwX0_force_1 : List UInt8 := [61, 42, 27, 181, 0, 29, 28, 172]
abbrev dktX0_force_1 : List UInt8 := dkwX0_force_1 ++ []
def dkwX0_force_0 : List UInt8 := [27, 2, 159, 0, 18, 27, 155, 0, 11, 27, 42, 180, 0, 147, 161, 0, 6, 16, 254, 172, 42, 180, 0, 29]
abbrev dktX0_force_0 : List UInt8 := dkwX0_force_0 ++ dktX0_force_1
theorem dksX0_force_0 : cX0_force.data.toList.drop 0 = dktX0_force_0 := by decide +kernel
theorem dksX0_force_1 : cX0_force.data.toList.drop 24 = dktX0_force_1 := dk_seg dksX0_force_0 24 rfl rfl
theorem dX0_force_0 : decode cX0_force 0 = .ok (.iload_n 1, 1) := dk_27 (dk_at dksX0_force_0 0 rfl rfl)
theorem dX0_force_1 : decode cX0_force 1 = .ok (.iconst (-1), 1) := dk_2 (dk_at dksX0_force_0 1 rfl rfl)
theorem dX0_force_2 : decode cX0_force 2 = .ok (.if_icmp .eq 18, 3) := dk_159 0 18 (dk_at dksX0_force_0 2 rfl rfl)
theorem dX0_force_5 : decode cX0_force 5 = .ok (.iload_n 1, 1) := dk_27 (dk_at dksX0_force_0 5 rfl rfl)
theorem dX0_force_6 : decode cX0_force 6 = .ok (.ifCond .lt 11, 3) := dk_155 0 11 (dk_at dksX0_force_0 6 rfl rfl)
theorem dX0_force_9 : decode cX0_force 9 = .ok (.iload_n 1, 1) := dk_27 (dk_at dksX0_force_0 9 rfl rfl)
theorem dX0_force_10 : decode cX0_force 10 = .ok (.aload_n 0, 1) := dk_42 (dk_at dksX0_force_0 10 rfl rfl)
theorem dX0_force_11 : decode cX0_force 11 = .ok (.getfield 147, 3) := dk_180 0 147 (dk_at dksX0_force_0 11 rfl rfl)
theorem dX0_force_14 : decode cX0_force 14 = .ok (.if_icmp .lt 6, 3) := dk_161 0 6 (dk_at dksX0_force_0 14 rfl rfl)
theorem dX0_force_17 : decode cX0_force 17 = .ok (.bipush (-2), 2) := dk_16 254 (dk_at dksX0_force_0 17 rfl rfl)
theorem dX0_force_19 : decode cX0_force 19 = .ok (.ireturn, 1) := dk_172 (dk_at dksX0_force_0 19 rfl rfl)
theorem dX0_force_20 : decode cX0_force 20 = .ok (.aload_n 0, 1) := dk_42 (dk_at dksX0_force_0 20 rfl rfl)
theorem dX0_force_21 : decode cX0_force 21 = .ok (.getfield 29, 3) := dk_180 0 29 (dk_at dksX0_force_0 21 rfl rfl)
theorem dX0_force_24 : decode cX0_force 24 = .ok (.istore_n 2, 1) := dk_61 (dk_at dksX0_force_1 0 rfl rfl)
theorem dX0_force_25 : decode cX0_force 25 = .ok (.aload_n 0, 1) := dk_42 (dk_at dksX0_force_1 1 rfl rfl)
theorem dX0_force_26 : decode cX0_force 26 = .ok (.iload_n 1, 1) := dk_27 (dk_at dksX0_force_1 2 rfl rfl)
theorem dX0_force_27 : decode cX0_force 27 = .ok (.putfield 29, 3) := dk_181 0 29 (dk_at dksX0_force_1 3 rfl rfl)
theorem dX0_force_30 : decode cX0_force 30 = .ok (.iload_n 2, 1) := dk_28 (dk_at dksX0_force_1 6 rfl rfl)
theorem dX0_force_31 : decode cX0_force 31 = .ok (.ireturn, 1) := dk_172 (dk_at dksX0_force_1 7 rfl rfl)
abbrev cX0_pen : ByteArray := prog_1_method_14_code
def yX0_pen : MethodName := ⟨RX0, "pen", "(II)I"⟩
def dkwX0_pen_3 : List UInt8 := [180, 0, 166, 27, 122, 4, 126, 172, 42, 180, 0, 138, 27, 182, 0, 169, 172, 2, 172]
abbrev dktX0_pen_3 : List UInt8 := dkwX0_pen_3 ++ []
def dkwX0_pen_2 : List UInt8 := [42, 180, 0, 138, 180, 0, 161, 27, 46, 172, 42, 180, 0, 138, 180, 0, 164, 27, 46, 172, 42, 180, 0, 138]
abbrev dktX0_pen_2 : List UInt8 := dkwX0_pen_2 ++ dktX0_pen_3
def dkwX0_pen_1 : List UInt8 := [170, 0, 0, 0, 70, 0, 0, 0, 0, 0, 0, 0, 3, 0, 0, 0, 29, 0, 0, 0, 39, 0, 0, 0, 49, 0, 0, 0, 61]
abbrev dktX0_pen_1 : List UInt8 := dkwX0_pen_1 ++ dktX0_pen_2
def dkwX0_pen_0 : List UInt8 := [42, 27, 182, 0, 157, 154, 0, 5, 2, 172, 28]
abbrev dktX0_pen_0 : List UInt8 := dkwX0_pen_0 ++ dktX0_pen_1
theorem dksX0_pen_0 : cX0_pen.data.toList.drop 0 = dktX0_pen_0 := by decide +kernel
theorem dksX0_pen_1 : cX0_pen.data.toList.drop 11 = dktX0_pen_1 := dk_seg dksX0_pen_0 11 rfl rfl
theorem dksX0_pen_2 : cX0_pen.data.toList.drop 40 = dktX0_pen_2 := dk_seg dksX0_pen_1 29 rfl rfl
theorem dksX0_pen_3 : cX0_pen.data.toList.drop 64 = dktX0_pen_3 := dk_seg dksX0_pen_2 24 rfl rfl
theorem dX0_pen_0 : decode cX0_pen 0 = .ok (.aload_n 0, 1) := dk_42 (dk_at dksX0_pen_0 0 rfl rfl)
theorem dX0_pen_1 : decode cX0_pen 1 = .ok (.iload_n 1, 1) := dk_27 (dk_at dksX0_pen_0 1 rfl rfl)
theorem dX0_pen_2 : decode cX0_pen 2 = .ok (.invokevirtual 157, 3) := dk_182 0 157 (dk_at dksX0_pen_0 2 rfl rfl)
theorem dX0_pen_5 : decode cX0_pen 5 = .ok (.ifCond .ne 5, 3) := dk_154 0 5 (dk_at dksX0_pen_0 5 rfl rfl)
theorem dX0_pen_8 : decode cX0_pen 8 = .ok (.iconst (-1), 1) := dk_2 (dk_at dksX0_pen_0 8 rfl rfl)
theorem dX0_pen_9 : decode cX0_pen 9 = .ok (.ireturn, 1) := dk_172 (dk_at dksX0_pen_0 9 rfl rfl)
theorem dX0_pen_10 : decode cX0_pen 10 = .ok (.iload_n 2, 1) := dk_28 (dk_at dksX0_pen_0 10 rfl rfl)
theorem dX0_pen_11 : decode cX0_pen 11 = .ok (.tableswitch 70 0 3 #[29, 39, 49, 61], 29) := by decide +kernel
theorem dX0_pen_40 : decode cX0_pen 40 = .ok (.aload_n 0, 1) := dk_42 (dk_at dksX0_pen_2 0 rfl rfl)
theorem dX0_pen_41 : decode cX0_pen 41 = .ok (.getfield 138, 3) := dk_180 0 138 (dk_at dksX0_pen_2 1 rfl rfl)
theorem dX0_pen_44 : decode cX0_pen 44 = .ok (.getfield 161, 3) := dk_180 0 161 (dk_at dksX0_pen_2 4 rfl rfl)
theorem dX0_pen_47 : decode cX0_pen 47 = .ok (.iload_n 1, 1) := dk_27 (dk_at dksX0_pen_2 7 rfl rfl)
theorem dX0_pen_48 : decode cX0_pen 48 = .ok (.iaload, 1) := dk_46 (dk_at dksX0_pen_2 8 rfl rfl)
theorem dX0_pen_49 : decode cX0_pen 49 = .ok (.ireturn, 1) := dk_172 (dk_at dksX0_pen_2 9 rfl rfl)
theorem dX0_pen_50 : decode cX0_pen 50 = .ok (.aload_n 0, 1) := dk_42 (dk_at dksX0_pen_2 10 rfl rfl)
theorem dX0_pen_51 : decode cX0_pen 51 = .ok (.getfield 138, 3) := dk_180 0 138 (dk_at dksX0_pen_2 11 rfl rfl)
theorem dX0_pen_54 : decode cX0_pen 54 = .ok (.getfield 164, 3) := dk_180 0 164 (dk_at dksX0_pen_2 14 rfl rfl)
theorem dX0_pen_57 : decode cX0_pen 57 = .ok (.iload_n 1, 1) := dk_27 (dk_at dksX0_pen_2 17 rfl rfl)
theorem dX0_pen_58 : decode cX0_pen 58 = .ok (.iaload, 1) := dk_46 (dk_at dksX0_pen_2 18 rfl rfl)
theorem dX0_pen_59 : decode cX0_pen 59 = .ok (.ireturn, 1) := dk_172 (dk_at dksX0_pen_2 19 rfl rfl)
theorem dX0_pen_60 : decode cX0_pen 60 = .ok (.aload_n 0, 1) := dk_42 (dk_at dksX0_pen_2 20 rfl rfl)
theorem dX0_pen_61 : decode cX0_pen 61 = .ok (.getfield 138, 3) := dk_180 0 138 (dk_at dksX0_pen_2 21 rfl rfl)
theorem dX0_pen_64 : decode cX0_pen 64 = .ok (.getfield 166, 3) := dk_180 0 166 (dk_at dksX0_pen_3 0 rfl rfl)
theorem dX0_pen_67 : decode cX0_pen 67 = .ok (.iload_n 1, 1) := dk_27 (dk_at dksX0_pen_3 3 rfl rfl)
theorem dX0_pen_68 : decode cX0_pen 68 = .ok (.ishr, 1) := dk_122 (dk_at dksX0_pen_3 4 rfl rfl)
theorem dX0_pen_69 : decode cX0_pen 69 = .ok (.iconst 1, 1) := dk_4 (dk_at dksX0_pen_3 5 rfl rfl)
theorem dX0_pen_70 : decode cX0_pen 70 = .ok (.iand, 1) := dk_126 (dk_at dksX0_pen_3 6 rfl rfl)
theorem dX0_pen_71 : decode cX0_pen 71 = .ok (.ireturn, 1) := dk_172 (dk_at dksX0_pen_3 7 rfl rfl)
theorem dX0_pen_72 : decode cX0_pen 72 = .ok (.aload_n 0, 1) := dk_42 (dk_at dksX0_pen_3 8 rfl rfl)
theorem dX0_pen_73 : decode cX0_pen 73 = .ok (.getfield 138, 3) := dk_180 0 138 (dk_at dksX0_pen_3 9 rfl rfl)
theorem dX0_pen_76 : decode cX0_pen 76 = .ok (.iload_n 1, 1) := dk_27 (dk_at dksX0_pen_3 12 rfl rfl)
theorem dX0_pen_77 : decode cX0_pen 77 = .ok (.invokevirtual 169, 3) := dk_182 0 169 (dk_at dksX0_pen_3 13 rfl rfl)
theorem dX0_pen_80 : decode cX0_pen 80 = .ok (.ireturn, 1) := dk_172 (dk_at dksX0_pen_3 16 rfl rfl)
theorem dX0_pen_81 : decode cX0_pen 81 = .ok (.iconst (-1), 1) := dk_2 (dk_at dksX0_pen_3 17 rfl rfl)
theorem dX0_pen_82 : decode cX0_pen 82 = .ok (.ireturn, 1) := dk_172 (dk_at dksX0_pen_3 18 rfl rfl)
abbrev cX0_isPen : ByteArray := prog_1_method_13_code
def yX0_isPen : MethodName := ⟨RX0, "isPen", "(I)Z"⟩
def dkwX0_isPen_1 : List UInt8 := [167, 0, 4, 3, 172]
abbrev dktX0_isPen_1 : List UInt8 := dkwX0_isPen_1 ++ []
def dkwX0_isPen_0 : List UInt8 := [42, 180, 0, 138, 198, 0, 22, 27, 155, 0, 18, 27, 42, 180, 0, 138, 180, 0, 140, 162, 0, 7, 4]
abbrev dktX0_isPen_0 : List UInt8 := dkwX0_isPen_0 ++ dktX0_isPen_1
theorem dksX0_isPen_0 : cX0_isPen.data.toList.drop 0 = dktX0_isPen_0 := by decide +kernel
theorem dksX0_isPen_1 : cX0_isPen.data.toList.drop 23 = dktX0_isPen_1 := dk_seg dksX0_isPen_0 23 rfl rfl
theorem dX0_isPen_0 : decode cX0_isPen 0 = .ok (.aload_n 0, 1) := dk_42 (dk_at dksX0_isPen_0 0 rfl rfl)
theorem dX0_isPen_1 : decode cX0_isPen 1 = .ok (.getfield 138, 3) := dk_180 0 138 (dk_at dksX0_isPen_0 1 rfl rfl)
theorem dX0_isPen_4 : decode cX0_isPen 4 = .ok (.ifnull 22, 3) := dk_198 0 22 (dk_at dksX0_isPen_0 4 rfl rfl)
theorem dX0_isPen_7 : decode cX0_isPen 7 = .ok (.iload_n 1, 1) := dk_27 (dk_at dksX0_isPen_0 7 rfl rfl)
theorem dX0_isPen_8 : decode cX0_isPen 8 = .ok (.ifCond .lt 18, 3) := dk_155 0 18 (dk_at dksX0_isPen_0 8 rfl rfl)
theorem dX0_isPen_11 : decode cX0_isPen 11 = .ok (.iload_n 1, 1) := dk_27 (dk_at dksX0_isPen_0 11 rfl rfl)
theorem dX0_isPen_12 : decode cX0_isPen 12 = .ok (.aload_n 0, 1) := dk_42 (dk_at dksX0_isPen_0 12 rfl rfl)
theorem dX0_isPen_13 : decode cX0_isPen 13 = .ok (.getfield 138, 3) := dk_180 0 138 (dk_at dksX0_isPen_0 13 rfl rfl)
theorem dX0_isPen_16 : decode cX0_isPen 16 = .ok (.getfield 140, 3) := dk_180 0 140 (dk_at dksX0_isPen_0 16 rfl rfl)
theorem dX0_isPen_19 : decode cX0_isPen 19 = .ok (.if_icmp .ge 7, 3) := dk_162 0 7 (dk_at dksX0_isPen_0 19 rfl rfl)
theorem dX0_isPen_22 : decode cX0_isPen 22 = .ok (.iconst 1, 1) := dk_4 (dk_at dksX0_isPen_0 22 rfl rfl)
theorem dX0_isPen_23 : decode cX0_isPen 23 = .ok (.goto 4, 3) := dk_167 0 4 (dk_at dksX0_isPen_1 0 rfl rfl)
theorem dX0_isPen_26 : decode cX0_isPen 26 = .ok (.iconst 0, 1) := dk_3 (dk_at dksX0_isPen_1 3 rfl rfl)
theorem dX0_isPen_27 : decode cX0_isPen 27 = .ok (.ireturn, 1) := dk_172 (dk_at dksX0_isPen_1 4 rfl rfl)
abbrev cX0_cell : ByteArray := prog_1_method_15_code
def yX0_cell : MethodName := ⟨RX0, "cell", "(II)I"⟩
def dkwX0_cell_3 : List UInt8 := [3, 172]
abbrev dktX0_cell_3 : List UInt8 := dkwX0_cell_3 ++ []
def dkwX0_cell_2 : List UInt8 := [180, 0, 185, 27, 46, 167, 0, 20, 42, 180, 0, 138, 180, 0, 188, 27, 51, 153, 0, 7, 4, 167, 0, 4]
abbrev dktX0_cell_2 : List UInt8 := dkwX0_cell_2 ++ dktX0_cell_3
def dkwX0_cell_1 : List UInt8 := [154, 0, 15, 42, 180, 0, 138, 180, 0, 182, 27, 46, 167, 0, 37, 28, 4, 160, 0, 15, 42, 180, 0, 138]
abbrev dktX0_cell_1 : List UInt8 := dkwX0_cell_1 ++ dktX0_cell_2
def dkwX0_cell_0 : List UInt8 := [42, 27, 182, 0, 173, 153, 0, 15, 28, 133, 9, 20, 0, 176, 184, 0, 178, 154, 0, 6, 16, 254, 172, 28]
abbrev dktX0_cell_0 : List UInt8 := dkwX0_cell_0 ++ dktX0_cell_1
theorem dksX0_cell_0 : cX0_cell.data.toList.drop 0 = dktX0_cell_0 := by decide +kernel
theorem dksX0_cell_1 : cX0_cell.data.toList.drop 24 = dktX0_cell_1 := dk_seg dksX0_cell_0 24 rfl rfl
theorem dksX0_cell_2 : cX0_cell.data.toList.drop 48 = dktX0_cell_2 := dk_seg dksX0_cell_1 24 rfl rfl
theorem dksX0_cell_3 : cX0_cell.data.toList.drop 72 = dktX0_cell_3 := dk_seg dksX0_cell_2 24 rfl rfl
theorem dX0_cell_0 : decode cX0_cell 0 = .ok (.aload_n 0, 1) := dk_42 (dk_at dksX0_cell_0 0 rfl rfl)
theorem dX0_cell_1 : decode cX0_cell 1 = .ok (.iload_n 1, 1) := dk_27 (dk_at dksX0_cell_0 1 rfl rfl)
theorem dX0_cell_2 : decode cX0_cell 2 = .ok (.invokevirtual 173, 3) := dk_182 0 173 (dk_at dksX0_cell_0 2 rfl rfl)
theorem dX0_cell_5 : decode cX0_cell 5 = .ok (.ifCond .eq 15, 3) := dk_153 0 15 (dk_at dksX0_cell_0 5 rfl rfl)
theorem dX0_cell_8 : decode cX0_cell 8 = .ok (.iload_n 2, 1) := dk_28 (dk_at dksX0_cell_0 8 rfl rfl)
theorem dX0_cell_9 : decode cX0_cell 9 = .ok (.i2l, 1) := dk_133 (dk_at dksX0_cell_0 9 rfl rfl)
theorem dX0_cell_10 : decode cX0_cell 10 = .ok (.lconst 0, 1) := dk_9 (dk_at dksX0_cell_0 10 rfl rfl)
theorem dX0_cell_11 : decode cX0_cell 11 = .ok (.ldc2_w 176, 3) := dk_20 0 176 (dk_at dksX0_cell_0 11 rfl rfl)
theorem dX0_cell_14 : decode cX0_cell 14 = .ok (.invokestatic 178, 3) := dk_184 0 178 (dk_at dksX0_cell_0 14 rfl rfl)
theorem dX0_cell_17 : decode cX0_cell 17 = .ok (.ifCond .ne 6, 3) := dk_154 0 6 (dk_at dksX0_cell_0 17 rfl rfl)
theorem dX0_cell_20 : decode cX0_cell 20 = .ok (.bipush (-2), 2) := dk_16 254 (dk_at dksX0_cell_0 20 rfl rfl)
theorem dX0_cell_22 : decode cX0_cell 22 = .ok (.ireturn, 1) := dk_172 (dk_at dksX0_cell_0 22 rfl rfl)
theorem dX0_cell_23 : decode cX0_cell 23 = .ok (.iload_n 2, 1) := dk_28 (dk_at dksX0_cell_0 23 rfl rfl)
theorem dX0_cell_24 : decode cX0_cell 24 = .ok (.ifCond .ne 15, 3) := dk_154 0 15 (dk_at dksX0_cell_1 0 rfl rfl)
theorem dX0_cell_27 : decode cX0_cell 27 = .ok (.aload_n 0, 1) := dk_42 (dk_at dksX0_cell_1 3 rfl rfl)
theorem dX0_cell_28 : decode cX0_cell 28 = .ok (.getfield 138, 3) := dk_180 0 138 (dk_at dksX0_cell_1 4 rfl rfl)
theorem dX0_cell_31 : decode cX0_cell 31 = .ok (.getfield 182, 3) := dk_180 0 182 (dk_at dksX0_cell_1 7 rfl rfl)
theorem dX0_cell_34 : decode cX0_cell 34 = .ok (.iload_n 1, 1) := dk_27 (dk_at dksX0_cell_1 10 rfl rfl)
theorem dX0_cell_35 : decode cX0_cell 35 = .ok (.iaload, 1) := dk_46 (dk_at dksX0_cell_1 11 rfl rfl)
theorem dX0_cell_36 : decode cX0_cell 36 = .ok (.goto 37, 3) := dk_167 0 37 (dk_at dksX0_cell_1 12 rfl rfl)
theorem dX0_cell_39 : decode cX0_cell 39 = .ok (.iload_n 2, 1) := dk_28 (dk_at dksX0_cell_1 15 rfl rfl)
theorem dX0_cell_40 : decode cX0_cell 40 = .ok (.iconst 1, 1) := dk_4 (dk_at dksX0_cell_1 16 rfl rfl)
theorem dX0_cell_41 : decode cX0_cell 41 = .ok (.if_icmp .ne 15, 3) := dk_160 0 15 (dk_at dksX0_cell_1 17 rfl rfl)
theorem dX0_cell_44 : decode cX0_cell 44 = .ok (.aload_n 0, 1) := dk_42 (dk_at dksX0_cell_1 20 rfl rfl)
theorem dX0_cell_45 : decode cX0_cell 45 = .ok (.getfield 138, 3) := dk_180 0 138 (dk_at dksX0_cell_1 21 rfl rfl)
theorem dX0_cell_48 : decode cX0_cell 48 = .ok (.getfield 185, 3) := dk_180 0 185 (dk_at dksX0_cell_2 0 rfl rfl)
theorem dX0_cell_51 : decode cX0_cell 51 = .ok (.iload_n 1, 1) := dk_27 (dk_at dksX0_cell_2 3 rfl rfl)
theorem dX0_cell_52 : decode cX0_cell 52 = .ok (.iaload, 1) := dk_46 (dk_at dksX0_cell_2 4 rfl rfl)
theorem dX0_cell_53 : decode cX0_cell 53 = .ok (.goto 20, 3) := dk_167 0 20 (dk_at dksX0_cell_2 5 rfl rfl)
theorem dX0_cell_56 : decode cX0_cell 56 = .ok (.aload_n 0, 1) := dk_42 (dk_at dksX0_cell_2 8 rfl rfl)
theorem dX0_cell_57 : decode cX0_cell 57 = .ok (.getfield 138, 3) := dk_180 0 138 (dk_at dksX0_cell_2 9 rfl rfl)
theorem dX0_cell_60 : decode cX0_cell 60 = .ok (.getfield 188, 3) := dk_180 0 188 (dk_at dksX0_cell_2 12 rfl rfl)
theorem dX0_cell_63 : decode cX0_cell 63 = .ok (.iload_n 1, 1) := dk_27 (dk_at dksX0_cell_2 15 rfl rfl)
theorem dX0_cell_64 : decode cX0_cell 64 = .ok (.baload, 1) := dk_51 (dk_at dksX0_cell_2 16 rfl rfl)
theorem dX0_cell_65 : decode cX0_cell 65 = .ok (.ifCond .eq 7, 3) := dk_153 0 7 (dk_at dksX0_cell_2 17 rfl rfl)
theorem dX0_cell_68 : decode cX0_cell 68 = .ok (.iconst 1, 1) := dk_4 (dk_at dksX0_cell_2 20 rfl rfl)
theorem dX0_cell_69 : decode cX0_cell 69 = .ok (.goto 4, 3) := dk_167 0 4 (dk_at dksX0_cell_2 21 rfl rfl)
theorem dX0_cell_72 : decode cX0_cell 72 = .ok (.iconst 0, 1) := dk_3 (dk_at dksX0_cell_3 0 rfl rfl)
theorem dX0_cell_73 : decode cX0_cell 73 = .ok (.ireturn, 1) := dk_172 (dk_at dksX0_cell_3 1 rfl rfl)
abbrev cX0_isCell : ByteArray := prog_1_method_12_code
def yX0_isCell : MethodName := ⟨RX0, "isCell", "(I)Z"⟩
def dkwX0_isCell_1 : List UInt8 := [167, 0, 4, 3, 172]
abbrev dktX0_isCell_1 : List UInt8 := dkwX0_isCell_1 ++ []
def dkwX0_isCell_0 : List UInt8 := [42, 180, 0, 138, 198, 0, 22, 27, 155, 0, 18, 27, 42, 180, 0, 138, 182, 0, 154, 162, 0, 7, 4]
abbrev dktX0_isCell_0 : List UInt8 := dkwX0_isCell_0 ++ dktX0_isCell_1
theorem dksX0_isCell_0 : cX0_isCell.data.toList.drop 0 = dktX0_isCell_0 := by decide +kernel
theorem dksX0_isCell_1 : cX0_isCell.data.toList.drop 23 = dktX0_isCell_1 := dk_seg dksX0_isCell_0 23 rfl rfl
theorem dX0_isCell_0 : decode cX0_isCell 0 = .ok (.aload_n 0, 1) := dk_42 (dk_at dksX0_isCell_0 0 rfl rfl)
theorem dX0_isCell_1 : decode cX0_isCell 1 = .ok (.getfield 138, 3) := dk_180 0 138 (dk_at dksX0_isCell_0 1 rfl rfl)
theorem dX0_isCell_4 : decode cX0_isCell 4 = .ok (.ifnull 22, 3) := dk_198 0 22 (dk_at dksX0_isCell_0 4 rfl rfl)
theorem dX0_isCell_7 : decode cX0_isCell 7 = .ok (.iload_n 1, 1) := dk_27 (dk_at dksX0_isCell_0 7 rfl rfl)
theorem dX0_isCell_8 : decode cX0_isCell 8 = .ok (.ifCond .lt 18, 3) := dk_155 0 18 (dk_at dksX0_isCell_0 8 rfl rfl)
theorem dX0_isCell_11 : decode cX0_isCell 11 = .ok (.iload_n 1, 1) := dk_27 (dk_at dksX0_isCell_0 11 rfl rfl)
theorem dX0_isCell_12 : decode cX0_isCell 12 = .ok (.aload_n 0, 1) := dk_42 (dk_at dksX0_isCell_0 12 rfl rfl)
theorem dX0_isCell_13 : decode cX0_isCell 13 = .ok (.getfield 138, 3) := dk_180 0 138 (dk_at dksX0_isCell_0 13 rfl rfl)
theorem dX0_isCell_16 : decode cX0_isCell 16 = .ok (.invokevirtual 154, 3) := dk_182 0 154 (dk_at dksX0_isCell_0 16 rfl rfl)
theorem dX0_isCell_19 : decode cX0_isCell 19 = .ok (.if_icmp .ge 7, 3) := dk_162 0 7 (dk_at dksX0_isCell_0 19 rfl rfl)
theorem dX0_isCell_22 : decode cX0_isCell 22 = .ok (.iconst 1, 1) := dk_4 (dk_at dksX0_isCell_0 22 rfl rfl)
theorem dX0_isCell_23 : decode cX0_isCell 23 = .ok (.goto 4, 3) := dk_167 0 4 (dk_at dksX0_isCell_1 0 rfl rfl)
theorem dX0_isCell_26 : decode cX0_isCell 26 = .ok (.iconst 0, 1) := dk_3 (dk_at dksX0_isCell_1 3 rfl rfl)
theorem dX0_isCell_27 : decode cX0_isCell 27 = .ok (.ireturn, 1) := dk_172 (dk_at dksX0_isCell_1 4 rfl rfl)
abbrev cX0_undo : ByteArray := prog_1_method_17_code
def yX0_undo : MethodName := ⟨RX0, "undo", "()I"⟩
def dkwX0_undo_2 : List UInt8 := [180, 0, 138, 180, 0, 190, 172]
abbrev dktX0_undo_2 : List UInt8 := dkwX0_undo_2 ++ []
def dkwX0_undo_1 : List UInt8 := [89, 180, 0, 190, 4, 100, 181, 0, 190, 42, 180, 0, 138, 42, 180, 0, 138, 180, 0, 190, 182, 0, 205, 42]
abbrev dktX0_undo_1 : List UInt8 := dkwX0_undo_1 ++ dktX0_undo_2
def dkwX0_undo_0 : List UInt8 := [42, 180, 0, 138, 198, 0, 13, 42, 180, 0, 138, 180, 0, 190, 154, 0, 6, 16, 254, 172, 42, 180, 0, 138]
abbrev dktX0_undo_0 : List UInt8 := dkwX0_undo_0 ++ dktX0_undo_1
theorem dksX0_undo_0 : cX0_undo.data.toList.drop 0 = dktX0_undo_0 := by decide +kernel
theorem dksX0_undo_1 : cX0_undo.data.toList.drop 24 = dktX0_undo_1 := dk_seg dksX0_undo_0 24 rfl rfl
theorem dksX0_undo_2 : cX0_undo.data.toList.drop 48 = dktX0_undo_2 := dk_seg dksX0_undo_1 24 rfl rfl
theorem dX0_undo_0 : decode cX0_undo 0 = .ok (.aload_n 0, 1) := dk_42 (dk_at dksX0_undo_0 0 rfl rfl)
theorem dX0_undo_1 : decode cX0_undo 1 = .ok (.getfield 138, 3) := dk_180 0 138 (dk_at dksX0_undo_0 1 rfl rfl)
theorem dX0_undo_4 : decode cX0_undo 4 = .ok (.ifnull 13, 3) := dk_198 0 13 (dk_at dksX0_undo_0 4 rfl rfl)
theorem dX0_undo_7 : decode cX0_undo 7 = .ok (.aload_n 0, 1) := dk_42 (dk_at dksX0_undo_0 7 rfl rfl)
theorem dX0_undo_8 : decode cX0_undo 8 = .ok (.getfield 138, 3) := dk_180 0 138 (dk_at dksX0_undo_0 8 rfl rfl)
theorem dX0_undo_11 : decode cX0_undo 11 = .ok (.getfield 190, 3) := dk_180 0 190 (dk_at dksX0_undo_0 11 rfl rfl)
theorem dX0_undo_14 : decode cX0_undo 14 = .ok (.ifCond .ne 6, 3) := dk_154 0 6 (dk_at dksX0_undo_0 14 rfl rfl)
theorem dX0_undo_17 : decode cX0_undo 17 = .ok (.bipush (-2), 2) := dk_16 254 (dk_at dksX0_undo_0 17 rfl rfl)
theorem dX0_undo_19 : decode cX0_undo 19 = .ok (.ireturn, 1) := dk_172 (dk_at dksX0_undo_0 19 rfl rfl)
theorem dX0_undo_20 : decode cX0_undo 20 = .ok (.aload_n 0, 1) := dk_42 (dk_at dksX0_undo_0 20 rfl rfl)
theorem dX0_undo_21 : decode cX0_undo 21 = .ok (.getfield 138, 3) := dk_180 0 138 (dk_at dksX0_undo_0 21 rfl rfl)
theorem dX0_undo_24 : decode cX0_undo 24 = .ok (.dup, 1) := dk_89 (dk_at dksX0_undo_1 0 rfl rfl)
theorem dX0_undo_25 : decode cX0_undo 25 = .ok (.getfield 190, 3) := dk_180 0 190 (dk_at dksX0_undo_1 1 rfl rfl)
theorem dX0_undo_28 : decode cX0_undo 28 = .ok (.iconst 1, 1) := dk_4 (dk_at dksX0_undo_1 4 rfl rfl)
theorem dX0_undo_29 : decode cX0_undo 29 = .ok (.isub, 1) := dk_100 (dk_at dksX0_undo_1 5 rfl rfl)
theorem dX0_undo_30 : decode cX0_undo 30 = .ok (.putfield 190, 3) := dk_181 0 190 (dk_at dksX0_undo_1 6 rfl rfl)
theorem dX0_undo_33 : decode cX0_undo 33 = .ok (.aload_n 0, 1) := dk_42 (dk_at dksX0_undo_1 9 rfl rfl)
theorem dX0_undo_34 : decode cX0_undo 34 = .ok (.getfield 138, 3) := dk_180 0 138 (dk_at dksX0_undo_1 10 rfl rfl)
theorem dX0_undo_37 : decode cX0_undo 37 = .ok (.aload_n 0, 1) := dk_42 (dk_at dksX0_undo_1 13 rfl rfl)
theorem dX0_undo_38 : decode cX0_undo 38 = .ok (.getfield 138, 3) := dk_180 0 138 (dk_at dksX0_undo_1 14 rfl rfl)
theorem dX0_undo_41 : decode cX0_undo 41 = .ok (.getfield 190, 3) := dk_180 0 190 (dk_at dksX0_undo_1 17 rfl rfl)
theorem dX0_undo_44 : decode cX0_undo 44 = .ok (.invokevirtual 205, 3) := dk_182 0 205 (dk_at dksX0_undo_1 20 rfl rfl)
theorem dX0_undo_47 : decode cX0_undo 47 = .ok (.aload_n 0, 1) := dk_42 (dk_at dksX0_undo_1 23 rfl rfl)
theorem dX0_undo_48 : decode cX0_undo 48 = .ok (.getfield 138, 3) := dk_180 0 138 (dk_at dksX0_undo_2 0 rfl rfl)
theorem dX0_undo_51 : decode cX0_undo 51 = .ok (.getfield 190, 3) := dk_180 0 190 (dk_at dksX0_undo_2 3 rfl rfl)
theorem dX0_undo_54 : decode cX0_undo 54 = .ok (.ireturn, 1) := dk_172 (dk_at dksX0_undo_2 6 rfl rfl)
abbrev cX0_day : ByteArray := prog_1_method_18_code
def yX0_day : MethodName := ⟨RX0, "day", "()I"⟩
def dkwX0_day_1 : List UInt8 := [182, 0, 211, 42, 180, 0, 138, 42, 182, 0, 214, 182, 0, 217, 172]
abbrev dktX0_day_1 : List UInt8 := dkwX0_day_1 ++ []
def dkwX0_day_0 : List UInt8 := [42, 180, 0, 138, 198, 0, 16, 42, 180, 0, 138, 180, 0, 208, 17, 3, 231, 160, 0, 5, 2, 172, 42]
abbrev dktX0_day_0 : List UInt8 := dkwX0_day_0 ++ dktX0_day_1
theorem dksX0_day_0 : cX0_day.data.toList.drop 0 = dktX0_day_0 := by decide +kernel
theorem dksX0_day_1 : cX0_day.data.toList.drop 23 = dktX0_day_1 := dk_seg dksX0_day_0 23 rfl rfl
theorem dX0_day_0 : decode cX0_day 0 = .ok (.aload_n 0, 1) := dk_42 (dk_at dksX0_day_0 0 rfl rfl)
theorem dX0_day_1 : decode cX0_day 1 = .ok (.getfield 138, 3) := dk_180 0 138 (dk_at dksX0_day_0 1 rfl rfl)
theorem dX0_day_4 : decode cX0_day 4 = .ok (.ifnull 16, 3) := dk_198 0 16 (dk_at dksX0_day_0 4 rfl rfl)
theorem dX0_day_7 : decode cX0_day 7 = .ok (.aload_n 0, 1) := dk_42 (dk_at dksX0_day_0 7 rfl rfl)
theorem dX0_day_8 : decode cX0_day 8 = .ok (.getfield 138, 3) := dk_180 0 138 (dk_at dksX0_day_0 8 rfl rfl)
theorem dX0_day_11 : decode cX0_day 11 = .ok (.getfield 208, 3) := dk_180 0 208 (dk_at dksX0_day_0 11 rfl rfl)
theorem dX0_day_14 : decode cX0_day 14 = .ok (.sipush 999, 3) := dk_17 3 231 (dk_at dksX0_day_0 14 rfl rfl)
theorem dX0_day_17 : decode cX0_day 17 = .ok (.if_icmp .ne 5, 3) := dk_160 0 5 (dk_at dksX0_day_0 17 rfl rfl)
theorem dX0_day_20 : decode cX0_day 20 = .ok (.iconst (-1), 1) := dk_2 (dk_at dksX0_day_0 20 rfl rfl)
theorem dX0_day_21 : decode cX0_day 21 = .ok (.ireturn, 1) := dk_172 (dk_at dksX0_day_0 21 rfl rfl)
theorem dX0_day_22 : decode cX0_day 22 = .ok (.aload_n 0, 1) := dk_42 (dk_at dksX0_day_0 22 rfl rfl)
theorem dX0_day_23 : decode cX0_day 23 = .ok (.invokevirtual 211, 3) := dk_182 0 211 (dk_at dksX0_day_1 0 rfl rfl)
theorem dX0_day_26 : decode cX0_day 26 = .ok (.aload_n 0, 1) := dk_42 (dk_at dksX0_day_1 3 rfl rfl)
theorem dX0_day_27 : decode cX0_day 27 = .ok (.getfield 138, 3) := dk_180 0 138 (dk_at dksX0_day_1 4 rfl rfl)
theorem dX0_day_30 : decode cX0_day 30 = .ok (.aload_n 0, 1) := dk_42 (dk_at dksX0_day_1 7 rfl rfl)
theorem dX0_day_31 : decode cX0_day 31 = .ok (.invokevirtual 214, 3) := dk_182 0 214 (dk_at dksX0_day_1 8 rfl rfl)
theorem dX0_day_34 : decode cX0_day 34 = .ok (.invokevirtual 217, 3) := dk_182 0 217 (dk_at dksX0_day_1 11 rfl rfl)
theorem dX0_day_37 : decode cX0_day 37 = .ok (.ireturn, 1) := dk_172 (dk_at dksX0_day_1 14 rfl rfl)
abbrev cX0_keepsAct : ByteArray := prog_1_method_16_code
def yX0_keepsAct : MethodName := ⟨RX0, "keepsAct", "()V"⟩
def dkwX0_keepsAct_3 : List UInt8 := [180, 0, 190, 4, 96, 181, 0, 190, 177]
abbrev dktX0_keepsAct_3 : List UInt8 := dkwX0_keepsAct_3 ++ []
def dkwX0_keepsAct_2 : List UInt8 := [181, 0, 190, 42, 180, 0, 138, 42, 180, 0, 138, 180, 0, 190, 182, 0, 202, 42, 180, 0, 138, 89]
abbrev dktX0_keepsAct_2 : List UInt8 := dkwX0_keepsAct_2 ++ dktX0_keepsAct_3
def dkwX0_keepsAct_1 : List UInt8 := [180, 0, 138, 180, 0, 193, 3, 17, 6, 79, 184, 0, 196, 42, 180, 0, 138, 89, 180, 0, 190, 4, 100]
abbrev dktX0_keepsAct_1 : List UInt8 := dkwX0_keepsAct_1 ++ dktX0_keepsAct_2
def dkwX0_keepsAct_0 : List UInt8 := [42, 180, 0, 138, 180, 0, 190, 16, 20, 160, 0, 39, 42, 180, 0, 138, 180, 0, 193, 16, 85, 42]
abbrev dktX0_keepsAct_0 : List UInt8 := dkwX0_keepsAct_0 ++ dktX0_keepsAct_1
theorem dksX0_keepsAct_0 : cX0_keepsAct.data.toList.drop 0 = dktX0_keepsAct_0 := by decide +kernel
theorem dksX0_keepsAct_1 : cX0_keepsAct.data.toList.drop 22 = dktX0_keepsAct_1 := dk_seg dksX0_keepsAct_0 22 rfl rfl
theorem dksX0_keepsAct_2 : cX0_keepsAct.data.toList.drop 45 = dktX0_keepsAct_2 := dk_seg dksX0_keepsAct_1 23 rfl rfl
theorem dksX0_keepsAct_3 : cX0_keepsAct.data.toList.drop 67 = dktX0_keepsAct_3 := dk_seg dksX0_keepsAct_2 22 rfl rfl
theorem dX0_keepsAct_0 : decode cX0_keepsAct 0 = .ok (.aload_n 0, 1) := dk_42 (dk_at dksX0_keepsAct_0 0 rfl rfl)
theorem dX0_keepsAct_1 : decode cX0_keepsAct 1 = .ok (.getfield 138, 3) := dk_180 0 138 (dk_at dksX0_keepsAct_0 1 rfl rfl)
theorem dX0_keepsAct_4 : decode cX0_keepsAct 4 = .ok (.getfield 190, 3) := dk_180 0 190 (dk_at dksX0_keepsAct_0 4 rfl rfl)
theorem dX0_keepsAct_7 : decode cX0_keepsAct 7 = .ok (.bipush 20, 2) := dk_16 20 (dk_at dksX0_keepsAct_0 7 rfl rfl)
theorem dX0_keepsAct_9 : decode cX0_keepsAct 9 = .ok (.if_icmp .ne 39, 3) := dk_160 0 39 (dk_at dksX0_keepsAct_0 9 rfl rfl)
theorem dX0_keepsAct_12 : decode cX0_keepsAct 12 = .ok (.aload_n 0, 1) := dk_42 (dk_at dksX0_keepsAct_0 12 rfl rfl)
theorem dX0_keepsAct_13 : decode cX0_keepsAct 13 = .ok (.getfield 138, 3) := dk_180 0 138 (dk_at dksX0_keepsAct_0 13 rfl rfl)
theorem dX0_keepsAct_16 : decode cX0_keepsAct 16 = .ok (.getfield 193, 3) := dk_180 0 193 (dk_at dksX0_keepsAct_0 16 rfl rfl)
theorem dX0_keepsAct_19 : decode cX0_keepsAct 19 = .ok (.bipush 85, 2) := dk_16 85 (dk_at dksX0_keepsAct_0 19 rfl rfl)
theorem dX0_keepsAct_21 : decode cX0_keepsAct 21 = .ok (.aload_n 0, 1) := dk_42 (dk_at dksX0_keepsAct_0 21 rfl rfl)
theorem dX0_keepsAct_22 : decode cX0_keepsAct 22 = .ok (.getfield 138, 3) := dk_180 0 138 (dk_at dksX0_keepsAct_1 0 rfl rfl)
theorem dX0_keepsAct_25 : decode cX0_keepsAct 25 = .ok (.getfield 193, 3) := dk_180 0 193 (dk_at dksX0_keepsAct_1 3 rfl rfl)
theorem dX0_keepsAct_28 : decode cX0_keepsAct 28 = .ok (.iconst 0, 1) := dk_3 (dk_at dksX0_keepsAct_1 6 rfl rfl)
theorem dX0_keepsAct_29 : decode cX0_keepsAct 29 = .ok (.sipush 1615, 3) := dk_17 6 79 (dk_at dksX0_keepsAct_1 7 rfl rfl)
theorem dX0_keepsAct_32 : decode cX0_keepsAct 32 = .ok (.invokestatic 196, 3) := dk_184 0 196 (dk_at dksX0_keepsAct_1 10 rfl rfl)
theorem dX0_keepsAct_35 : decode cX0_keepsAct 35 = .ok (.aload_n 0, 1) := dk_42 (dk_at dksX0_keepsAct_1 13 rfl rfl)
theorem dX0_keepsAct_36 : decode cX0_keepsAct 36 = .ok (.getfield 138, 3) := dk_180 0 138 (dk_at dksX0_keepsAct_1 14 rfl rfl)
theorem dX0_keepsAct_39 : decode cX0_keepsAct 39 = .ok (.dup, 1) := dk_89 (dk_at dksX0_keepsAct_1 17 rfl rfl)
theorem dX0_keepsAct_40 : decode cX0_keepsAct 40 = .ok (.getfield 190, 3) := dk_180 0 190 (dk_at dksX0_keepsAct_1 18 rfl rfl)
theorem dX0_keepsAct_43 : decode cX0_keepsAct 43 = .ok (.iconst 1, 1) := dk_4 (dk_at dksX0_keepsAct_1 21 rfl rfl)
theorem dX0_keepsAct_44 : decode cX0_keepsAct 44 = .ok (.isub, 1) := dk_100 (dk_at dksX0_keepsAct_1 22 rfl rfl)
theorem dX0_keepsAct_45 : decode cX0_keepsAct 45 = .ok (.putfield 190, 3) := dk_181 0 190 (dk_at dksX0_keepsAct_2 0 rfl rfl)
theorem dX0_keepsAct_48 : decode cX0_keepsAct 48 = .ok (.aload_n 0, 1) := dk_42 (dk_at dksX0_keepsAct_2 3 rfl rfl)
theorem dX0_keepsAct_49 : decode cX0_keepsAct 49 = .ok (.getfield 138, 3) := dk_180 0 138 (dk_at dksX0_keepsAct_2 4 rfl rfl)
theorem dX0_keepsAct_52 : decode cX0_keepsAct 52 = .ok (.aload_n 0, 1) := dk_42 (dk_at dksX0_keepsAct_2 7 rfl rfl)
theorem dX0_keepsAct_53 : decode cX0_keepsAct 53 = .ok (.getfield 138, 3) := dk_180 0 138 (dk_at dksX0_keepsAct_2 8 rfl rfl)
theorem dX0_keepsAct_56 : decode cX0_keepsAct 56 = .ok (.getfield 190, 3) := dk_180 0 190 (dk_at dksX0_keepsAct_2 11 rfl rfl)
theorem dX0_keepsAct_59 : decode cX0_keepsAct 59 = .ok (.invokevirtual 202, 3) := dk_182 0 202 (dk_at dksX0_keepsAct_2 14 rfl rfl)
theorem dX0_keepsAct_62 : decode cX0_keepsAct 62 = .ok (.aload_n 0, 1) := dk_42 (dk_at dksX0_keepsAct_2 17 rfl rfl)
theorem dX0_keepsAct_63 : decode cX0_keepsAct 63 = .ok (.getfield 138, 3) := dk_180 0 138 (dk_at dksX0_keepsAct_2 18 rfl rfl)
theorem dX0_keepsAct_66 : decode cX0_keepsAct 66 = .ok (.dup, 1) := dk_89 (dk_at dksX0_keepsAct_2 21 rfl rfl)
theorem dX0_keepsAct_67 : decode cX0_keepsAct 67 = .ok (.getfield 190, 3) := dk_180 0 190 (dk_at dksX0_keepsAct_3 0 rfl rfl)
theorem dX0_keepsAct_70 : decode cX0_keepsAct 70 = .ok (.iconst 1, 1) := dk_4 (dk_at dksX0_keepsAct_3 3 rfl rfl)
theorem dX0_keepsAct_71 : decode cX0_keepsAct 71 = .ok (.iadd, 1) := dk_96 (dk_at dksX0_keepsAct_3 4 rfl rfl)
theorem dX0_keepsAct_72 : decode cX0_keepsAct 72 = .ok (.putfield 190, 3) := dk_181 0 190 (dk_at dksX0_keepsAct_3 5 rfl rfl)
theorem dX0_keepsAct_75 : decode cX0_keepsAct 75 = .ok (.return_, 1) := dk_177 (dk_at dksX0_keepsAct_3 8 rfl rfl)
abbrev cX0_law : ByteArray := prog_1_method_11_code
def yX0_law : MethodName := ⟨RX0, "law", "()LSkySpire$Rule;"⟩
def dkwX0_law_0 : List UInt8 := [42, 180, 0, 29, 2, 160, 0, 7, 1, 167, 0, 12, 42, 180, 0, 88, 42, 180, 0, 29, 50, 176]
abbrev dktX0_law_0 : List UInt8 := dkwX0_law_0 ++ []
theorem dksX0_law_0 : cX0_law.data.toList.drop 0 = dktX0_law_0 := by decide +kernel
theorem dX0_law_0 : decode cX0_law 0 = .ok (.aload_n 0, 1) := dk_42 (dk_at dksX0_law_0 0 rfl rfl)
theorem dX0_law_1 : decode cX0_law 1 = .ok (.getfield 29, 3) := dk_180 0 29 (dk_at dksX0_law_0 1 rfl rfl)
theorem dX0_law_4 : decode cX0_law 4 = .ok (.iconst (-1), 1) := dk_2 (dk_at dksX0_law_0 4 rfl rfl)
theorem dX0_law_5 : decode cX0_law 5 = .ok (.if_icmp .ne 7, 3) := dk_160 0 7 (dk_at dksX0_law_0 5 rfl rfl)
theorem dX0_law_8 : decode cX0_law 8 = .ok (.aconst_null, 1) := dk_1 (dk_at dksX0_law_0 8 rfl rfl)
theorem dX0_law_9 : decode cX0_law 9 = .ok (.goto 12, 3) := dk_167 0 12 (dk_at dksX0_law_0 9 rfl rfl)
theorem dX0_law_12 : decode cX0_law 12 = .ok (.aload_n 0, 1) := dk_42 (dk_at dksX0_law_0 12 rfl rfl)
theorem dX0_law_13 : decode cX0_law 13 = .ok (.getfield 88, 3) := dk_180 0 88 (dk_at dksX0_law_0 13 rfl rfl)
theorem dX0_law_16 : decode cX0_law 16 = .ok (.aload_n 0, 1) := dk_42 (dk_at dksX0_law_0 16 rfl rfl)
theorem dX0_law_17 : decode cX0_law 17 = .ok (.getfield 29, 3) := dk_180 0 29 (dk_at dksX0_law_0 17 rfl rfl)
theorem dX0_law_20 : decode cX0_law 20 = .ok (.aaload, 1) := dk_50 (dk_at dksX0_law_0 20 rfl rfl)
theorem dX0_law_21 : decode cX0_law 21 = .ok (.areturn, 1) := dk_176 (dk_at dksX0_law_0 21 rfl rfl)
abbrev cX0_has : ByteArray := prog_1_method_2_code
def yX0_has : MethodName := ⟨RX0, "has", "(II)Z"⟩
def dkwX0_has_0 : List UInt8 := [26, 27, 122, 4, 126, 4, 160, 0, 7, 4, 167, 0, 4, 3, 172]
abbrev dktX0_has_0 : List UInt8 := dkwX0_has_0 ++ []
theorem dksX0_has_0 : cX0_has.data.toList.drop 0 = dktX0_has_0 := by decide +kernel
theorem dX0_has_0 : decode cX0_has 0 = .ok (.iload_n 0, 1) := dk_26 (dk_at dksX0_has_0 0 rfl rfl)
theorem dX0_has_1 : decode cX0_has 1 = .ok (.iload_n 1, 1) := dk_27 (dk_at dksX0_has_0 1 rfl rfl)
theorem dX0_has_2 : decode cX0_has 2 = .ok (.ishr, 1) := dk_122 (dk_at dksX0_has_0 2 rfl rfl)
theorem dX0_has_3 : decode cX0_has 3 = .ok (.iconst 1, 1) := dk_4 (dk_at dksX0_has_0 3 rfl rfl)
theorem dX0_has_4 : decode cX0_has 4 = .ok (.iand, 1) := dk_126 (dk_at dksX0_has_0 4 rfl rfl)
theorem dX0_has_5 : decode cX0_has 5 = .ok (.iconst 1, 1) := dk_4 (dk_at dksX0_has_0 5 rfl rfl)
theorem dX0_has_6 : decode cX0_has 6 = .ok (.if_icmp .ne 7, 3) := dk_160 0 7 (dk_at dksX0_has_0 6 rfl rfl)
theorem dX0_has_9 : decode cX0_has 9 = .ok (.iconst 1, 1) := dk_4 (dk_at dksX0_has_0 9 rfl rfl)
theorem dX0_has_10 : decode cX0_has 10 = .ok (.goto 4, 3) := dk_167 0 4 (dk_at dksX0_has_0 10 rfl rfl)
theorem dX0_has_13 : decode cX0_has 13 = .ok (.iconst 0, 1) := dk_3 (dk_at dksX0_has_0 13 rfl rfl)
theorem dX0_has_14 : decode cX0_has 14 = .ok (.ireturn, 1) := dk_172 (dk_at dksX0_has_0 14 rfl rfl)
abbrev cX0_stay : ByteArray := prog_1_method_19_code
def yX0_stay : MethodName := ⟨RX0, "stay", "(I)I"⟩
def dkwX0_stay_1 : List UInt8 := [120, 130, 181, 0, 166, 42, 180, 0, 138, 180, 0, 166, 172]
abbrev dktX0_stay_1 : List UInt8 := dkwX0_stay_1 ++ []
def dkwX0_stay_0 : List UInt8 := [42, 27, 182, 0, 157, 154, 0, 5, 2, 172, 42, 182, 0, 211, 42, 180, 0, 138, 89, 180, 0, 166, 4, 27]
abbrev dktX0_stay_0 : List UInt8 := dkwX0_stay_0 ++ dktX0_stay_1
theorem dksX0_stay_0 : cX0_stay.data.toList.drop 0 = dktX0_stay_0 := by decide +kernel
theorem dksX0_stay_1 : cX0_stay.data.toList.drop 24 = dktX0_stay_1 := dk_seg dksX0_stay_0 24 rfl rfl
theorem dX0_stay_0 : decode cX0_stay 0 = .ok (.aload_n 0, 1) := dk_42 (dk_at dksX0_stay_0 0 rfl rfl)
theorem dX0_stay_1 : decode cX0_stay 1 = .ok (.iload_n 1, 1) := dk_27 (dk_at dksX0_stay_0 1 rfl rfl)
theorem dX0_stay_2 : decode cX0_stay 2 = .ok (.invokevirtual 157, 3) := dk_182 0 157 (dk_at dksX0_stay_0 2 rfl rfl)
theorem dX0_stay_5 : decode cX0_stay 5 = .ok (.ifCond .ne 5, 3) := dk_154 0 5 (dk_at dksX0_stay_0 5 rfl rfl)
theorem dX0_stay_8 : decode cX0_stay 8 = .ok (.iconst (-1), 1) := dk_2 (dk_at dksX0_stay_0 8 rfl rfl)
theorem dX0_stay_9 : decode cX0_stay 9 = .ok (.ireturn, 1) := dk_172 (dk_at dksX0_stay_0 9 rfl rfl)
theorem dX0_stay_10 : decode cX0_stay 10 = .ok (.aload_n 0, 1) := dk_42 (dk_at dksX0_stay_0 10 rfl rfl)
theorem dX0_stay_11 : decode cX0_stay 11 = .ok (.invokevirtual 211, 3) := dk_182 0 211 (dk_at dksX0_stay_0 11 rfl rfl)
theorem dX0_stay_14 : decode cX0_stay 14 = .ok (.aload_n 0, 1) := dk_42 (dk_at dksX0_stay_0 14 rfl rfl)
theorem dX0_stay_15 : decode cX0_stay 15 = .ok (.getfield 138, 3) := dk_180 0 138 (dk_at dksX0_stay_0 15 rfl rfl)
theorem dX0_stay_18 : decode cX0_stay 18 = .ok (.dup, 1) := dk_89 (dk_at dksX0_stay_0 18 rfl rfl)
theorem dX0_stay_19 : decode cX0_stay 19 = .ok (.getfield 166, 3) := dk_180 0 166 (dk_at dksX0_stay_0 19 rfl rfl)
theorem dX0_stay_22 : decode cX0_stay 22 = .ok (.iconst 1, 1) := dk_4 (dk_at dksX0_stay_0 22 rfl rfl)
theorem dX0_stay_23 : decode cX0_stay 23 = .ok (.iload_n 1, 1) := dk_27 (dk_at dksX0_stay_0 23 rfl rfl)
theorem dX0_stay_24 : decode cX0_stay 24 = .ok (.ishl, 1) := dk_120 (dk_at dksX0_stay_1 0 rfl rfl)
theorem dX0_stay_25 : decode cX0_stay 25 = .ok (.ixor, 1) := dk_130 (dk_at dksX0_stay_1 1 rfl rfl)
theorem dX0_stay_26 : decode cX0_stay 26 = .ok (.putfield 166, 3) := dk_181 0 166 (dk_at dksX0_stay_1 2 rfl rfl)
theorem dX0_stay_29 : decode cX0_stay 29 = .ok (.aload_n 0, 1) := dk_42 (dk_at dksX0_stay_1 5 rfl rfl)
theorem dX0_stay_30 : decode cX0_stay 30 = .ok (.getfield 138, 3) := dk_180 0 138 (dk_at dksX0_stay_1 6 rfl rfl)
theorem dX0_stay_33 : decode cX0_stay 33 = .ok (.getfield 166, 3) := dk_180 0 166 (dk_at dksX0_stay_1 9 rfl rfl)
theorem dX0_stay_36 : decode cX0_stay 36 = .ok (.ireturn, 1) := dk_172 (dk_at dksX0_stay_1 12 rfl rfl)
abbrev cX0_set : ByteArray := prog_1_method_20_code
def yX0_set : MethodName := ⟨RX0, "set", "(II)I"⟩
def dkwX0_set_2 : List UInt8 := [180, 0, 138, 180, 0, 161, 27, 28, 79, 29, 172]
abbrev dktX0_set_2 : List UInt8 := dkwX0_set_2 ++ []
def dkwX0_set_1 : List UInt8 := [46, 28, 160, 0, 5, 2, 172, 42, 182, 0, 211, 42, 180, 0, 138, 180, 0, 161, 27, 46, 62, 42]
abbrev dktX0_set_1 : List UInt8 := dkwX0_set_1 ++ dktX0_set_2
def dkwX0_set_0 : List UInt8 := [42, 27, 182, 0, 157, 153, 0, 24, 42, 28, 182, 0, 173, 153, 0, 16, 42, 180, 0, 138, 180, 0, 161, 27]
abbrev dktX0_set_0 : List UInt8 := dkwX0_set_0 ++ dktX0_set_1
theorem dksX0_set_0 : cX0_set.data.toList.drop 0 = dktX0_set_0 := by decide +kernel
theorem dksX0_set_1 : cX0_set.data.toList.drop 24 = dktX0_set_1 := dk_seg dksX0_set_0 24 rfl rfl
theorem dksX0_set_2 : cX0_set.data.toList.drop 46 = dktX0_set_2 := dk_seg dksX0_set_1 22 rfl rfl
theorem dX0_set_0 : decode cX0_set 0 = .ok (.aload_n 0, 1) := dk_42 (dk_at dksX0_set_0 0 rfl rfl)
theorem dX0_set_1 : decode cX0_set 1 = .ok (.iload_n 1, 1) := dk_27 (dk_at dksX0_set_0 1 rfl rfl)
theorem dX0_set_2 : decode cX0_set 2 = .ok (.invokevirtual 157, 3) := dk_182 0 157 (dk_at dksX0_set_0 2 rfl rfl)
theorem dX0_set_5 : decode cX0_set 5 = .ok (.ifCond .eq 24, 3) := dk_153 0 24 (dk_at dksX0_set_0 5 rfl rfl)
theorem dX0_set_8 : decode cX0_set 8 = .ok (.aload_n 0, 1) := dk_42 (dk_at dksX0_set_0 8 rfl rfl)
theorem dX0_set_9 : decode cX0_set 9 = .ok (.iload_n 2, 1) := dk_28 (dk_at dksX0_set_0 9 rfl rfl)
theorem dX0_set_10 : decode cX0_set 10 = .ok (.invokevirtual 173, 3) := dk_182 0 173 (dk_at dksX0_set_0 10 rfl rfl)
theorem dX0_set_13 : decode cX0_set 13 = .ok (.ifCond .eq 16, 3) := dk_153 0 16 (dk_at dksX0_set_0 13 rfl rfl)
theorem dX0_set_16 : decode cX0_set 16 = .ok (.aload_n 0, 1) := dk_42 (dk_at dksX0_set_0 16 rfl rfl)
theorem dX0_set_17 : decode cX0_set 17 = .ok (.getfield 138, 3) := dk_180 0 138 (dk_at dksX0_set_0 17 rfl rfl)
theorem dX0_set_20 : decode cX0_set 20 = .ok (.getfield 161, 3) := dk_180 0 161 (dk_at dksX0_set_0 20 rfl rfl)
theorem dX0_set_23 : decode cX0_set 23 = .ok (.iload_n 1, 1) := dk_27 (dk_at dksX0_set_0 23 rfl rfl)
theorem dX0_set_24 : decode cX0_set 24 = .ok (.iaload, 1) := dk_46 (dk_at dksX0_set_1 0 rfl rfl)
theorem dX0_set_25 : decode cX0_set 25 = .ok (.iload_n 2, 1) := dk_28 (dk_at dksX0_set_1 1 rfl rfl)
theorem dX0_set_26 : decode cX0_set 26 = .ok (.if_icmp .ne 5, 3) := dk_160 0 5 (dk_at dksX0_set_1 2 rfl rfl)
theorem dX0_set_29 : decode cX0_set 29 = .ok (.iconst (-1), 1) := dk_2 (dk_at dksX0_set_1 5 rfl rfl)
theorem dX0_set_30 : decode cX0_set 30 = .ok (.ireturn, 1) := dk_172 (dk_at dksX0_set_1 6 rfl rfl)
theorem dX0_set_31 : decode cX0_set 31 = .ok (.aload_n 0, 1) := dk_42 (dk_at dksX0_set_1 7 rfl rfl)
theorem dX0_set_32 : decode cX0_set 32 = .ok (.invokevirtual 211, 3) := dk_182 0 211 (dk_at dksX0_set_1 8 rfl rfl)
theorem dX0_set_35 : decode cX0_set 35 = .ok (.aload_n 0, 1) := dk_42 (dk_at dksX0_set_1 11 rfl rfl)
theorem dX0_set_36 : decode cX0_set 36 = .ok (.getfield 138, 3) := dk_180 0 138 (dk_at dksX0_set_1 12 rfl rfl)
theorem dX0_set_39 : decode cX0_set 39 = .ok (.getfield 161, 3) := dk_180 0 161 (dk_at dksX0_set_1 15 rfl rfl)
theorem dX0_set_42 : decode cX0_set 42 = .ok (.iload_n 1, 1) := dk_27 (dk_at dksX0_set_1 18 rfl rfl)
theorem dX0_set_43 : decode cX0_set 43 = .ok (.iaload, 1) := dk_46 (dk_at dksX0_set_1 19 rfl rfl)
theorem dX0_set_44 : decode cX0_set 44 = .ok (.istore_n 3, 1) := dk_62 (dk_at dksX0_set_1 20 rfl rfl)
theorem dX0_set_45 : decode cX0_set 45 = .ok (.aload_n 0, 1) := dk_42 (dk_at dksX0_set_1 21 rfl rfl)
theorem dX0_set_46 : decode cX0_set 46 = .ok (.getfield 138, 3) := dk_180 0 138 (dk_at dksX0_set_2 0 rfl rfl)
theorem dX0_set_49 : decode cX0_set 49 = .ok (.getfield 161, 3) := dk_180 0 161 (dk_at dksX0_set_2 3 rfl rfl)
theorem dX0_set_52 : decode cX0_set 52 = .ok (.iload_n 1, 1) := dk_27 (dk_at dksX0_set_2 6 rfl rfl)
theorem dX0_set_53 : decode cX0_set 53 = .ok (.iload_n 2, 1) := dk_28 (dk_at dksX0_set_2 7 rfl rfl)
theorem dX0_set_54 : decode cX0_set 54 = .ok (.iastore, 1) := dk_79 (dk_at dksX0_set_2 8 rfl rfl)
theorem dX0_set_55 : decode cX0_set 55 = .ok (.iload_n 3, 1) := dk_29 (dk_at dksX0_set_2 9 rfl rfl)
theorem dX0_set_56 : decode cX0_set 56 = .ok (.ireturn, 1) := dk_172 (dk_at dksX0_set_2 10 rfl rfl)
abbrev cX0_bend : ByteArray := prog_1_method_21_code
def yX0_bend : MethodName := ⟨RX0, "bend", "(II)I"⟩
def dkwX0_bend_2 : List UInt8 := [62, 42, 180, 0, 138, 180, 0, 164, 27, 28, 79, 29, 172]
abbrev dktX0_bend_2 : List UInt8 := dkwX0_bend_2 ++ []
def dkwX0_bend_1 : List UInt8 := [180, 0, 164, 27, 46, 28, 160, 0, 5, 2, 172, 42, 182, 0, 211, 42, 180, 0, 138, 180, 0, 164, 27, 46]
abbrev dktX0_bend_1 : List UInt8 := dkwX0_bend_1 ++ dktX0_bend_2
def dkwX0_bend_0 : List UInt8 := [42, 27, 182, 0, 157, 153, 0, 28, 28, 133, 9, 20, 0, 221, 184, 0, 178, 153, 0, 16, 42, 180, 0, 138]
abbrev dktX0_bend_0 : List UInt8 := dkwX0_bend_0 ++ dktX0_bend_1
theorem dksX0_bend_0 : cX0_bend.data.toList.drop 0 = dktX0_bend_0 := by decide +kernel
theorem dksX0_bend_1 : cX0_bend.data.toList.drop 24 = dktX0_bend_1 := dk_seg dksX0_bend_0 24 rfl rfl
theorem dksX0_bend_2 : cX0_bend.data.toList.drop 48 = dktX0_bend_2 := dk_seg dksX0_bend_1 24 rfl rfl
theorem dX0_bend_0 : decode cX0_bend 0 = .ok (.aload_n 0, 1) := dk_42 (dk_at dksX0_bend_0 0 rfl rfl)
theorem dX0_bend_1 : decode cX0_bend 1 = .ok (.iload_n 1, 1) := dk_27 (dk_at dksX0_bend_0 1 rfl rfl)
theorem dX0_bend_2 : decode cX0_bend 2 = .ok (.invokevirtual 157, 3) := dk_182 0 157 (dk_at dksX0_bend_0 2 rfl rfl)
theorem dX0_bend_5 : decode cX0_bend 5 = .ok (.ifCond .eq 28, 3) := dk_153 0 28 (dk_at dksX0_bend_0 5 rfl rfl)
theorem dX0_bend_8 : decode cX0_bend 8 = .ok (.iload_n 2, 1) := dk_28 (dk_at dksX0_bend_0 8 rfl rfl)
theorem dX0_bend_9 : decode cX0_bend 9 = .ok (.i2l, 1) := dk_133 (dk_at dksX0_bend_0 9 rfl rfl)
theorem dX0_bend_10 : decode cX0_bend 10 = .ok (.lconst 0, 1) := dk_9 (dk_at dksX0_bend_0 10 rfl rfl)
theorem dX0_bend_11 : decode cX0_bend 11 = .ok (.ldc2_w 221, 3) := dk_20 0 221 (dk_at dksX0_bend_0 11 rfl rfl)
theorem dX0_bend_14 : decode cX0_bend 14 = .ok (.invokestatic 178, 3) := dk_184 0 178 (dk_at dksX0_bend_0 14 rfl rfl)
theorem dX0_bend_17 : decode cX0_bend 17 = .ok (.ifCond .eq 16, 3) := dk_153 0 16 (dk_at dksX0_bend_0 17 rfl rfl)
theorem dX0_bend_20 : decode cX0_bend 20 = .ok (.aload_n 0, 1) := dk_42 (dk_at dksX0_bend_0 20 rfl rfl)
theorem dX0_bend_21 : decode cX0_bend 21 = .ok (.getfield 138, 3) := dk_180 0 138 (dk_at dksX0_bend_0 21 rfl rfl)
theorem dX0_bend_24 : decode cX0_bend 24 = .ok (.getfield 164, 3) := dk_180 0 164 (dk_at dksX0_bend_1 0 rfl rfl)
theorem dX0_bend_27 : decode cX0_bend 27 = .ok (.iload_n 1, 1) := dk_27 (dk_at dksX0_bend_1 3 rfl rfl)
theorem dX0_bend_28 : decode cX0_bend 28 = .ok (.iaload, 1) := dk_46 (dk_at dksX0_bend_1 4 rfl rfl)
theorem dX0_bend_29 : decode cX0_bend 29 = .ok (.iload_n 2, 1) := dk_28 (dk_at dksX0_bend_1 5 rfl rfl)
theorem dX0_bend_30 : decode cX0_bend 30 = .ok (.if_icmp .ne 5, 3) := dk_160 0 5 (dk_at dksX0_bend_1 6 rfl rfl)
theorem dX0_bend_33 : decode cX0_bend 33 = .ok (.iconst (-1), 1) := dk_2 (dk_at dksX0_bend_1 9 rfl rfl)
theorem dX0_bend_34 : decode cX0_bend 34 = .ok (.ireturn, 1) := dk_172 (dk_at dksX0_bend_1 10 rfl rfl)
theorem dX0_bend_35 : decode cX0_bend 35 = .ok (.aload_n 0, 1) := dk_42 (dk_at dksX0_bend_1 11 rfl rfl)
theorem dX0_bend_36 : decode cX0_bend 36 = .ok (.invokevirtual 211, 3) := dk_182 0 211 (dk_at dksX0_bend_1 12 rfl rfl)
theorem dX0_bend_39 : decode cX0_bend 39 = .ok (.aload_n 0, 1) := dk_42 (dk_at dksX0_bend_1 15 rfl rfl)
theorem dX0_bend_40 : decode cX0_bend 40 = .ok (.getfield 138, 3) := dk_180 0 138 (dk_at dksX0_bend_1 16 rfl rfl)
theorem dX0_bend_43 : decode cX0_bend 43 = .ok (.getfield 164, 3) := dk_180 0 164 (dk_at dksX0_bend_1 19 rfl rfl)
theorem dX0_bend_46 : decode cX0_bend 46 = .ok (.iload_n 1, 1) := dk_27 (dk_at dksX0_bend_1 22 rfl rfl)
theorem dX0_bend_47 : decode cX0_bend 47 = .ok (.iaload, 1) := dk_46 (dk_at dksX0_bend_1 23 rfl rfl)
theorem dX0_bend_48 : decode cX0_bend 48 = .ok (.istore_n 3, 1) := dk_62 (dk_at dksX0_bend_2 0 rfl rfl)
theorem dX0_bend_49 : decode cX0_bend 49 = .ok (.aload_n 0, 1) := dk_42 (dk_at dksX0_bend_2 1 rfl rfl)
theorem dX0_bend_50 : decode cX0_bend 50 = .ok (.getfield 138, 3) := dk_180 0 138 (dk_at dksX0_bend_2 2 rfl rfl)
theorem dX0_bend_53 : decode cX0_bend 53 = .ok (.getfield 164, 3) := dk_180 0 164 (dk_at dksX0_bend_2 5 rfl rfl)
theorem dX0_bend_56 : decode cX0_bend 56 = .ok (.iload_n 1, 1) := dk_27 (dk_at dksX0_bend_2 8 rfl rfl)
theorem dX0_bend_57 : decode cX0_bend 57 = .ok (.iload_n 2, 1) := dk_28 (dk_at dksX0_bend_2 9 rfl rfl)
theorem dX0_bend_58 : decode cX0_bend 58 = .ok (.iastore, 1) := dk_79 (dk_at dksX0_bend_2 10 rfl rfl)
theorem dX0_bend_59 : decode cX0_bend 59 = .ok (.iload_n 3, 1) := dk_29 (dk_at dksX0_bend_2 11 rfl rfl)
theorem dX0_bend_60 : decode cX0_bend 60 = .ok (.ireturn, 1) := dk_172 (dk_at dksX0_bend_2 12 rfl rfl)
abbrev cX0_blot : ByteArray := prog_1_method_22_code
def yX0_blot : MethodName := ⟨RX0, "blot", "(I)I"⟩
def dkwX0_blot_1 : List UInt8 := [182, 0, 211, 42, 180, 0, 138, 180, 0, 182, 27, 46, 61, 42, 180, 0, 138, 27, 182, 0, 223, 28, 172]
abbrev dktX0_blot_1 : List UInt8 := dkwX0_blot_1 ++ []
def dkwX0_blot_0 : List UInt8 := [42, 27, 182, 0, 173, 153, 0, 16, 42, 180, 0, 138, 180, 0, 182, 27, 46, 2, 160, 0, 5, 2, 172, 42]
abbrev dktX0_blot_0 : List UInt8 := dkwX0_blot_0 ++ dktX0_blot_1
theorem dksX0_blot_0 : cX0_blot.data.toList.drop 0 = dktX0_blot_0 := by decide +kernel
theorem dksX0_blot_1 : cX0_blot.data.toList.drop 24 = dktX0_blot_1 := dk_seg dksX0_blot_0 24 rfl rfl
theorem dX0_blot_0 : decode cX0_blot 0 = .ok (.aload_n 0, 1) := dk_42 (dk_at dksX0_blot_0 0 rfl rfl)
theorem dX0_blot_1 : decode cX0_blot 1 = .ok (.iload_n 1, 1) := dk_27 (dk_at dksX0_blot_0 1 rfl rfl)
theorem dX0_blot_2 : decode cX0_blot 2 = .ok (.invokevirtual 173, 3) := dk_182 0 173 (dk_at dksX0_blot_0 2 rfl rfl)
theorem dX0_blot_5 : decode cX0_blot 5 = .ok (.ifCond .eq 16, 3) := dk_153 0 16 (dk_at dksX0_blot_0 5 rfl rfl)
theorem dX0_blot_8 : decode cX0_blot 8 = .ok (.aload_n 0, 1) := dk_42 (dk_at dksX0_blot_0 8 rfl rfl)
theorem dX0_blot_9 : decode cX0_blot 9 = .ok (.getfield 138, 3) := dk_180 0 138 (dk_at dksX0_blot_0 9 rfl rfl)
theorem dX0_blot_12 : decode cX0_blot 12 = .ok (.getfield 182, 3) := dk_180 0 182 (dk_at dksX0_blot_0 12 rfl rfl)
theorem dX0_blot_15 : decode cX0_blot 15 = .ok (.iload_n 1, 1) := dk_27 (dk_at dksX0_blot_0 15 rfl rfl)
theorem dX0_blot_16 : decode cX0_blot 16 = .ok (.iaload, 1) := dk_46 (dk_at dksX0_blot_0 16 rfl rfl)
theorem dX0_blot_17 : decode cX0_blot 17 = .ok (.iconst (-1), 1) := dk_2 (dk_at dksX0_blot_0 17 rfl rfl)
theorem dX0_blot_18 : decode cX0_blot 18 = .ok (.if_icmp .ne 5, 3) := dk_160 0 5 (dk_at dksX0_blot_0 18 rfl rfl)
theorem dX0_blot_21 : decode cX0_blot 21 = .ok (.iconst (-1), 1) := dk_2 (dk_at dksX0_blot_0 21 rfl rfl)
theorem dX0_blot_22 : decode cX0_blot 22 = .ok (.ireturn, 1) := dk_172 (dk_at dksX0_blot_0 22 rfl rfl)
theorem dX0_blot_23 : decode cX0_blot 23 = .ok (.aload_n 0, 1) := dk_42 (dk_at dksX0_blot_0 23 rfl rfl)
theorem dX0_blot_24 : decode cX0_blot 24 = .ok (.invokevirtual 211, 3) := dk_182 0 211 (dk_at dksX0_blot_1 0 rfl rfl)
theorem dX0_blot_27 : decode cX0_blot 27 = .ok (.aload_n 0, 1) := dk_42 (dk_at dksX0_blot_1 3 rfl rfl)
theorem dX0_blot_28 : decode cX0_blot 28 = .ok (.getfield 138, 3) := dk_180 0 138 (dk_at dksX0_blot_1 4 rfl rfl)
theorem dX0_blot_31 : decode cX0_blot 31 = .ok (.getfield 182, 3) := dk_180 0 182 (dk_at dksX0_blot_1 7 rfl rfl)
theorem dX0_blot_34 : decode cX0_blot 34 = .ok (.iload_n 1, 1) := dk_27 (dk_at dksX0_blot_1 10 rfl rfl)
theorem dX0_blot_35 : decode cX0_blot 35 = .ok (.iaload, 1) := dk_46 (dk_at dksX0_blot_1 11 rfl rfl)
theorem dX0_blot_36 : decode cX0_blot 36 = .ok (.istore_n 2, 1) := dk_61 (dk_at dksX0_blot_1 12 rfl rfl)
theorem dX0_blot_37 : decode cX0_blot 37 = .ok (.aload_n 0, 1) := dk_42 (dk_at dksX0_blot_1 13 rfl rfl)
theorem dX0_blot_38 : decode cX0_blot 38 = .ok (.getfield 138, 3) := dk_180 0 138 (dk_at dksX0_blot_1 14 rfl rfl)
theorem dX0_blot_41 : decode cX0_blot 41 = .ok (.iload_n 1, 1) := dk_27 (dk_at dksX0_blot_1 17 rfl rfl)
theorem dX0_blot_42 : decode cX0_blot 42 = .ok (.invokevirtual 223, 3) := dk_182 0 223 (dk_at dksX0_blot_1 18 rfl rfl)
theorem dX0_blot_45 : decode cX0_blot 45 = .ok (.iload_n 2, 1) := dk_28 (dk_at dksX0_blot_1 21 rfl rfl)
theorem dX0_blot_46 : decode cX0_blot 46 = .ok (.ireturn, 1) := dk_172 (dk_at dksX0_blot_1 22 rfl rfl)
abbrev cX0_ahead : ByteArray := prog_1_method_23_code
def yX0_ahead : MethodName := ⟨RX0, "ahead", "(III)I"⟩
def dkwX0_ahead_6 : List UInt8 := [182, 0, 234, 172, 42, 180, 0, 16, 182, 0, 237, 172]
abbrev dktX0_ahead_6 : List UInt8 := dkwX0_ahead_6 ++ []
def dkwX0_ahead_5 : List UInt8 := [42, 180, 0, 16, 180, 0, 182, 27, 46, 172, 42, 180, 0, 16, 180, 0, 161, 27, 46, 172, 42, 180, 0, 16]
abbrev dktX0_ahead_5 : List UInt8 := dkwX0_ahead_5 ++ dktX0_ahead_6
def dkwX0_ahead_4 : List UInt8 := [170, 0, 0, 0, 53, 0, 0, 0, 0, 0, 0, 0, 2, 0, 0, 0, 25, 0, 0, 0, 35, 0, 0, 0, 45]
abbrev dktX0_ahead_4 : List UInt8 := dkwX0_ahead_4 ++ dktX0_ahead_5
def dkwX0_ahead_3 : List UInt8 := [182, 0, 134, 28, 42, 182, 0, 214, 182, 0, 230, 87, 29]
abbrev dktX0_ahead_3 : List UInt8 := dkwX0_ahead_3 ++ dktX0_ahead_4
def dkwX0_ahead_2 : List UInt8 := [29, 4, 160, 0, 14, 42, 27, 182, 0, 157, 154, 0, 6, 16, 254, 172, 42, 180, 0, 16, 42, 180, 0, 138]
abbrev dktX0_ahead_2 : List UInt8 := dkwX0_ahead_2 ++ dktX0_ahead_3
def dkwX0_ahead_1 : List UInt8 := [20, 0, 228, 184, 0, 178, 154, 0, 6, 16, 254, 172, 29, 154, 0, 11, 42, 27, 182, 0, 173, 153, 0, 16]
abbrev dktX0_ahead_1 : List UInt8 := dkwX0_ahead_1 ++ dktX0_ahead_2
def dkwX0_ahead_0 : List UInt8 := [42, 180, 0, 138, 198, 0, 27, 28, 133, 9, 20, 0, 226, 184, 0, 178, 153, 0, 15, 29, 133, 9]
abbrev dktX0_ahead_0 : List UInt8 := dkwX0_ahead_0 ++ dktX0_ahead_1
theorem dksX0_ahead_0 : cX0_ahead.data.toList.drop 0 = dktX0_ahead_0 := by decide +kernel
theorem dksX0_ahead_1 : cX0_ahead.data.toList.drop 22 = dktX0_ahead_1 := dk_seg dksX0_ahead_0 22 rfl rfl
theorem dksX0_ahead_2 : cX0_ahead.data.toList.drop 46 = dktX0_ahead_2 := dk_seg dksX0_ahead_1 24 rfl rfl
theorem dksX0_ahead_3 : cX0_ahead.data.toList.drop 70 = dktX0_ahead_3 := dk_seg dksX0_ahead_2 24 rfl rfl
theorem dksX0_ahead_4 : cX0_ahead.data.toList.drop 83 = dktX0_ahead_4 := dk_seg dksX0_ahead_3 13 rfl rfl
theorem dksX0_ahead_5 : cX0_ahead.data.toList.drop 108 = dktX0_ahead_5 := dk_seg dksX0_ahead_4 25 rfl rfl
theorem dksX0_ahead_6 : cX0_ahead.data.toList.drop 132 = dktX0_ahead_6 := dk_seg dksX0_ahead_5 24 rfl rfl
theorem dX0_ahead_0 : decode cX0_ahead 0 = .ok (.aload_n 0, 1) := dk_42 (dk_at dksX0_ahead_0 0 rfl rfl)
theorem dX0_ahead_1 : decode cX0_ahead 1 = .ok (.getfield 138, 3) := dk_180 0 138 (dk_at dksX0_ahead_0 1 rfl rfl)
theorem dX0_ahead_4 : decode cX0_ahead 4 = .ok (.ifnull 27, 3) := dk_198 0 27 (dk_at dksX0_ahead_0 4 rfl rfl)
theorem dX0_ahead_7 : decode cX0_ahead 7 = .ok (.iload_n 2, 1) := dk_28 (dk_at dksX0_ahead_0 7 rfl rfl)
theorem dX0_ahead_8 : decode cX0_ahead 8 = .ok (.i2l, 1) := dk_133 (dk_at dksX0_ahead_0 8 rfl rfl)
theorem dX0_ahead_9 : decode cX0_ahead 9 = .ok (.lconst 0, 1) := dk_9 (dk_at dksX0_ahead_0 9 rfl rfl)
theorem dX0_ahead_10 : decode cX0_ahead 10 = .ok (.ldc2_w 226, 3) := dk_20 0 226 (dk_at dksX0_ahead_0 10 rfl rfl)
theorem dX0_ahead_13 : decode cX0_ahead 13 = .ok (.invokestatic 178, 3) := dk_184 0 178 (dk_at dksX0_ahead_0 13 rfl rfl)
theorem dX0_ahead_16 : decode cX0_ahead 16 = .ok (.ifCond .eq 15, 3) := dk_153 0 15 (dk_at dksX0_ahead_0 16 rfl rfl)
theorem dX0_ahead_19 : decode cX0_ahead 19 = .ok (.iload_n 3, 1) := dk_29 (dk_at dksX0_ahead_0 19 rfl rfl)
theorem dX0_ahead_20 : decode cX0_ahead 20 = .ok (.i2l, 1) := dk_133 (dk_at dksX0_ahead_0 20 rfl rfl)
theorem dX0_ahead_21 : decode cX0_ahead 21 = .ok (.lconst 0, 1) := dk_9 (dk_at dksX0_ahead_0 21 rfl rfl)
theorem dX0_ahead_22 : decode cX0_ahead 22 = .ok (.ldc2_w 228, 3) := dk_20 0 228 (dk_at dksX0_ahead_1 0 rfl rfl)
theorem dX0_ahead_25 : decode cX0_ahead 25 = .ok (.invokestatic 178, 3) := dk_184 0 178 (dk_at dksX0_ahead_1 3 rfl rfl)
theorem dX0_ahead_28 : decode cX0_ahead 28 = .ok (.ifCond .ne 6, 3) := dk_154 0 6 (dk_at dksX0_ahead_1 6 rfl rfl)
theorem dX0_ahead_31 : decode cX0_ahead 31 = .ok (.bipush (-2), 2) := dk_16 254 (dk_at dksX0_ahead_1 9 rfl rfl)
theorem dX0_ahead_33 : decode cX0_ahead 33 = .ok (.ireturn, 1) := dk_172 (dk_at dksX0_ahead_1 11 rfl rfl)
theorem dX0_ahead_34 : decode cX0_ahead 34 = .ok (.iload_n 3, 1) := dk_29 (dk_at dksX0_ahead_1 12 rfl rfl)
theorem dX0_ahead_35 : decode cX0_ahead 35 = .ok (.ifCond .ne 11, 3) := dk_154 0 11 (dk_at dksX0_ahead_1 13 rfl rfl)
theorem dX0_ahead_38 : decode cX0_ahead 38 = .ok (.aload_n 0, 1) := dk_42 (dk_at dksX0_ahead_1 16 rfl rfl)
theorem dX0_ahead_39 : decode cX0_ahead 39 = .ok (.iload_n 1, 1) := dk_27 (dk_at dksX0_ahead_1 17 rfl rfl)
theorem dX0_ahead_40 : decode cX0_ahead 40 = .ok (.invokevirtual 173, 3) := dk_182 0 173 (dk_at dksX0_ahead_1 18 rfl rfl)
theorem dX0_ahead_43 : decode cX0_ahead 43 = .ok (.ifCond .eq 16, 3) := dk_153 0 16 (dk_at dksX0_ahead_1 21 rfl rfl)
theorem dX0_ahead_46 : decode cX0_ahead 46 = .ok (.iload_n 3, 1) := dk_29 (dk_at dksX0_ahead_2 0 rfl rfl)
theorem dX0_ahead_47 : decode cX0_ahead 47 = .ok (.iconst 1, 1) := dk_4 (dk_at dksX0_ahead_2 1 rfl rfl)
theorem dX0_ahead_48 : decode cX0_ahead 48 = .ok (.if_icmp .ne 14, 3) := dk_160 0 14 (dk_at dksX0_ahead_2 2 rfl rfl)
theorem dX0_ahead_51 : decode cX0_ahead 51 = .ok (.aload_n 0, 1) := dk_42 (dk_at dksX0_ahead_2 5 rfl rfl)
theorem dX0_ahead_52 : decode cX0_ahead 52 = .ok (.iload_n 1, 1) := dk_27 (dk_at dksX0_ahead_2 6 rfl rfl)
theorem dX0_ahead_53 : decode cX0_ahead 53 = .ok (.invokevirtual 157, 3) := dk_182 0 157 (dk_at dksX0_ahead_2 7 rfl rfl)
theorem dX0_ahead_56 : decode cX0_ahead 56 = .ok (.ifCond .ne 6, 3) := dk_154 0 6 (dk_at dksX0_ahead_2 10 rfl rfl)
theorem dX0_ahead_59 : decode cX0_ahead 59 = .ok (.bipush (-2), 2) := dk_16 254 (dk_at dksX0_ahead_2 13 rfl rfl)
theorem dX0_ahead_61 : decode cX0_ahead 61 = .ok (.ireturn, 1) := dk_172 (dk_at dksX0_ahead_2 15 rfl rfl)
theorem dX0_ahead_62 : decode cX0_ahead 62 = .ok (.aload_n 0, 1) := dk_42 (dk_at dksX0_ahead_2 16 rfl rfl)
theorem dX0_ahead_63 : decode cX0_ahead 63 = .ok (.getfield 16, 3) := dk_180 0 16 (dk_at dksX0_ahead_2 17 rfl rfl)
theorem dX0_ahead_66 : decode cX0_ahead 66 = .ok (.aload_n 0, 1) := dk_42 (dk_at dksX0_ahead_2 20 rfl rfl)
theorem dX0_ahead_67 : decode cX0_ahead 67 = .ok (.getfield 138, 3) := dk_180 0 138 (dk_at dksX0_ahead_2 21 rfl rfl)
theorem dX0_ahead_70 : decode cX0_ahead 70 = .ok (.invokevirtual 134, 3) := dk_182 0 134 (dk_at dksX0_ahead_3 0 rfl rfl)
theorem dX0_ahead_73 : decode cX0_ahead 73 = .ok (.iload_n 2, 1) := dk_28 (dk_at dksX0_ahead_3 3 rfl rfl)
theorem dX0_ahead_74 : decode cX0_ahead 74 = .ok (.aload_n 0, 1) := dk_42 (dk_at dksX0_ahead_3 4 rfl rfl)
theorem dX0_ahead_75 : decode cX0_ahead 75 = .ok (.invokevirtual 214, 3) := dk_182 0 214 (dk_at dksX0_ahead_3 5 rfl rfl)
theorem dX0_ahead_78 : decode cX0_ahead 78 = .ok (.invokevirtual 230, 3) := dk_182 0 230 (dk_at dksX0_ahead_3 8 rfl rfl)
theorem dX0_ahead_81 : decode cX0_ahead 81 = .ok (.pop, 1) := dk_87 (dk_at dksX0_ahead_3 11 rfl rfl)
theorem dX0_ahead_82 : decode cX0_ahead 82 = .ok (.iload_n 3, 1) := dk_29 (dk_at dksX0_ahead_3 12 rfl rfl)
theorem dX0_ahead_83 : decode cX0_ahead 83 = .ok (.tableswitch 53 0 2 #[25, 35, 45], 25) := by decide +kernel
theorem dX0_ahead_108 : decode cX0_ahead 108 = .ok (.aload_n 0, 1) := dk_42 (dk_at dksX0_ahead_5 0 rfl rfl)
theorem dX0_ahead_109 : decode cX0_ahead 109 = .ok (.getfield 16, 3) := dk_180 0 16 (dk_at dksX0_ahead_5 1 rfl rfl)
theorem dX0_ahead_112 : decode cX0_ahead 112 = .ok (.getfield 182, 3) := dk_180 0 182 (dk_at dksX0_ahead_5 4 rfl rfl)
theorem dX0_ahead_115 : decode cX0_ahead 115 = .ok (.iload_n 1, 1) := dk_27 (dk_at dksX0_ahead_5 7 rfl rfl)
theorem dX0_ahead_116 : decode cX0_ahead 116 = .ok (.iaload, 1) := dk_46 (dk_at dksX0_ahead_5 8 rfl rfl)
theorem dX0_ahead_117 : decode cX0_ahead 117 = .ok (.ireturn, 1) := dk_172 (dk_at dksX0_ahead_5 9 rfl rfl)
theorem dX0_ahead_118 : decode cX0_ahead 118 = .ok (.aload_n 0, 1) := dk_42 (dk_at dksX0_ahead_5 10 rfl rfl)
theorem dX0_ahead_119 : decode cX0_ahead 119 = .ok (.getfield 16, 3) := dk_180 0 16 (dk_at dksX0_ahead_5 11 rfl rfl)
theorem dX0_ahead_122 : decode cX0_ahead 122 = .ok (.getfield 161, 3) := dk_180 0 161 (dk_at dksX0_ahead_5 14 rfl rfl)
theorem dX0_ahead_125 : decode cX0_ahead 125 = .ok (.iload_n 1, 1) := dk_27 (dk_at dksX0_ahead_5 17 rfl rfl)
theorem dX0_ahead_126 : decode cX0_ahead 126 = .ok (.iaload, 1) := dk_46 (dk_at dksX0_ahead_5 18 rfl rfl)
theorem dX0_ahead_127 : decode cX0_ahead 127 = .ok (.ireturn, 1) := dk_172 (dk_at dksX0_ahead_5 19 rfl rfl)
theorem dX0_ahead_128 : decode cX0_ahead 128 = .ok (.aload_n 0, 1) := dk_42 (dk_at dksX0_ahead_5 20 rfl rfl)
theorem dX0_ahead_129 : decode cX0_ahead 129 = .ok (.getfield 16, 3) := dk_180 0 16 (dk_at dksX0_ahead_5 21 rfl rfl)
theorem dX0_ahead_132 : decode cX0_ahead 132 = .ok (.invokevirtual 234, 3) := dk_182 0 234 (dk_at dksX0_ahead_6 0 rfl rfl)
theorem dX0_ahead_135 : decode cX0_ahead 135 = .ok (.ireturn, 1) := dk_172 (dk_at dksX0_ahead_6 3 rfl rfl)
theorem dX0_ahead_136 : decode cX0_ahead 136 = .ok (.aload_n 0, 1) := dk_42 (dk_at dksX0_ahead_6 4 rfl rfl)
theorem dX0_ahead_137 : decode cX0_ahead 137 = .ok (.getfield 16, 3) := dk_180 0 16 (dk_at dksX0_ahead_6 5 rfl rfl)
theorem dX0_ahead_140 : decode cX0_ahead 140 = .ok (.invokevirtual 237, 3) := dk_182 0 237 (dk_at dksX0_ahead_6 8 rfl rfl)
theorem dX0_ahead_143 : decode cX0_ahead 143 = .ok (.ireturn, 1) := dk_172 (dk_at dksX0_ahead_6 11 rfl rfl)
abbrev cX0_sign : ByteArray := prog_1_method_24_code
def yX0_sign : MethodName := ⟨RX0, "sign", "()I"⟩
def dkwX0_sign_2 : List UInt8 := [180, 0, 16, 42, 182, 0, 214, 182, 0, 217, 87, 132, 1, 1, 167, 255, 217, 16, 254, 172]
abbrev dktX0_sign_2 : List UInt8 := dkwX0_sign_2 ++ []
def dkwX0_sign_1 : List UInt8 := [16, 100, 162, 0, 39, 42, 180, 0, 16, 182, 0, 240, 153, 0, 11, 42, 180, 0, 16, 180, 0, 208, 172, 42]
abbrev dktX0_sign_1 : List UInt8 := dkwX0_sign_1 ++ dktX0_sign_2
def dkwX0_sign_0 : List UInt8 := [42, 180, 0, 138, 199, 0, 5, 2, 172, 42, 180, 0, 16, 42, 180, 0, 138, 182, 0, 134, 87, 3, 60, 27]
abbrev dktX0_sign_0 : List UInt8 := dkwX0_sign_0 ++ dktX0_sign_1
theorem dksX0_sign_0 : cX0_sign.data.toList.drop 0 = dktX0_sign_0 := by decide +kernel
theorem dksX0_sign_1 : cX0_sign.data.toList.drop 24 = dktX0_sign_1 := dk_seg dksX0_sign_0 24 rfl rfl
theorem dksX0_sign_2 : cX0_sign.data.toList.drop 48 = dktX0_sign_2 := dk_seg dksX0_sign_1 24 rfl rfl
theorem dX0_sign_0 : decode cX0_sign 0 = .ok (.aload_n 0, 1) := dk_42 (dk_at dksX0_sign_0 0 rfl rfl)
theorem dX0_sign_1 : decode cX0_sign 1 = .ok (.getfield 138, 3) := dk_180 0 138 (dk_at dksX0_sign_0 1 rfl rfl)
theorem dX0_sign_4 : decode cX0_sign 4 = .ok (.ifnonnull 5, 3) := dk_199 0 5 (dk_at dksX0_sign_0 4 rfl rfl)
theorem dX0_sign_7 : decode cX0_sign 7 = .ok (.iconst (-1), 1) := dk_2 (dk_at dksX0_sign_0 7 rfl rfl)
theorem dX0_sign_8 : decode cX0_sign 8 = .ok (.ireturn, 1) := dk_172 (dk_at dksX0_sign_0 8 rfl rfl)
theorem dX0_sign_9 : decode cX0_sign 9 = .ok (.aload_n 0, 1) := dk_42 (dk_at dksX0_sign_0 9 rfl rfl)
theorem dX0_sign_10 : decode cX0_sign 10 = .ok (.getfield 16, 3) := dk_180 0 16 (dk_at dksX0_sign_0 10 rfl rfl)
theorem dX0_sign_13 : decode cX0_sign 13 = .ok (.aload_n 0, 1) := dk_42 (dk_at dksX0_sign_0 13 rfl rfl)
theorem dX0_sign_14 : decode cX0_sign 14 = .ok (.getfield 138, 3) := dk_180 0 138 (dk_at dksX0_sign_0 14 rfl rfl)
theorem dX0_sign_17 : decode cX0_sign 17 = .ok (.invokevirtual 134, 3) := dk_182 0 134 (dk_at dksX0_sign_0 17 rfl rfl)
theorem dX0_sign_20 : decode cX0_sign 20 = .ok (.pop, 1) := dk_87 (dk_at dksX0_sign_0 20 rfl rfl)
theorem dX0_sign_21 : decode cX0_sign 21 = .ok (.iconst 0, 1) := dk_3 (dk_at dksX0_sign_0 21 rfl rfl)
theorem dX0_sign_22 : decode cX0_sign 22 = .ok (.istore_n 1, 1) := dk_60 (dk_at dksX0_sign_0 22 rfl rfl)
theorem dX0_sign_23 : decode cX0_sign 23 = .ok (.iload_n 1, 1) := dk_27 (dk_at dksX0_sign_0 23 rfl rfl)
theorem dX0_sign_24 : decode cX0_sign 24 = .ok (.bipush 100, 2) := dk_16 100 (dk_at dksX0_sign_1 0 rfl rfl)
theorem dX0_sign_26 : decode cX0_sign 26 = .ok (.if_icmp .ge 39, 3) := dk_162 0 39 (dk_at dksX0_sign_1 2 rfl rfl)
theorem dX0_sign_29 : decode cX0_sign 29 = .ok (.aload_n 0, 1) := dk_42 (dk_at dksX0_sign_1 5 rfl rfl)
theorem dX0_sign_30 : decode cX0_sign 30 = .ok (.getfield 16, 3) := dk_180 0 16 (dk_at dksX0_sign_1 6 rfl rfl)
theorem dX0_sign_33 : decode cX0_sign 33 = .ok (.invokevirtual 240, 3) := dk_182 0 240 (dk_at dksX0_sign_1 9 rfl rfl)
theorem dX0_sign_36 : decode cX0_sign 36 = .ok (.ifCond .eq 11, 3) := dk_153 0 11 (dk_at dksX0_sign_1 12 rfl rfl)
theorem dX0_sign_39 : decode cX0_sign 39 = .ok (.aload_n 0, 1) := dk_42 (dk_at dksX0_sign_1 15 rfl rfl)
theorem dX0_sign_40 : decode cX0_sign 40 = .ok (.getfield 16, 3) := dk_180 0 16 (dk_at dksX0_sign_1 16 rfl rfl)
theorem dX0_sign_43 : decode cX0_sign 43 = .ok (.getfield 208, 3) := dk_180 0 208 (dk_at dksX0_sign_1 19 rfl rfl)
theorem dX0_sign_46 : decode cX0_sign 46 = .ok (.ireturn, 1) := dk_172 (dk_at dksX0_sign_1 22 rfl rfl)
theorem dX0_sign_47 : decode cX0_sign 47 = .ok (.aload_n 0, 1) := dk_42 (dk_at dksX0_sign_1 23 rfl rfl)
theorem dX0_sign_48 : decode cX0_sign 48 = .ok (.getfield 16, 3) := dk_180 0 16 (dk_at dksX0_sign_2 0 rfl rfl)
theorem dX0_sign_51 : decode cX0_sign 51 = .ok (.aload_n 0, 1) := dk_42 (dk_at dksX0_sign_2 3 rfl rfl)
theorem dX0_sign_52 : decode cX0_sign 52 = .ok (.invokevirtual 214, 3) := dk_182 0 214 (dk_at dksX0_sign_2 4 rfl rfl)
theorem dX0_sign_55 : decode cX0_sign 55 = .ok (.invokevirtual 217, 3) := dk_182 0 217 (dk_at dksX0_sign_2 7 rfl rfl)
theorem dX0_sign_58 : decode cX0_sign 58 = .ok (.pop, 1) := dk_87 (dk_at dksX0_sign_2 10 rfl rfl)
theorem dX0_sign_59 : decode cX0_sign 59 = .ok (.iinc 1 1, 3) := dk_132 1 1 (dk_at dksX0_sign_2 11 rfl rfl)
theorem dX0_sign_62 : decode cX0_sign 62 = .ok (.goto (-39), 3) := dk_167 255 217 (dk_at dksX0_sign_2 14 rfl rfl)
theorem dX0_sign_65 : decode cX0_sign 65 = .ok (.bipush (-2), 2) := dk_16 254 (dk_at dksX0_sign_2 17 rfl rfl)
theorem dX0_sign_67 : decode cX0_sign 67 = .ok (.ireturn, 1) := dk_172 (dk_at dksX0_sign_2 19 rfl rfl)
abbrev cX0_clean : ByteArray := prog_1_method_25_code
def yX0_clean : MethodName := ⟨RX0, "clean", "()I"⟩
def dkwX0_clean_3 : List UInt8 := [167, 255, 210, 16, 254, 172]
abbrev dktX0_clean_3 : List UInt8 := dkwX0_clean_3 ++ []
def dkwX0_clean_2 : List UInt8 := [180, 0, 16, 180, 0, 208, 172, 42, 180, 0, 16, 42, 182, 0, 214, 182, 0, 217, 87, 132, 1, 1]
abbrev dktX0_clean_2 : List UInt8 := dkwX0_clean_2 ++ dktX0_clean_3
def dkwX0_clean_1 : List UInt8 := [16, 100, 162, 0, 46, 42, 180, 0, 16, 182, 0, 237, 42, 180, 0, 138, 182, 0, 154, 160, 0, 11, 42]
abbrev dktX0_clean_1 : List UInt8 := dkwX0_clean_1 ++ dktX0_clean_2
def dkwX0_clean_0 : List UInt8 := [42, 180, 0, 138, 199, 0, 5, 2, 172, 42, 180, 0, 16, 42, 180, 0, 138, 182, 0, 134, 87, 3, 60, 27]
abbrev dktX0_clean_0 : List UInt8 := dkwX0_clean_0 ++ dktX0_clean_1
theorem dksX0_clean_0 : cX0_clean.data.toList.drop 0 = dktX0_clean_0 := by decide +kernel
theorem dksX0_clean_1 : cX0_clean.data.toList.drop 24 = dktX0_clean_1 := dk_seg dksX0_clean_0 24 rfl rfl
theorem dksX0_clean_2 : cX0_clean.data.toList.drop 47 = dktX0_clean_2 := dk_seg dksX0_clean_1 23 rfl rfl
theorem dksX0_clean_3 : cX0_clean.data.toList.drop 69 = dktX0_clean_3 := dk_seg dksX0_clean_2 22 rfl rfl
theorem dX0_clean_0 : decode cX0_clean 0 = .ok (.aload_n 0, 1) := dk_42 (dk_at dksX0_clean_0 0 rfl rfl)
theorem dX0_clean_1 : decode cX0_clean 1 = .ok (.getfield 138, 3) := dk_180 0 138 (dk_at dksX0_clean_0 1 rfl rfl)
theorem dX0_clean_4 : decode cX0_clean 4 = .ok (.ifnonnull 5, 3) := dk_199 0 5 (dk_at dksX0_clean_0 4 rfl rfl)
theorem dX0_clean_7 : decode cX0_clean 7 = .ok (.iconst (-1), 1) := dk_2 (dk_at dksX0_clean_0 7 rfl rfl)
theorem dX0_clean_8 : decode cX0_clean 8 = .ok (.ireturn, 1) := dk_172 (dk_at dksX0_clean_0 8 rfl rfl)
theorem dX0_clean_9 : decode cX0_clean 9 = .ok (.aload_n 0, 1) := dk_42 (dk_at dksX0_clean_0 9 rfl rfl)
theorem dX0_clean_10 : decode cX0_clean 10 = .ok (.getfield 16, 3) := dk_180 0 16 (dk_at dksX0_clean_0 10 rfl rfl)
theorem dX0_clean_13 : decode cX0_clean 13 = .ok (.aload_n 0, 1) := dk_42 (dk_at dksX0_clean_0 13 rfl rfl)
theorem dX0_clean_14 : decode cX0_clean 14 = .ok (.getfield 138, 3) := dk_180 0 138 (dk_at dksX0_clean_0 14 rfl rfl)
theorem dX0_clean_17 : decode cX0_clean 17 = .ok (.invokevirtual 134, 3) := dk_182 0 134 (dk_at dksX0_clean_0 17 rfl rfl)
theorem dX0_clean_20 : decode cX0_clean 20 = .ok (.pop, 1) := dk_87 (dk_at dksX0_clean_0 20 rfl rfl)
theorem dX0_clean_21 : decode cX0_clean 21 = .ok (.iconst 0, 1) := dk_3 (dk_at dksX0_clean_0 21 rfl rfl)
theorem dX0_clean_22 : decode cX0_clean 22 = .ok (.istore_n 1, 1) := dk_60 (dk_at dksX0_clean_0 22 rfl rfl)
theorem dX0_clean_23 : decode cX0_clean 23 = .ok (.iload_n 1, 1) := dk_27 (dk_at dksX0_clean_0 23 rfl rfl)
theorem dX0_clean_24 : decode cX0_clean 24 = .ok (.bipush 100, 2) := dk_16 100 (dk_at dksX0_clean_1 0 rfl rfl)
theorem dX0_clean_26 : decode cX0_clean 26 = .ok (.if_icmp .ge 46, 3) := dk_162 0 46 (dk_at dksX0_clean_1 2 rfl rfl)
theorem dX0_clean_29 : decode cX0_clean 29 = .ok (.aload_n 0, 1) := dk_42 (dk_at dksX0_clean_1 5 rfl rfl)
theorem dX0_clean_30 : decode cX0_clean 30 = .ok (.getfield 16, 3) := dk_180 0 16 (dk_at dksX0_clean_1 6 rfl rfl)
theorem dX0_clean_33 : decode cX0_clean 33 = .ok (.invokevirtual 237, 3) := dk_182 0 237 (dk_at dksX0_clean_1 9 rfl rfl)
theorem dX0_clean_36 : decode cX0_clean 36 = .ok (.aload_n 0, 1) := dk_42 (dk_at dksX0_clean_1 12 rfl rfl)
theorem dX0_clean_37 : decode cX0_clean 37 = .ok (.getfield 138, 3) := dk_180 0 138 (dk_at dksX0_clean_1 13 rfl rfl)
theorem dX0_clean_40 : decode cX0_clean 40 = .ok (.invokevirtual 154, 3) := dk_182 0 154 (dk_at dksX0_clean_1 16 rfl rfl)
theorem dX0_clean_43 : decode cX0_clean 43 = .ok (.if_icmp .ne 11, 3) := dk_160 0 11 (dk_at dksX0_clean_1 19 rfl rfl)
theorem dX0_clean_46 : decode cX0_clean 46 = .ok (.aload_n 0, 1) := dk_42 (dk_at dksX0_clean_1 22 rfl rfl)
theorem dX0_clean_47 : decode cX0_clean 47 = .ok (.getfield 16, 3) := dk_180 0 16 (dk_at dksX0_clean_2 0 rfl rfl)
theorem dX0_clean_50 : decode cX0_clean 50 = .ok (.getfield 208, 3) := dk_180 0 208 (dk_at dksX0_clean_2 3 rfl rfl)
theorem dX0_clean_53 : decode cX0_clean 53 = .ok (.ireturn, 1) := dk_172 (dk_at dksX0_clean_2 6 rfl rfl)
theorem dX0_clean_54 : decode cX0_clean 54 = .ok (.aload_n 0, 1) := dk_42 (dk_at dksX0_clean_2 7 rfl rfl)
theorem dX0_clean_55 : decode cX0_clean 55 = .ok (.getfield 16, 3) := dk_180 0 16 (dk_at dksX0_clean_2 8 rfl rfl)
theorem dX0_clean_58 : decode cX0_clean 58 = .ok (.aload_n 0, 1) := dk_42 (dk_at dksX0_clean_2 11 rfl rfl)
theorem dX0_clean_59 : decode cX0_clean 59 = .ok (.invokevirtual 214, 3) := dk_182 0 214 (dk_at dksX0_clean_2 12 rfl rfl)
theorem dX0_clean_62 : decode cX0_clean 62 = .ok (.invokevirtual 217, 3) := dk_182 0 217 (dk_at dksX0_clean_2 15 rfl rfl)
theorem dX0_clean_65 : decode cX0_clean 65 = .ok (.pop, 1) := dk_87 (dk_at dksX0_clean_2 18 rfl rfl)
theorem dX0_clean_66 : decode cX0_clean 66 = .ok (.iinc 1 1, 3) := dk_132 1 1 (dk_at dksX0_clean_2 19 rfl rfl)
theorem dX0_clean_69 : decode cX0_clean 69 = .ok (.goto (-46), 3) := dk_167 255 210 (dk_at dksX0_clean_3 0 rfl rfl)
theorem dX0_clean_72 : decode cX0_clean 72 = .ok (.bipush (-2), 2) := dk_16 254 (dk_at dksX0_clean_3 3 rfl rfl)
theorem dX0_clean_74 : decode cX0_clean 74 = .ok (.ireturn, 1) := dk_172 (dk_at dksX0_clean_3 5 rfl rfl)
abbrev cX0_hold : ByteArray := prog_1_method_26_code
def yX0_hold : MethodName := ⟨RX0, "hold", "(II)I"⟩
def dkwX0_hold_6 : List UInt8 := [132, 5, 1, 167, 255, 165, 28, 154, 0, 7, 29, 167, 0, 5, 21, 4, 172]
abbrev dktX0_hold_6 : List UInt8 := dkwX0_hold_6 ++ []
def dkwX0_hold_5 : List UInt8 := [21, 5, 184, 0, 249, 29, 184, 0, 249, 161, 0, 6, 167, 0, 10, 21, 5, 62, 21, 6, 54, 4]
abbrev dktX0_hold_5 : List UInt8 := dkwX0_hold_5 ++ dktX0_hold_6
def dkwX0_hold_4 : List UInt8 := [182, 0, 237, 54, 6, 29, 2, 159, 0, 32, 21, 6, 21, 4, 161, 0, 32, 21, 6, 21, 4, 160, 0, 18]
abbrev dktX0_hold_4 : List UInt8 := dkwX0_hold_4 ++ dktX0_hold_5
def dkwX0_hold_3 : List UInt8 := [180, 0, 138, 182, 0, 246, 21, 5, 181, 0, 166, 42, 180, 0, 16, 27, 42, 182, 0, 214, 182, 0, 230]
abbrev dktX0_hold_3 : List UInt8 := dkwX0_hold_3 ++ dktX0_hold_4
def dkwX0_hold_2 : List UInt8 := [54, 4, 3, 54, 5, 21, 5, 4, 42, 180, 0, 138, 180, 0, 140, 120, 162, 0, 83, 42, 180, 0, 16, 42]
abbrev dktX0_hold_2 : List UInt8 := dkwX0_hold_2 ++ dktX0_hold_3
def dkwX0_hold_1 : List UInt8 := [184, 0, 178, 154, 0, 5, 2, 172, 42, 180, 0, 16, 42, 180, 0, 138, 182, 0, 134, 87, 2, 62, 3]
abbrev dktX0_hold_1 : List UInt8 := dkwX0_hold_1 ++ dktX0_hold_2
def dkwX0_hold_0 : List UInt8 := [42, 180, 0, 138, 198, 0, 25, 27, 133, 10, 20, 0, 244, 184, 0, 178, 153, 0, 13, 28, 133, 9, 10]
abbrev dktX0_hold_0 : List UInt8 := dkwX0_hold_0 ++ dktX0_hold_1
theorem dksX0_hold_0 : cX0_hold.data.toList.drop 0 = dktX0_hold_0 := by decide +kernel
theorem dksX0_hold_1 : cX0_hold.data.toList.drop 23 = dktX0_hold_1 := dk_seg dksX0_hold_0 23 rfl rfl
theorem dksX0_hold_2 : cX0_hold.data.toList.drop 46 = dktX0_hold_2 := dk_seg dksX0_hold_1 23 rfl rfl
theorem dksX0_hold_3 : cX0_hold.data.toList.drop 70 = dktX0_hold_3 := dk_seg dksX0_hold_2 24 rfl rfl
theorem dksX0_hold_4 : cX0_hold.data.toList.drop 93 = dktX0_hold_4 := dk_seg dksX0_hold_3 23 rfl rfl
theorem dksX0_hold_5 : cX0_hold.data.toList.drop 117 = dktX0_hold_5 := dk_seg dksX0_hold_4 24 rfl rfl
theorem dksX0_hold_6 : cX0_hold.data.toList.drop 139 = dktX0_hold_6 := dk_seg dksX0_hold_5 22 rfl rfl
theorem dX0_hold_0 : decode cX0_hold 0 = .ok (.aload_n 0, 1) := dk_42 (dk_at dksX0_hold_0 0 rfl rfl)
theorem dX0_hold_1 : decode cX0_hold 1 = .ok (.getfield 138, 3) := dk_180 0 138 (dk_at dksX0_hold_0 1 rfl rfl)
theorem dX0_hold_4 : decode cX0_hold 4 = .ok (.ifnull 25, 3) := dk_198 0 25 (dk_at dksX0_hold_0 4 rfl rfl)
theorem dX0_hold_7 : decode cX0_hold 7 = .ok (.iload_n 1, 1) := dk_27 (dk_at dksX0_hold_0 7 rfl rfl)
theorem dX0_hold_8 : decode cX0_hold 8 = .ok (.i2l, 1) := dk_133 (dk_at dksX0_hold_0 8 rfl rfl)
theorem dX0_hold_9 : decode cX0_hold 9 = .ok (.lconst 1, 1) := dk_10 (dk_at dksX0_hold_0 9 rfl rfl)
theorem dX0_hold_10 : decode cX0_hold 10 = .ok (.ldc2_w 244, 3) := dk_20 0 244 (dk_at dksX0_hold_0 10 rfl rfl)
theorem dX0_hold_13 : decode cX0_hold 13 = .ok (.invokestatic 178, 3) := dk_184 0 178 (dk_at dksX0_hold_0 13 rfl rfl)
theorem dX0_hold_16 : decode cX0_hold 16 = .ok (.ifCond .eq 13, 3) := dk_153 0 13 (dk_at dksX0_hold_0 16 rfl rfl)
theorem dX0_hold_19 : decode cX0_hold 19 = .ok (.iload_n 2, 1) := dk_28 (dk_at dksX0_hold_0 19 rfl rfl)
theorem dX0_hold_20 : decode cX0_hold 20 = .ok (.i2l, 1) := dk_133 (dk_at dksX0_hold_0 20 rfl rfl)
theorem dX0_hold_21 : decode cX0_hold 21 = .ok (.lconst 0, 1) := dk_9 (dk_at dksX0_hold_0 21 rfl rfl)
theorem dX0_hold_22 : decode cX0_hold 22 = .ok (.lconst 1, 1) := dk_10 (dk_at dksX0_hold_0 22 rfl rfl)
theorem dX0_hold_23 : decode cX0_hold 23 = .ok (.invokestatic 178, 3) := dk_184 0 178 (dk_at dksX0_hold_1 0 rfl rfl)
theorem dX0_hold_26 : decode cX0_hold 26 = .ok (.ifCond .ne 5, 3) := dk_154 0 5 (dk_at dksX0_hold_1 3 rfl rfl)
theorem dX0_hold_29 : decode cX0_hold 29 = .ok (.iconst (-1), 1) := dk_2 (dk_at dksX0_hold_1 6 rfl rfl)
theorem dX0_hold_30 : decode cX0_hold 30 = .ok (.ireturn, 1) := dk_172 (dk_at dksX0_hold_1 7 rfl rfl)
theorem dX0_hold_31 : decode cX0_hold 31 = .ok (.aload_n 0, 1) := dk_42 (dk_at dksX0_hold_1 8 rfl rfl)
theorem dX0_hold_32 : decode cX0_hold 32 = .ok (.getfield 16, 3) := dk_180 0 16 (dk_at dksX0_hold_1 9 rfl rfl)
theorem dX0_hold_35 : decode cX0_hold 35 = .ok (.aload_n 0, 1) := dk_42 (dk_at dksX0_hold_1 12 rfl rfl)
theorem dX0_hold_36 : decode cX0_hold 36 = .ok (.getfield 138, 3) := dk_180 0 138 (dk_at dksX0_hold_1 13 rfl rfl)
theorem dX0_hold_39 : decode cX0_hold 39 = .ok (.invokevirtual 134, 3) := dk_182 0 134 (dk_at dksX0_hold_1 16 rfl rfl)
theorem dX0_hold_42 : decode cX0_hold 42 = .ok (.pop, 1) := dk_87 (dk_at dksX0_hold_1 19 rfl rfl)
theorem dX0_hold_43 : decode cX0_hold 43 = .ok (.iconst (-1), 1) := dk_2 (dk_at dksX0_hold_1 20 rfl rfl)
theorem dX0_hold_44 : decode cX0_hold 44 = .ok (.istore_n 3, 1) := dk_62 (dk_at dksX0_hold_1 21 rfl rfl)
theorem dX0_hold_45 : decode cX0_hold 45 = .ok (.iconst 0, 1) := dk_3 (dk_at dksX0_hold_1 22 rfl rfl)
theorem dX0_hold_46 : decode cX0_hold 46 = .ok (.istore 4, 2) := dk_54 4 (dk_at dksX0_hold_2 0 rfl rfl)
theorem dX0_hold_48 : decode cX0_hold 48 = .ok (.iconst 0, 1) := dk_3 (dk_at dksX0_hold_2 2 rfl rfl)
theorem dX0_hold_49 : decode cX0_hold 49 = .ok (.istore 5, 2) := dk_54 5 (dk_at dksX0_hold_2 3 rfl rfl)
theorem dX0_hold_51 : decode cX0_hold 51 = .ok (.iload 5, 2) := dk_21 5 (dk_at dksX0_hold_2 5 rfl rfl)
theorem dX0_hold_53 : decode cX0_hold 53 = .ok (.iconst 1, 1) := dk_4 (dk_at dksX0_hold_2 7 rfl rfl)
theorem dX0_hold_54 : decode cX0_hold 54 = .ok (.aload_n 0, 1) := dk_42 (dk_at dksX0_hold_2 8 rfl rfl)
theorem dX0_hold_55 : decode cX0_hold 55 = .ok (.getfield 138, 3) := dk_180 0 138 (dk_at dksX0_hold_2 9 rfl rfl)
theorem dX0_hold_58 : decode cX0_hold 58 = .ok (.getfield 140, 3) := dk_180 0 140 (dk_at dksX0_hold_2 12 rfl rfl)
theorem dX0_hold_61 : decode cX0_hold 61 = .ok (.ishl, 1) := dk_120 (dk_at dksX0_hold_2 15 rfl rfl)
theorem dX0_hold_62 : decode cX0_hold 62 = .ok (.if_icmp .ge 83, 3) := dk_162 0 83 (dk_at dksX0_hold_2 16 rfl rfl)
theorem dX0_hold_65 : decode cX0_hold 65 = .ok (.aload_n 0, 1) := dk_42 (dk_at dksX0_hold_2 19 rfl rfl)
theorem dX0_hold_66 : decode cX0_hold 66 = .ok (.getfield 16, 3) := dk_180 0 16 (dk_at dksX0_hold_2 20 rfl rfl)
theorem dX0_hold_69 : decode cX0_hold 69 = .ok (.aload_n 0, 1) := dk_42 (dk_at dksX0_hold_2 23 rfl rfl)
theorem dX0_hold_70 : decode cX0_hold 70 = .ok (.getfield 138, 3) := dk_180 0 138 (dk_at dksX0_hold_3 0 rfl rfl)
theorem dX0_hold_73 : decode cX0_hold 73 = .ok (.invokevirtual 246, 3) := dk_182 0 246 (dk_at dksX0_hold_3 3 rfl rfl)
theorem dX0_hold_76 : decode cX0_hold 76 = .ok (.iload 5, 2) := dk_21 5 (dk_at dksX0_hold_3 6 rfl rfl)
theorem dX0_hold_78 : decode cX0_hold 78 = .ok (.putfield 166, 3) := dk_181 0 166 (dk_at dksX0_hold_3 8 rfl rfl)
theorem dX0_hold_81 : decode cX0_hold 81 = .ok (.aload_n 0, 1) := dk_42 (dk_at dksX0_hold_3 11 rfl rfl)
theorem dX0_hold_82 : decode cX0_hold 82 = .ok (.getfield 16, 3) := dk_180 0 16 (dk_at dksX0_hold_3 12 rfl rfl)
theorem dX0_hold_85 : decode cX0_hold 85 = .ok (.iload_n 1, 1) := dk_27 (dk_at dksX0_hold_3 15 rfl rfl)
theorem dX0_hold_86 : decode cX0_hold 86 = .ok (.aload_n 0, 1) := dk_42 (dk_at dksX0_hold_3 16 rfl rfl)
theorem dX0_hold_87 : decode cX0_hold 87 = .ok (.invokevirtual 214, 3) := dk_182 0 214 (dk_at dksX0_hold_3 17 rfl rfl)
theorem dX0_hold_90 : decode cX0_hold 90 = .ok (.invokevirtual 230, 3) := dk_182 0 230 (dk_at dksX0_hold_3 20 rfl rfl)
theorem dX0_hold_93 : decode cX0_hold 93 = .ok (.invokevirtual 237, 3) := dk_182 0 237 (dk_at dksX0_hold_4 0 rfl rfl)
theorem dX0_hold_96 : decode cX0_hold 96 = .ok (.istore 6, 2) := dk_54 6 (dk_at dksX0_hold_4 3 rfl rfl)
theorem dX0_hold_98 : decode cX0_hold 98 = .ok (.iload_n 3, 1) := dk_29 (dk_at dksX0_hold_4 5 rfl rfl)
theorem dX0_hold_99 : decode cX0_hold 99 = .ok (.iconst (-1), 1) := dk_2 (dk_at dksX0_hold_4 6 rfl rfl)
theorem dX0_hold_100 : decode cX0_hold 100 = .ok (.if_icmp .eq 32, 3) := dk_159 0 32 (dk_at dksX0_hold_4 7 rfl rfl)
theorem dX0_hold_103 : decode cX0_hold 103 = .ok (.iload 6, 2) := dk_21 6 (dk_at dksX0_hold_4 10 rfl rfl)
theorem dX0_hold_105 : decode cX0_hold 105 = .ok (.iload 4, 2) := dk_21 4 (dk_at dksX0_hold_4 12 rfl rfl)
theorem dX0_hold_107 : decode cX0_hold 107 = .ok (.if_icmp .lt 32, 3) := dk_161 0 32 (dk_at dksX0_hold_4 14 rfl rfl)
theorem dX0_hold_110 : decode cX0_hold 110 = .ok (.iload 6, 2) := dk_21 6 (dk_at dksX0_hold_4 17 rfl rfl)
theorem dX0_hold_112 : decode cX0_hold 112 = .ok (.iload 4, 2) := dk_21 4 (dk_at dksX0_hold_4 19 rfl rfl)
theorem dX0_hold_114 : decode cX0_hold 114 = .ok (.if_icmp .ne 18, 3) := dk_160 0 18 (dk_at dksX0_hold_4 21 rfl rfl)
theorem dX0_hold_117 : decode cX0_hold 117 = .ok (.iload 5, 2) := dk_21 5 (dk_at dksX0_hold_5 0 rfl rfl)
theorem dX0_hold_119 : decode cX0_hold 119 = .ok (.invokestatic 249, 3) := dk_184 0 249 (dk_at dksX0_hold_5 2 rfl rfl)
theorem dX0_hold_122 : decode cX0_hold 122 = .ok (.iload_n 3, 1) := dk_29 (dk_at dksX0_hold_5 5 rfl rfl)
theorem dX0_hold_123 : decode cX0_hold 123 = .ok (.invokestatic 249, 3) := dk_184 0 249 (dk_at dksX0_hold_5 6 rfl rfl)
theorem dX0_hold_126 : decode cX0_hold 126 = .ok (.if_icmp .lt 6, 3) := dk_161 0 6 (dk_at dksX0_hold_5 9 rfl rfl)
theorem dX0_hold_129 : decode cX0_hold 129 = .ok (.goto 10, 3) := dk_167 0 10 (dk_at dksX0_hold_5 12 rfl rfl)
theorem dX0_hold_132 : decode cX0_hold 132 = .ok (.iload 5, 2) := dk_21 5 (dk_at dksX0_hold_5 15 rfl rfl)
theorem dX0_hold_134 : decode cX0_hold 134 = .ok (.istore_n 3, 1) := dk_62 (dk_at dksX0_hold_5 17 rfl rfl)
theorem dX0_hold_135 : decode cX0_hold 135 = .ok (.iload 6, 2) := dk_21 6 (dk_at dksX0_hold_5 18 rfl rfl)
theorem dX0_hold_137 : decode cX0_hold 137 = .ok (.istore 4, 2) := dk_54 4 (dk_at dksX0_hold_5 20 rfl rfl)
theorem dX0_hold_139 : decode cX0_hold 139 = .ok (.iinc 5 1, 3) := dk_132 5 1 (dk_at dksX0_hold_6 0 rfl rfl)
theorem dX0_hold_142 : decode cX0_hold 142 = .ok (.goto (-91), 3) := dk_167 255 165 (dk_at dksX0_hold_6 3 rfl rfl)
theorem dX0_hold_145 : decode cX0_hold 145 = .ok (.iload_n 2, 1) := dk_28 (dk_at dksX0_hold_6 6 rfl rfl)
theorem dX0_hold_146 : decode cX0_hold 146 = .ok (.ifCond .ne 7, 3) := dk_154 0 7 (dk_at dksX0_hold_6 7 rfl rfl)
theorem dX0_hold_149 : decode cX0_hold 149 = .ok (.iload_n 3, 1) := dk_29 (dk_at dksX0_hold_6 10 rfl rfl)
theorem dX0_hold_150 : decode cX0_hold 150 = .ok (.goto 5, 3) := dk_167 0 5 (dk_at dksX0_hold_6 11 rfl rfl)
theorem dX0_hold_153 : decode cX0_hold 153 = .ok (.iload 4, 2) := dk_21 4 (dk_at dksX0_hold_6 14 rfl rfl)
theorem dX0_hold_155 : decode cX0_hold 155 = .ok (.ireturn, 1) := dk_172 (dk_at dksX0_hold_6 16 rfl rfl)
abbrev cX0_wrote : ByteArray := prog_1_method_28_code
def yX0_wrote : MethodName := ⟨RX0, "wrote", "(II)I"⟩
def dkwX0_wrote_3 : List UInt8 := [167, 0, 4, 3, 128, 62, 132, 4, 1, 167, 255, 219, 29, 172]
abbrev dktX0_wrote_3 : List UInt8 := dkwX0_wrote_3 ++ []
def dkwX0_wrote_2 : List UInt8 := [180, 0, 140, 162, 0, 31, 29, 42, 21, 4, 27, 28, 182, 1, 2, 153, 0, 10, 4, 21, 4, 120]
abbrev dktX0_wrote_2 : List UInt8 := dkwX0_wrote_2 ++ dktX0_wrote_3
def dkwX0_wrote_1 : List UInt8 := [180, 0, 16, 42, 180, 0, 138, 182, 0, 134, 87, 3, 62, 3, 54, 4, 21, 4, 42, 180, 0, 138]
abbrev dktX0_wrote_1 : List UInt8 := dkwX0_wrote_1 ++ dktX0_wrote_2
def dkwX0_wrote_0 : List UInt8 := [42, 27, 182, 0, 173, 153, 0, 15, 28, 133, 10, 20, 0, 244, 184, 0, 178, 154, 0, 5, 2, 172, 42]
abbrev dktX0_wrote_0 : List UInt8 := dkwX0_wrote_0 ++ dktX0_wrote_1
theorem dksX0_wrote_0 : cX0_wrote.data.toList.drop 0 = dktX0_wrote_0 := by decide +kernel
theorem dksX0_wrote_1 : cX0_wrote.data.toList.drop 23 = dktX0_wrote_1 := dk_seg dksX0_wrote_0 23 rfl rfl
theorem dksX0_wrote_2 : cX0_wrote.data.toList.drop 45 = dktX0_wrote_2 := dk_seg dksX0_wrote_1 22 rfl rfl
theorem dksX0_wrote_3 : cX0_wrote.data.toList.drop 67 = dktX0_wrote_3 := dk_seg dksX0_wrote_2 22 rfl rfl
theorem dX0_wrote_0 : decode cX0_wrote 0 = .ok (.aload_n 0, 1) := dk_42 (dk_at dksX0_wrote_0 0 rfl rfl)
theorem dX0_wrote_1 : decode cX0_wrote 1 = .ok (.iload_n 1, 1) := dk_27 (dk_at dksX0_wrote_0 1 rfl rfl)
theorem dX0_wrote_2 : decode cX0_wrote 2 = .ok (.invokevirtual 173, 3) := dk_182 0 173 (dk_at dksX0_wrote_0 2 rfl rfl)
theorem dX0_wrote_5 : decode cX0_wrote 5 = .ok (.ifCond .eq 15, 3) := dk_153 0 15 (dk_at dksX0_wrote_0 5 rfl rfl)
theorem dX0_wrote_8 : decode cX0_wrote 8 = .ok (.iload_n 2, 1) := dk_28 (dk_at dksX0_wrote_0 8 rfl rfl)
theorem dX0_wrote_9 : decode cX0_wrote 9 = .ok (.i2l, 1) := dk_133 (dk_at dksX0_wrote_0 9 rfl rfl)
theorem dX0_wrote_10 : decode cX0_wrote 10 = .ok (.lconst 1, 1) := dk_10 (dk_at dksX0_wrote_0 10 rfl rfl)
theorem dX0_wrote_11 : decode cX0_wrote 11 = .ok (.ldc2_w 244, 3) := dk_20 0 244 (dk_at dksX0_wrote_0 11 rfl rfl)
theorem dX0_wrote_14 : decode cX0_wrote 14 = .ok (.invokestatic 178, 3) := dk_184 0 178 (dk_at dksX0_wrote_0 14 rfl rfl)
theorem dX0_wrote_17 : decode cX0_wrote 17 = .ok (.ifCond .ne 5, 3) := dk_154 0 5 (dk_at dksX0_wrote_0 17 rfl rfl)
theorem dX0_wrote_20 : decode cX0_wrote 20 = .ok (.iconst (-1), 1) := dk_2 (dk_at dksX0_wrote_0 20 rfl rfl)
theorem dX0_wrote_21 : decode cX0_wrote 21 = .ok (.ireturn, 1) := dk_172 (dk_at dksX0_wrote_0 21 rfl rfl)
theorem dX0_wrote_22 : decode cX0_wrote 22 = .ok (.aload_n 0, 1) := dk_42 (dk_at dksX0_wrote_0 22 rfl rfl)
theorem dX0_wrote_23 : decode cX0_wrote 23 = .ok (.getfield 16, 3) := dk_180 0 16 (dk_at dksX0_wrote_1 0 rfl rfl)
theorem dX0_wrote_26 : decode cX0_wrote 26 = .ok (.aload_n 0, 1) := dk_42 (dk_at dksX0_wrote_1 3 rfl rfl)
theorem dX0_wrote_27 : decode cX0_wrote 27 = .ok (.getfield 138, 3) := dk_180 0 138 (dk_at dksX0_wrote_1 4 rfl rfl)
theorem dX0_wrote_30 : decode cX0_wrote 30 = .ok (.invokevirtual 134, 3) := dk_182 0 134 (dk_at dksX0_wrote_1 7 rfl rfl)
theorem dX0_wrote_33 : decode cX0_wrote 33 = .ok (.pop, 1) := dk_87 (dk_at dksX0_wrote_1 10 rfl rfl)
theorem dX0_wrote_34 : decode cX0_wrote 34 = .ok (.iconst 0, 1) := dk_3 (dk_at dksX0_wrote_1 11 rfl rfl)
theorem dX0_wrote_35 : decode cX0_wrote 35 = .ok (.istore_n 3, 1) := dk_62 (dk_at dksX0_wrote_1 12 rfl rfl)
theorem dX0_wrote_36 : decode cX0_wrote 36 = .ok (.iconst 0, 1) := dk_3 (dk_at dksX0_wrote_1 13 rfl rfl)
theorem dX0_wrote_37 : decode cX0_wrote 37 = .ok (.istore 4, 2) := dk_54 4 (dk_at dksX0_wrote_1 14 rfl rfl)
theorem dX0_wrote_39 : decode cX0_wrote 39 = .ok (.iload 4, 2) := dk_21 4 (dk_at dksX0_wrote_1 16 rfl rfl)
theorem dX0_wrote_41 : decode cX0_wrote 41 = .ok (.aload_n 0, 1) := dk_42 (dk_at dksX0_wrote_1 18 rfl rfl)
theorem dX0_wrote_42 : decode cX0_wrote 42 = .ok (.getfield 138, 3) := dk_180 0 138 (dk_at dksX0_wrote_1 19 rfl rfl)
theorem dX0_wrote_45 : decode cX0_wrote 45 = .ok (.getfield 140, 3) := dk_180 0 140 (dk_at dksX0_wrote_2 0 rfl rfl)
theorem dX0_wrote_48 : decode cX0_wrote 48 = .ok (.if_icmp .ge 31, 3) := dk_162 0 31 (dk_at dksX0_wrote_2 3 rfl rfl)
theorem dX0_wrote_51 : decode cX0_wrote 51 = .ok (.iload_n 3, 1) := dk_29 (dk_at dksX0_wrote_2 6 rfl rfl)
theorem dX0_wrote_52 : decode cX0_wrote 52 = .ok (.aload_n 0, 1) := dk_42 (dk_at dksX0_wrote_2 7 rfl rfl)
theorem dX0_wrote_53 : decode cX0_wrote 53 = .ok (.iload 4, 2) := dk_21 4 (dk_at dksX0_wrote_2 8 rfl rfl)
theorem dX0_wrote_55 : decode cX0_wrote 55 = .ok (.iload_n 1, 1) := dk_27 (dk_at dksX0_wrote_2 10 rfl rfl)
theorem dX0_wrote_56 : decode cX0_wrote 56 = .ok (.iload_n 2, 1) := dk_28 (dk_at dksX0_wrote_2 11 rfl rfl)
theorem dX0_wrote_57 : decode cX0_wrote 57 = .ok (.invokevirtual 258, 3) := dk_182 1 2 (dk_at dksX0_wrote_2 12 rfl rfl)
theorem dX0_wrote_60 : decode cX0_wrote 60 = .ok (.ifCond .eq 10, 3) := dk_153 0 10 (dk_at dksX0_wrote_2 15 rfl rfl)
theorem dX0_wrote_63 : decode cX0_wrote 63 = .ok (.iconst 1, 1) := dk_4 (dk_at dksX0_wrote_2 18 rfl rfl)
theorem dX0_wrote_64 : decode cX0_wrote 64 = .ok (.iload 4, 2) := dk_21 4 (dk_at dksX0_wrote_2 19 rfl rfl)
theorem dX0_wrote_66 : decode cX0_wrote 66 = .ok (.ishl, 1) := dk_120 (dk_at dksX0_wrote_2 21 rfl rfl)
theorem dX0_wrote_67 : decode cX0_wrote 67 = .ok (.goto 4, 3) := dk_167 0 4 (dk_at dksX0_wrote_3 0 rfl rfl)
theorem dX0_wrote_70 : decode cX0_wrote 70 = .ok (.iconst 0, 1) := dk_3 (dk_at dksX0_wrote_3 3 rfl rfl)
theorem dX0_wrote_71 : decode cX0_wrote 71 = .ok (.ior, 1) := dk_128 (dk_at dksX0_wrote_3 4 rfl rfl)
theorem dX0_wrote_72 : decode cX0_wrote 72 = .ok (.istore_n 3, 1) := dk_62 (dk_at dksX0_wrote_3 5 rfl rfl)
theorem dX0_wrote_73 : decode cX0_wrote 73 = .ok (.iinc 4 1, 3) := dk_132 4 1 (dk_at dksX0_wrote_3 6 rfl rfl)
theorem dX0_wrote_76 : decode cX0_wrote 76 = .ok (.goto (-37), 3) := dk_167 255 219 (dk_at dksX0_wrote_3 9 rfl rfl)
theorem dX0_wrote_79 : decode cX0_wrote 79 = .ok (.iload_n 3, 1) := dk_29 (dk_at dksX0_wrote_3 12 rfl rfl)
theorem dX0_wrote_80 : decode cX0_wrote 80 = .ok (.ireturn, 1) := dk_172 (dk_at dksX0_wrote_3 13 rfl rfl)
abbrev cX0_writesAlone : ByteArray := prog_1_method_27_code
def yX0_writesAlone : MethodName := ⟨RX0, "writesAlone", "(III)Z"⟩
def dkwX0_writesAlone_3 : List UInt8 := [180, 0, 16, 180, 0, 161, 27, 46, 28, 160, 0, 5, 4, 172, 132, 5, 1, 167, 255, 214, 3, 172]
abbrev dktX0_writesAlone_3 : List UInt8 := dkwX0_writesAlone_3 ++ []
def dkwX0_writesAlone_2 : List UInt8 := [162, 0, 42, 42, 180, 0, 16, 42, 182, 0, 214, 182, 0, 217, 27, 184, 0, 254, 153, 0, 18, 42]
abbrev dktX0_writesAlone_2 : List UInt8 := dkwX0_writesAlone_2 ++ dktX0_writesAlone_3
def dkwX0_writesAlone_1 : List UInt8 := [180, 0, 138, 182, 0, 246, 89, 180, 0, 166, 21, 4, 128, 181, 0, 166, 3, 54, 5, 21, 5, 29]
abbrev dktX0_writesAlone_1 : List UInt8 := dkwX0_writesAlone_1 ++ dktX0_writesAlone_2
def dkwX0_writesAlone_0 : List UInt8 := [4, 42, 180, 0, 138, 180, 0, 140, 120, 4, 100, 4, 27, 120, 2, 130, 126, 54, 4, 42, 180, 0, 16, 42]
abbrev dktX0_writesAlone_0 : List UInt8 := dkwX0_writesAlone_0 ++ dktX0_writesAlone_1
theorem dksX0_writesAlone_0 : cX0_writesAlone.data.toList.drop 0 = dktX0_writesAlone_0 := by decide +kernel
theorem dksX0_writesAlone_1 : cX0_writesAlone.data.toList.drop 24 = dktX0_writesAlone_1 := dk_seg dksX0_writesAlone_0 24 rfl rfl
theorem dksX0_writesAlone_2 : cX0_writesAlone.data.toList.drop 46 = dktX0_writesAlone_2 := dk_seg dksX0_writesAlone_1 22 rfl rfl
theorem dksX0_writesAlone_3 : cX0_writesAlone.data.toList.drop 68 = dktX0_writesAlone_3 := dk_seg dksX0_writesAlone_2 22 rfl rfl
theorem dX0_writesAlone_0 : decode cX0_writesAlone 0 = .ok (.iconst 1, 1) := dk_4 (dk_at dksX0_writesAlone_0 0 rfl rfl)
theorem dX0_writesAlone_1 : decode cX0_writesAlone 1 = .ok (.aload_n 0, 1) := dk_42 (dk_at dksX0_writesAlone_0 1 rfl rfl)
theorem dX0_writesAlone_2 : decode cX0_writesAlone 2 = .ok (.getfield 138, 3) := dk_180 0 138 (dk_at dksX0_writesAlone_0 2 rfl rfl)
theorem dX0_writesAlone_5 : decode cX0_writesAlone 5 = .ok (.getfield 140, 3) := dk_180 0 140 (dk_at dksX0_writesAlone_0 5 rfl rfl)
theorem dX0_writesAlone_8 : decode cX0_writesAlone 8 = .ok (.ishl, 1) := dk_120 (dk_at dksX0_writesAlone_0 8 rfl rfl)
theorem dX0_writesAlone_9 : decode cX0_writesAlone 9 = .ok (.iconst 1, 1) := dk_4 (dk_at dksX0_writesAlone_0 9 rfl rfl)
theorem dX0_writesAlone_10 : decode cX0_writesAlone 10 = .ok (.isub, 1) := dk_100 (dk_at dksX0_writesAlone_0 10 rfl rfl)
theorem dX0_writesAlone_11 : decode cX0_writesAlone 11 = .ok (.iconst 1, 1) := dk_4 (dk_at dksX0_writesAlone_0 11 rfl rfl)
theorem dX0_writesAlone_12 : decode cX0_writesAlone 12 = .ok (.iload_n 1, 1) := dk_27 (dk_at dksX0_writesAlone_0 12 rfl rfl)
theorem dX0_writesAlone_13 : decode cX0_writesAlone 13 = .ok (.ishl, 1) := dk_120 (dk_at dksX0_writesAlone_0 13 rfl rfl)
theorem dX0_writesAlone_14 : decode cX0_writesAlone 14 = .ok (.iconst (-1), 1) := dk_2 (dk_at dksX0_writesAlone_0 14 rfl rfl)
theorem dX0_writesAlone_15 : decode cX0_writesAlone 15 = .ok (.ixor, 1) := dk_130 (dk_at dksX0_writesAlone_0 15 rfl rfl)
theorem dX0_writesAlone_16 : decode cX0_writesAlone 16 = .ok (.iand, 1) := dk_126 (dk_at dksX0_writesAlone_0 16 rfl rfl)
theorem dX0_writesAlone_17 : decode cX0_writesAlone 17 = .ok (.istore 4, 2) := dk_54 4 (dk_at dksX0_writesAlone_0 17 rfl rfl)
theorem dX0_writesAlone_19 : decode cX0_writesAlone 19 = .ok (.aload_n 0, 1) := dk_42 (dk_at dksX0_writesAlone_0 19 rfl rfl)
theorem dX0_writesAlone_20 : decode cX0_writesAlone 20 = .ok (.getfield 16, 3) := dk_180 0 16 (dk_at dksX0_writesAlone_0 20 rfl rfl)
theorem dX0_writesAlone_23 : decode cX0_writesAlone 23 = .ok (.aload_n 0, 1) := dk_42 (dk_at dksX0_writesAlone_0 23 rfl rfl)
theorem dX0_writesAlone_24 : decode cX0_writesAlone 24 = .ok (.getfield 138, 3) := dk_180 0 138 (dk_at dksX0_writesAlone_1 0 rfl rfl)
theorem dX0_writesAlone_27 : decode cX0_writesAlone 27 = .ok (.invokevirtual 246, 3) := dk_182 0 246 (dk_at dksX0_writesAlone_1 3 rfl rfl)
theorem dX0_writesAlone_30 : decode cX0_writesAlone 30 = .ok (.dup, 1) := dk_89 (dk_at dksX0_writesAlone_1 6 rfl rfl)
theorem dX0_writesAlone_31 : decode cX0_writesAlone 31 = .ok (.getfield 166, 3) := dk_180 0 166 (dk_at dksX0_writesAlone_1 7 rfl rfl)
theorem dX0_writesAlone_34 : decode cX0_writesAlone 34 = .ok (.iload 4, 2) := dk_21 4 (dk_at dksX0_writesAlone_1 10 rfl rfl)
theorem dX0_writesAlone_36 : decode cX0_writesAlone 36 = .ok (.ior, 1) := dk_128 (dk_at dksX0_writesAlone_1 12 rfl rfl)
theorem dX0_writesAlone_37 : decode cX0_writesAlone 37 = .ok (.putfield 166, 3) := dk_181 0 166 (dk_at dksX0_writesAlone_1 13 rfl rfl)
theorem dX0_writesAlone_40 : decode cX0_writesAlone 40 = .ok (.iconst 0, 1) := dk_3 (dk_at dksX0_writesAlone_1 16 rfl rfl)
theorem dX0_writesAlone_41 : decode cX0_writesAlone 41 = .ok (.istore 5, 2) := dk_54 5 (dk_at dksX0_writesAlone_1 17 rfl rfl)
theorem dX0_writesAlone_43 : decode cX0_writesAlone 43 = .ok (.iload 5, 2) := dk_21 5 (dk_at dksX0_writesAlone_1 19 rfl rfl)
theorem dX0_writesAlone_45 : decode cX0_writesAlone 45 = .ok (.iload_n 3, 1) := dk_29 (dk_at dksX0_writesAlone_1 21 rfl rfl)
theorem dX0_writesAlone_46 : decode cX0_writesAlone 46 = .ok (.if_icmp .ge 42, 3) := dk_162 0 42 (dk_at dksX0_writesAlone_2 0 rfl rfl)
theorem dX0_writesAlone_49 : decode cX0_writesAlone 49 = .ok (.aload_n 0, 1) := dk_42 (dk_at dksX0_writesAlone_2 3 rfl rfl)
theorem dX0_writesAlone_50 : decode cX0_writesAlone 50 = .ok (.getfield 16, 3) := dk_180 0 16 (dk_at dksX0_writesAlone_2 4 rfl rfl)
theorem dX0_writesAlone_53 : decode cX0_writesAlone 53 = .ok (.aload_n 0, 1) := dk_42 (dk_at dksX0_writesAlone_2 7 rfl rfl)
theorem dX0_writesAlone_54 : decode cX0_writesAlone 54 = .ok (.invokevirtual 214, 3) := dk_182 0 214 (dk_at dksX0_writesAlone_2 8 rfl rfl)
theorem dX0_writesAlone_57 : decode cX0_writesAlone 57 = .ok (.invokevirtual 217, 3) := dk_182 0 217 (dk_at dksX0_writesAlone_2 11 rfl rfl)
theorem dX0_writesAlone_60 : decode cX0_writesAlone 60 = .ok (.iload_n 1, 1) := dk_27 (dk_at dksX0_writesAlone_2 14 rfl rfl)
theorem dX0_writesAlone_61 : decode cX0_writesAlone 61 = .ok (.invokestatic 254, 3) := dk_184 0 254 (dk_at dksX0_writesAlone_2 15 rfl rfl)
theorem dX0_writesAlone_64 : decode cX0_writesAlone 64 = .ok (.ifCond .eq 18, 3) := dk_153 0 18 (dk_at dksX0_writesAlone_2 18 rfl rfl)
theorem dX0_writesAlone_67 : decode cX0_writesAlone 67 = .ok (.aload_n 0, 1) := dk_42 (dk_at dksX0_writesAlone_2 21 rfl rfl)
theorem dX0_writesAlone_68 : decode cX0_writesAlone 68 = .ok (.getfield 16, 3) := dk_180 0 16 (dk_at dksX0_writesAlone_3 0 rfl rfl)
theorem dX0_writesAlone_71 : decode cX0_writesAlone 71 = .ok (.getfield 161, 3) := dk_180 0 161 (dk_at dksX0_writesAlone_3 3 rfl rfl)
theorem dX0_writesAlone_74 : decode cX0_writesAlone 74 = .ok (.iload_n 1, 1) := dk_27 (dk_at dksX0_writesAlone_3 6 rfl rfl)
theorem dX0_writesAlone_75 : decode cX0_writesAlone 75 = .ok (.iaload, 1) := dk_46 (dk_at dksX0_writesAlone_3 7 rfl rfl)
theorem dX0_writesAlone_76 : decode cX0_writesAlone 76 = .ok (.iload_n 2, 1) := dk_28 (dk_at dksX0_writesAlone_3 8 rfl rfl)
theorem dX0_writesAlone_77 : decode cX0_writesAlone 77 = .ok (.if_icmp .ne 5, 3) := dk_160 0 5 (dk_at dksX0_writesAlone_3 9 rfl rfl)
theorem dX0_writesAlone_80 : decode cX0_writesAlone 80 = .ok (.iconst 1, 1) := dk_4 (dk_at dksX0_writesAlone_3 12 rfl rfl)
theorem dX0_writesAlone_81 : decode cX0_writesAlone 81 = .ok (.ireturn, 1) := dk_172 (dk_at dksX0_writesAlone_3 13 rfl rfl)
theorem dX0_writesAlone_82 : decode cX0_writesAlone 82 = .ok (.iinc 5 1, 3) := dk_132 5 1 (dk_at dksX0_writesAlone_3 14 rfl rfl)
theorem dX0_writesAlone_85 : decode cX0_writesAlone 85 = .ok (.goto (-42), 3) := dk_167 255 214 (dk_at dksX0_writesAlone_3 17 rfl rfl)
theorem dX0_writesAlone_88 : decode cX0_writesAlone 88 = .ok (.iconst 0, 1) := dk_3 (dk_at dksX0_writesAlone_3 20 rfl rfl)
theorem dX0_writesAlone_89 : decode cX0_writesAlone 89 = .ok (.ireturn, 1) := dk_172 (dk_at dksX0_writesAlone_3 21 rfl rfl)
abbrev cX0_came : ByteArray := prog_1_method_29_code
def yX0_came : MethodName := ⟨RX0, "came", "(IIII)I"⟩
def dkwX0_came_6 : List UInt8 := [167, 0, 5, 21, 6, 172]
abbrev dktX0_came_6 : List UInt8 := dkwX0_came_6 ++ []
def dkwX0_came_5 : List UInt8 := [167, 0, 10, 132, 5, 1, 21, 7, 54, 6, 132, 7, 255, 167, 255, 199, 21, 4, 154, 0, 8, 21, 5]
abbrev dktX0_came_5 : List UInt8 := dkwX0_came_5 ++ dktX0_came_6
def dkwX0_came_4 : List UInt8 := [79, 42, 180, 0, 16, 29, 42, 182, 0, 214, 182, 0, 230, 180, 0, 161, 27, 46, 28, 159, 0, 6]
abbrev dktX0_came_4 : List UInt8 := dkwX0_came_4 ++ dktX0_came_5
def dkwX0_came_3 : List UInt8 := [54, 7, 21, 7, 155, 0, 58, 42, 180, 0, 16, 42, 180, 0, 138, 182, 0, 246, 180, 0, 161, 27, 21, 7]
abbrev dktX0_came_3 : List UInt8 := dkwX0_came_3 ++ dktX0_came_4
def dkwX0_came_2 : List UInt8 := [180, 0, 138, 182, 0, 134, 87, 3, 54, 5, 16, 254, 54, 6, 42, 180, 0, 138, 182, 0, 154, 4, 100]
abbrev dktX0_came_2 : List UInt8 := dkwX0_came_2 ++ dktX0_came_3
def dkwX0_came_1 : List UInt8 := [184, 0, 178, 153, 0, 14, 21, 4, 133, 9, 10, 184, 0, 178, 154, 0, 5, 2, 172, 42, 180, 0, 16, 42]
abbrev dktX0_came_1 : List UInt8 := dkwX0_came_1 ++ dktX0_came_2
def dkwX0_came_0 : List UInt8 := [42, 27, 182, 0, 157, 153, 0, 34, 42, 28, 182, 0, 173, 153, 0, 26, 29, 133, 10, 20, 0, 244]
abbrev dktX0_came_0 : List UInt8 := dkwX0_came_0 ++ dktX0_came_1
theorem dksX0_came_0 : cX0_came.data.toList.drop 0 = dktX0_came_0 := by decide +kernel
theorem dksX0_came_1 : cX0_came.data.toList.drop 22 = dktX0_came_1 := dk_seg dksX0_came_0 22 rfl rfl
theorem dksX0_came_2 : cX0_came.data.toList.drop 46 = dktX0_came_2 := dk_seg dksX0_came_1 24 rfl rfl
theorem dksX0_came_3 : cX0_came.data.toList.drop 69 = dktX0_came_3 := dk_seg dksX0_came_2 23 rfl rfl
theorem dksX0_came_4 : cX0_came.data.toList.drop 93 = dktX0_came_4 := dk_seg dksX0_came_3 24 rfl rfl
theorem dksX0_came_5 : cX0_came.data.toList.drop 115 = dktX0_came_5 := dk_seg dksX0_came_4 22 rfl rfl
theorem dksX0_came_6 : cX0_came.data.toList.drop 138 = dktX0_came_6 := dk_seg dksX0_came_5 23 rfl rfl
theorem dX0_came_0 : decode cX0_came 0 = .ok (.aload_n 0, 1) := dk_42 (dk_at dksX0_came_0 0 rfl rfl)
theorem dX0_came_1 : decode cX0_came 1 = .ok (.iload_n 1, 1) := dk_27 (dk_at dksX0_came_0 1 rfl rfl)
theorem dX0_came_2 : decode cX0_came 2 = .ok (.invokevirtual 157, 3) := dk_182 0 157 (dk_at dksX0_came_0 2 rfl rfl)
theorem dX0_came_5 : decode cX0_came 5 = .ok (.ifCond .eq 34, 3) := dk_153 0 34 (dk_at dksX0_came_0 5 rfl rfl)
theorem dX0_came_8 : decode cX0_came 8 = .ok (.aload_n 0, 1) := dk_42 (dk_at dksX0_came_0 8 rfl rfl)
theorem dX0_came_9 : decode cX0_came 9 = .ok (.iload_n 2, 1) := dk_28 (dk_at dksX0_came_0 9 rfl rfl)
theorem dX0_came_10 : decode cX0_came 10 = .ok (.invokevirtual 173, 3) := dk_182 0 173 (dk_at dksX0_came_0 10 rfl rfl)
theorem dX0_came_13 : decode cX0_came 13 = .ok (.ifCond .eq 26, 3) := dk_153 0 26 (dk_at dksX0_came_0 13 rfl rfl)
theorem dX0_came_16 : decode cX0_came 16 = .ok (.iload_n 3, 1) := dk_29 (dk_at dksX0_came_0 16 rfl rfl)
theorem dX0_came_17 : decode cX0_came 17 = .ok (.i2l, 1) := dk_133 (dk_at dksX0_came_0 17 rfl rfl)
theorem dX0_came_18 : decode cX0_came 18 = .ok (.lconst 1, 1) := dk_10 (dk_at dksX0_came_0 18 rfl rfl)
theorem dX0_came_19 : decode cX0_came 19 = .ok (.ldc2_w 244, 3) := dk_20 0 244 (dk_at dksX0_came_0 19 rfl rfl)
theorem dX0_came_22 : decode cX0_came 22 = .ok (.invokestatic 178, 3) := dk_184 0 178 (dk_at dksX0_came_1 0 rfl rfl)
theorem dX0_came_25 : decode cX0_came 25 = .ok (.ifCond .eq 14, 3) := dk_153 0 14 (dk_at dksX0_came_1 3 rfl rfl)
theorem dX0_came_28 : decode cX0_came 28 = .ok (.iload 4, 2) := dk_21 4 (dk_at dksX0_came_1 6 rfl rfl)
theorem dX0_came_30 : decode cX0_came 30 = .ok (.i2l, 1) := dk_133 (dk_at dksX0_came_1 8 rfl rfl)
theorem dX0_came_31 : decode cX0_came 31 = .ok (.lconst 0, 1) := dk_9 (dk_at dksX0_came_1 9 rfl rfl)
theorem dX0_came_32 : decode cX0_came 32 = .ok (.lconst 1, 1) := dk_10 (dk_at dksX0_came_1 10 rfl rfl)
theorem dX0_came_33 : decode cX0_came 33 = .ok (.invokestatic 178, 3) := dk_184 0 178 (dk_at dksX0_came_1 11 rfl rfl)
theorem dX0_came_36 : decode cX0_came 36 = .ok (.ifCond .ne 5, 3) := dk_154 0 5 (dk_at dksX0_came_1 14 rfl rfl)
theorem dX0_came_39 : decode cX0_came 39 = .ok (.iconst (-1), 1) := dk_2 (dk_at dksX0_came_1 17 rfl rfl)
theorem dX0_came_40 : decode cX0_came 40 = .ok (.ireturn, 1) := dk_172 (dk_at dksX0_came_1 18 rfl rfl)
theorem dX0_came_41 : decode cX0_came 41 = .ok (.aload_n 0, 1) := dk_42 (dk_at dksX0_came_1 19 rfl rfl)
theorem dX0_came_42 : decode cX0_came 42 = .ok (.getfield 16, 3) := dk_180 0 16 (dk_at dksX0_came_1 20 rfl rfl)
theorem dX0_came_45 : decode cX0_came 45 = .ok (.aload_n 0, 1) := dk_42 (dk_at dksX0_came_1 23 rfl rfl)
theorem dX0_came_46 : decode cX0_came 46 = .ok (.getfield 138, 3) := dk_180 0 138 (dk_at dksX0_came_2 0 rfl rfl)
theorem dX0_came_49 : decode cX0_came 49 = .ok (.invokevirtual 134, 3) := dk_182 0 134 (dk_at dksX0_came_2 3 rfl rfl)
theorem dX0_came_52 : decode cX0_came 52 = .ok (.pop, 1) := dk_87 (dk_at dksX0_came_2 6 rfl rfl)
theorem dX0_came_53 : decode cX0_came 53 = .ok (.iconst 0, 1) := dk_3 (dk_at dksX0_came_2 7 rfl rfl)
theorem dX0_came_54 : decode cX0_came 54 = .ok (.istore 5, 2) := dk_54 5 (dk_at dksX0_came_2 8 rfl rfl)
theorem dX0_came_56 : decode cX0_came 56 = .ok (.bipush (-2), 2) := dk_16 254 (dk_at dksX0_came_2 10 rfl rfl)
theorem dX0_came_58 : decode cX0_came 58 = .ok (.istore 6, 2) := dk_54 6 (dk_at dksX0_came_2 12 rfl rfl)
theorem dX0_came_60 : decode cX0_came 60 = .ok (.aload_n 0, 1) := dk_42 (dk_at dksX0_came_2 14 rfl rfl)
theorem dX0_came_61 : decode cX0_came 61 = .ok (.getfield 138, 3) := dk_180 0 138 (dk_at dksX0_came_2 15 rfl rfl)
theorem dX0_came_64 : decode cX0_came 64 = .ok (.invokevirtual 154, 3) := dk_182 0 154 (dk_at dksX0_came_2 18 rfl rfl)
theorem dX0_came_67 : decode cX0_came 67 = .ok (.iconst 1, 1) := dk_4 (dk_at dksX0_came_2 21 rfl rfl)
theorem dX0_came_68 : decode cX0_came 68 = .ok (.isub, 1) := dk_100 (dk_at dksX0_came_2 22 rfl rfl)
theorem dX0_came_69 : decode cX0_came 69 = .ok (.istore 7, 2) := dk_54 7 (dk_at dksX0_came_3 0 rfl rfl)
theorem dX0_came_71 : decode cX0_came 71 = .ok (.iload 7, 2) := dk_21 7 (dk_at dksX0_came_3 2 rfl rfl)
theorem dX0_came_73 : decode cX0_came 73 = .ok (.ifCond .lt 58, 3) := dk_155 0 58 (dk_at dksX0_came_3 4 rfl rfl)
theorem dX0_came_76 : decode cX0_came 76 = .ok (.aload_n 0, 1) := dk_42 (dk_at dksX0_came_3 7 rfl rfl)
theorem dX0_came_77 : decode cX0_came 77 = .ok (.getfield 16, 3) := dk_180 0 16 (dk_at dksX0_came_3 8 rfl rfl)
theorem dX0_came_80 : decode cX0_came 80 = .ok (.aload_n 0, 1) := dk_42 (dk_at dksX0_came_3 11 rfl rfl)
theorem dX0_came_81 : decode cX0_came 81 = .ok (.getfield 138, 3) := dk_180 0 138 (dk_at dksX0_came_3 12 rfl rfl)
theorem dX0_came_84 : decode cX0_came 84 = .ok (.invokevirtual 246, 3) := dk_182 0 246 (dk_at dksX0_came_3 15 rfl rfl)
theorem dX0_came_87 : decode cX0_came 87 = .ok (.getfield 161, 3) := dk_180 0 161 (dk_at dksX0_came_3 18 rfl rfl)
theorem dX0_came_90 : decode cX0_came 90 = .ok (.iload_n 1, 1) := dk_27 (dk_at dksX0_came_3 21 rfl rfl)
theorem dX0_came_91 : decode cX0_came 91 = .ok (.iload 7, 2) := dk_21 7 (dk_at dksX0_came_3 22 rfl rfl)
theorem dX0_came_93 : decode cX0_came 93 = .ok (.iastore, 1) := dk_79 (dk_at dksX0_came_4 0 rfl rfl)
theorem dX0_came_94 : decode cX0_came 94 = .ok (.aload_n 0, 1) := dk_42 (dk_at dksX0_came_4 1 rfl rfl)
theorem dX0_came_95 : decode cX0_came 95 = .ok (.getfield 16, 3) := dk_180 0 16 (dk_at dksX0_came_4 2 rfl rfl)
theorem dX0_came_98 : decode cX0_came 98 = .ok (.iload_n 3, 1) := dk_29 (dk_at dksX0_came_4 5 rfl rfl)
theorem dX0_came_99 : decode cX0_came 99 = .ok (.aload_n 0, 1) := dk_42 (dk_at dksX0_came_4 6 rfl rfl)
theorem dX0_came_100 : decode cX0_came 100 = .ok (.invokevirtual 214, 3) := dk_182 0 214 (dk_at dksX0_came_4 7 rfl rfl)
theorem dX0_came_103 : decode cX0_came 103 = .ok (.invokevirtual 230, 3) := dk_182 0 230 (dk_at dksX0_came_4 10 rfl rfl)
theorem dX0_came_106 : decode cX0_came 106 = .ok (.getfield 161, 3) := dk_180 0 161 (dk_at dksX0_came_4 13 rfl rfl)
theorem dX0_came_109 : decode cX0_came 109 = .ok (.iload_n 1, 1) := dk_27 (dk_at dksX0_came_4 16 rfl rfl)
theorem dX0_came_110 : decode cX0_came 110 = .ok (.iaload, 1) := dk_46 (dk_at dksX0_came_4 17 rfl rfl)
theorem dX0_came_111 : decode cX0_came 111 = .ok (.iload_n 2, 1) := dk_28 (dk_at dksX0_came_4 18 rfl rfl)
theorem dX0_came_112 : decode cX0_came 112 = .ok (.if_icmp .eq 6, 3) := dk_159 0 6 (dk_at dksX0_came_4 19 rfl rfl)
theorem dX0_came_115 : decode cX0_came 115 = .ok (.goto 10, 3) := dk_167 0 10 (dk_at dksX0_came_5 0 rfl rfl)
theorem dX0_came_118 : decode cX0_came 118 = .ok (.iinc 5 1, 3) := dk_132 5 1 (dk_at dksX0_came_5 3 rfl rfl)
theorem dX0_came_121 : decode cX0_came 121 = .ok (.iload 7, 2) := dk_21 7 (dk_at dksX0_came_5 6 rfl rfl)
theorem dX0_came_123 : decode cX0_came 123 = .ok (.istore 6, 2) := dk_54 6 (dk_at dksX0_came_5 8 rfl rfl)
theorem dX0_came_125 : decode cX0_came 125 = .ok (.iinc 7 (-1), 3) := dk_132 7 255 (dk_at dksX0_came_5 10 rfl rfl)
theorem dX0_came_128 : decode cX0_came 128 = .ok (.goto (-57), 3) := dk_167 255 199 (dk_at dksX0_came_5 13 rfl rfl)
theorem dX0_came_131 : decode cX0_came 131 = .ok (.iload 4, 2) := dk_21 4 (dk_at dksX0_came_5 16 rfl rfl)
theorem dX0_came_133 : decode cX0_came 133 = .ok (.ifCond .ne 8, 3) := dk_154 0 8 (dk_at dksX0_came_5 18 rfl rfl)
theorem dX0_came_136 : decode cX0_came 136 = .ok (.iload 5, 2) := dk_21 5 (dk_at dksX0_came_5 21 rfl rfl)
theorem dX0_came_138 : decode cX0_came 138 = .ok (.goto 5, 3) := dk_167 0 5 (dk_at dksX0_came_6 0 rfl rfl)
theorem dX0_came_141 : decode cX0_came 141 = .ok (.iload 6, 2) := dk_21 6 (dk_at dksX0_came_6 3 rfl rfl)
theorem dX0_came_143 : decode cX0_came 143 = .ok (.ireturn, 1) := dk_172 (dk_at dksX0_came_6 5 rfl rfl)
abbrev cX0_change : ByteArray := prog_1_method_30_code
def yX0_change : MethodName := ⟨RX0, "change", "(II)I"⟩
def dkwX0_change_8 : List UInt8 := [160, 0, 8, 21, 4, 167, 0, 5, 21, 5, 172]
abbrev dktX0_change_8 : List UInt8 := dkwX0_change_8 ++ []
def dkwX0_change_7 : List UInt8 := [132, 7, 1, 167, 255, 175, 132, 6, 1, 167, 255, 151, 28, 154, 0, 7, 29, 167, 0, 15, 28, 4]
abbrev dktX0_change_7 : List UInt8 := dkwX0_change_7 ++ dktX0_change_8
def dkwX0_change_6 : List UInt8 := [182, 1, 9, 21, 8, 29, 163, 0, 6, 167, 0, 14, 21, 6, 54, 4, 21, 7, 54, 5, 21, 8, 62]
abbrev dktX0_change_6 : List UInt8 := dkwX0_change_6 ++ dktX0_change_7
def dkwX0_change_5 : List UInt8 := [180, 0, 16, 27, 42, 182, 0, 214, 182, 0, 230, 182, 0, 237, 54, 8, 42, 180, 0, 16, 21, 6, 21, 7]
abbrev dktX0_change_5 : List UInt8 := dkwX0_change_5 ++ dktX0_change_6
def dkwX0_change_4 : List UInt8 := [162, 0, 75, 42, 180, 0, 16, 42, 180, 0, 138, 182, 0, 246, 21, 6, 21, 7, 182, 1, 9, 42]
abbrev dktX0_change_4 : List UInt8 := dkwX0_change_4 ++ dktX0_change_5
def dkwX0_change_3 : List UInt8 := [180, 0, 138, 180, 1, 6, 162, 0, 99, 21, 6, 4, 96, 54, 7, 21, 7, 42, 180, 0, 138, 180, 1, 6]
abbrev dktX0_change_3 : List UInt8 := dkwX0_change_3 ++ dktX0_change_4
def dkwX0_change_2 : List UInt8 := [42, 182, 0, 214, 182, 0, 230, 182, 0, 237, 62, 2, 54, 4, 2, 54, 5, 3, 54, 6, 21, 6, 42]
abbrev dktX0_change_2 : List UInt8 := dkwX0_change_2 ++ dktX0_change_3
def dkwX0_change_1 : List UInt8 := [20, 0, 176, 184, 0, 178, 154, 0, 6, 16, 254, 172, 42, 180, 0, 16, 42, 180, 0, 138, 182, 0, 134, 27]
abbrev dktX0_change_1 : List UInt8 := dkwX0_change_1 ++ dktX0_change_2
def dkwX0_change_0 : List UInt8 := [42, 180, 0, 138, 198, 0, 27, 27, 133, 10, 20, 0, 244, 184, 0, 178, 153, 0, 15, 28, 133, 9]
abbrev dktX0_change_0 : List UInt8 := dkwX0_change_0 ++ dktX0_change_1
theorem dksX0_change_0 : cX0_change.data.toList.drop 0 = dktX0_change_0 := by decide +kernel
theorem dksX0_change_1 : cX0_change.data.toList.drop 22 = dktX0_change_1 := dk_seg dksX0_change_0 22 rfl rfl
theorem dksX0_change_2 : cX0_change.data.toList.drop 46 = dktX0_change_2 := dk_seg dksX0_change_1 24 rfl rfl
theorem dksX0_change_3 : cX0_change.data.toList.drop 69 = dktX0_change_3 := dk_seg dksX0_change_2 23 rfl rfl
theorem dksX0_change_4 : cX0_change.data.toList.drop 93 = dktX0_change_4 := dk_seg dksX0_change_3 24 rfl rfl
theorem dksX0_change_5 : cX0_change.data.toList.drop 115 = dktX0_change_5 := dk_seg dksX0_change_4 22 rfl rfl
theorem dksX0_change_6 : cX0_change.data.toList.drop 139 = dktX0_change_6 := dk_seg dksX0_change_5 24 rfl rfl
theorem dksX0_change_7 : cX0_change.data.toList.drop 162 = dktX0_change_7 := dk_seg dksX0_change_6 23 rfl rfl
theorem dksX0_change_8 : cX0_change.data.toList.drop 184 = dktX0_change_8 := dk_seg dksX0_change_7 22 rfl rfl
theorem dX0_change_0 : decode cX0_change 0 = .ok (.aload_n 0, 1) := dk_42 (dk_at dksX0_change_0 0 rfl rfl)
theorem dX0_change_1 : decode cX0_change 1 = .ok (.getfield 138, 3) := dk_180 0 138 (dk_at dksX0_change_0 1 rfl rfl)
theorem dX0_change_4 : decode cX0_change 4 = .ok (.ifnull 27, 3) := dk_198 0 27 (dk_at dksX0_change_0 4 rfl rfl)
theorem dX0_change_7 : decode cX0_change 7 = .ok (.iload_n 1, 1) := dk_27 (dk_at dksX0_change_0 7 rfl rfl)
theorem dX0_change_8 : decode cX0_change 8 = .ok (.i2l, 1) := dk_133 (dk_at dksX0_change_0 8 rfl rfl)
theorem dX0_change_9 : decode cX0_change 9 = .ok (.lconst 1, 1) := dk_10 (dk_at dksX0_change_0 9 rfl rfl)
theorem dX0_change_10 : decode cX0_change 10 = .ok (.ldc2_w 244, 3) := dk_20 0 244 (dk_at dksX0_change_0 10 rfl rfl)
theorem dX0_change_13 : decode cX0_change 13 = .ok (.invokestatic 178, 3) := dk_184 0 178 (dk_at dksX0_change_0 13 rfl rfl)
theorem dX0_change_16 : decode cX0_change 16 = .ok (.ifCond .eq 15, 3) := dk_153 0 15 (dk_at dksX0_change_0 16 rfl rfl)
theorem dX0_change_19 : decode cX0_change 19 = .ok (.iload_n 2, 1) := dk_28 (dk_at dksX0_change_0 19 rfl rfl)
theorem dX0_change_20 : decode cX0_change 20 = .ok (.i2l, 1) := dk_133 (dk_at dksX0_change_0 20 rfl rfl)
theorem dX0_change_21 : decode cX0_change 21 = .ok (.lconst 0, 1) := dk_9 (dk_at dksX0_change_0 21 rfl rfl)
theorem dX0_change_22 : decode cX0_change 22 = .ok (.ldc2_w 176, 3) := dk_20 0 176 (dk_at dksX0_change_1 0 rfl rfl)
theorem dX0_change_25 : decode cX0_change 25 = .ok (.invokestatic 178, 3) := dk_184 0 178 (dk_at dksX0_change_1 3 rfl rfl)
theorem dX0_change_28 : decode cX0_change 28 = .ok (.ifCond .ne 6, 3) := dk_154 0 6 (dk_at dksX0_change_1 6 rfl rfl)
theorem dX0_change_31 : decode cX0_change 31 = .ok (.bipush (-2), 2) := dk_16 254 (dk_at dksX0_change_1 9 rfl rfl)
theorem dX0_change_33 : decode cX0_change 33 = .ok (.ireturn, 1) := dk_172 (dk_at dksX0_change_1 11 rfl rfl)
theorem dX0_change_34 : decode cX0_change 34 = .ok (.aload_n 0, 1) := dk_42 (dk_at dksX0_change_1 12 rfl rfl)
theorem dX0_change_35 : decode cX0_change 35 = .ok (.getfield 16, 3) := dk_180 0 16 (dk_at dksX0_change_1 13 rfl rfl)
theorem dX0_change_38 : decode cX0_change 38 = .ok (.aload_n 0, 1) := dk_42 (dk_at dksX0_change_1 16 rfl rfl)
theorem dX0_change_39 : decode cX0_change 39 = .ok (.getfield 138, 3) := dk_180 0 138 (dk_at dksX0_change_1 17 rfl rfl)
theorem dX0_change_42 : decode cX0_change 42 = .ok (.invokevirtual 134, 3) := dk_182 0 134 (dk_at dksX0_change_1 20 rfl rfl)
theorem dX0_change_45 : decode cX0_change 45 = .ok (.iload_n 1, 1) := dk_27 (dk_at dksX0_change_1 23 rfl rfl)
theorem dX0_change_46 : decode cX0_change 46 = .ok (.aload_n 0, 1) := dk_42 (dk_at dksX0_change_2 0 rfl rfl)
theorem dX0_change_47 : decode cX0_change 47 = .ok (.invokevirtual 214, 3) := dk_182 0 214 (dk_at dksX0_change_2 1 rfl rfl)
theorem dX0_change_50 : decode cX0_change 50 = .ok (.invokevirtual 230, 3) := dk_182 0 230 (dk_at dksX0_change_2 4 rfl rfl)
theorem dX0_change_53 : decode cX0_change 53 = .ok (.invokevirtual 237, 3) := dk_182 0 237 (dk_at dksX0_change_2 7 rfl rfl)
theorem dX0_change_56 : decode cX0_change 56 = .ok (.istore_n 3, 1) := dk_62 (dk_at dksX0_change_2 10 rfl rfl)
theorem dX0_change_57 : decode cX0_change 57 = .ok (.iconst (-1), 1) := dk_2 (dk_at dksX0_change_2 11 rfl rfl)
theorem dX0_change_58 : decode cX0_change 58 = .ok (.istore 4, 2) := dk_54 4 (dk_at dksX0_change_2 12 rfl rfl)
theorem dX0_change_60 : decode cX0_change 60 = .ok (.iconst (-1), 1) := dk_2 (dk_at dksX0_change_2 14 rfl rfl)
theorem dX0_change_61 : decode cX0_change 61 = .ok (.istore 5, 2) := dk_54 5 (dk_at dksX0_change_2 15 rfl rfl)
theorem dX0_change_63 : decode cX0_change 63 = .ok (.iconst 0, 1) := dk_3 (dk_at dksX0_change_2 17 rfl rfl)
theorem dX0_change_64 : decode cX0_change 64 = .ok (.istore 6, 2) := dk_54 6 (dk_at dksX0_change_2 18 rfl rfl)
theorem dX0_change_66 : decode cX0_change 66 = .ok (.iload 6, 2) := dk_21 6 (dk_at dksX0_change_2 20 rfl rfl)
theorem dX0_change_68 : decode cX0_change 68 = .ok (.aload_n 0, 1) := dk_42 (dk_at dksX0_change_2 22 rfl rfl)
theorem dX0_change_69 : decode cX0_change 69 = .ok (.getfield 138, 3) := dk_180 0 138 (dk_at dksX0_change_3 0 rfl rfl)
theorem dX0_change_72 : decode cX0_change 72 = .ok (.getfield 262, 3) := dk_180 1 6 (dk_at dksX0_change_3 3 rfl rfl)
theorem dX0_change_75 : decode cX0_change 75 = .ok (.if_icmp .ge 99, 3) := dk_162 0 99 (dk_at dksX0_change_3 6 rfl rfl)
theorem dX0_change_78 : decode cX0_change 78 = .ok (.iload 6, 2) := dk_21 6 (dk_at dksX0_change_3 9 rfl rfl)
theorem dX0_change_80 : decode cX0_change 80 = .ok (.iconst 1, 1) := dk_4 (dk_at dksX0_change_3 11 rfl rfl)
theorem dX0_change_81 : decode cX0_change 81 = .ok (.iadd, 1) := dk_96 (dk_at dksX0_change_3 12 rfl rfl)
theorem dX0_change_82 : decode cX0_change 82 = .ok (.istore 7, 2) := dk_54 7 (dk_at dksX0_change_3 13 rfl rfl)
theorem dX0_change_84 : decode cX0_change 84 = .ok (.iload 7, 2) := dk_21 7 (dk_at dksX0_change_3 15 rfl rfl)
theorem dX0_change_86 : decode cX0_change 86 = .ok (.aload_n 0, 1) := dk_42 (dk_at dksX0_change_3 17 rfl rfl)
theorem dX0_change_87 : decode cX0_change 87 = .ok (.getfield 138, 3) := dk_180 0 138 (dk_at dksX0_change_3 18 rfl rfl)
theorem dX0_change_90 : decode cX0_change 90 = .ok (.getfield 262, 3) := dk_180 1 6 (dk_at dksX0_change_3 21 rfl rfl)
theorem dX0_change_93 : decode cX0_change 93 = .ok (.if_icmp .ge 75, 3) := dk_162 0 75 (dk_at dksX0_change_4 0 rfl rfl)
theorem dX0_change_96 : decode cX0_change 96 = .ok (.aload_n 0, 1) := dk_42 (dk_at dksX0_change_4 3 rfl rfl)
theorem dX0_change_97 : decode cX0_change 97 = .ok (.getfield 16, 3) := dk_180 0 16 (dk_at dksX0_change_4 4 rfl rfl)
theorem dX0_change_100 : decode cX0_change 100 = .ok (.aload_n 0, 1) := dk_42 (dk_at dksX0_change_4 7 rfl rfl)
theorem dX0_change_101 : decode cX0_change 101 = .ok (.getfield 138, 3) := dk_180 0 138 (dk_at dksX0_change_4 8 rfl rfl)
theorem dX0_change_104 : decode cX0_change 104 = .ok (.invokevirtual 246, 3) := dk_182 0 246 (dk_at dksX0_change_4 11 rfl rfl)
theorem dX0_change_107 : decode cX0_change 107 = .ok (.iload 6, 2) := dk_21 6 (dk_at dksX0_change_4 14 rfl rfl)
theorem dX0_change_109 : decode cX0_change 109 = .ok (.iload 7, 2) := dk_21 7 (dk_at dksX0_change_4 16 rfl rfl)
theorem dX0_change_111 : decode cX0_change 111 = .ok (.invokevirtual 265, 3) := dk_182 1 9 (dk_at dksX0_change_4 18 rfl rfl)
theorem dX0_change_114 : decode cX0_change 114 = .ok (.aload_n 0, 1) := dk_42 (dk_at dksX0_change_4 21 rfl rfl)
theorem dX0_change_115 : decode cX0_change 115 = .ok (.getfield 16, 3) := dk_180 0 16 (dk_at dksX0_change_5 0 rfl rfl)
theorem dX0_change_118 : decode cX0_change 118 = .ok (.iload_n 1, 1) := dk_27 (dk_at dksX0_change_5 3 rfl rfl)
theorem dX0_change_119 : decode cX0_change 119 = .ok (.aload_n 0, 1) := dk_42 (dk_at dksX0_change_5 4 rfl rfl)
theorem dX0_change_120 : decode cX0_change 120 = .ok (.invokevirtual 214, 3) := dk_182 0 214 (dk_at dksX0_change_5 5 rfl rfl)
theorem dX0_change_123 : decode cX0_change 123 = .ok (.invokevirtual 230, 3) := dk_182 0 230 (dk_at dksX0_change_5 8 rfl rfl)
theorem dX0_change_126 : decode cX0_change 126 = .ok (.invokevirtual 237, 3) := dk_182 0 237 (dk_at dksX0_change_5 11 rfl rfl)
theorem dX0_change_129 : decode cX0_change 129 = .ok (.istore 8, 2) := dk_54 8 (dk_at dksX0_change_5 14 rfl rfl)
theorem dX0_change_131 : decode cX0_change 131 = .ok (.aload_n 0, 1) := dk_42 (dk_at dksX0_change_5 16 rfl rfl)
theorem dX0_change_132 : decode cX0_change 132 = .ok (.getfield 16, 3) := dk_180 0 16 (dk_at dksX0_change_5 17 rfl rfl)
theorem dX0_change_135 : decode cX0_change 135 = .ok (.iload 6, 2) := dk_21 6 (dk_at dksX0_change_5 20 rfl rfl)
theorem dX0_change_137 : decode cX0_change 137 = .ok (.iload 7, 2) := dk_21 7 (dk_at dksX0_change_5 22 rfl rfl)
theorem dX0_change_139 : decode cX0_change 139 = .ok (.invokevirtual 265, 3) := dk_182 1 9 (dk_at dksX0_change_6 0 rfl rfl)
theorem dX0_change_142 : decode cX0_change 142 = .ok (.iload 8, 2) := dk_21 8 (dk_at dksX0_change_6 3 rfl rfl)
theorem dX0_change_144 : decode cX0_change 144 = .ok (.iload_n 3, 1) := dk_29 (dk_at dksX0_change_6 5 rfl rfl)
theorem dX0_change_145 : decode cX0_change 145 = .ok (.if_icmp .gt 6, 3) := dk_163 0 6 (dk_at dksX0_change_6 6 rfl rfl)
theorem dX0_change_148 : decode cX0_change 148 = .ok (.goto 14, 3) := dk_167 0 14 (dk_at dksX0_change_6 9 rfl rfl)
theorem dX0_change_151 : decode cX0_change 151 = .ok (.iload 6, 2) := dk_21 6 (dk_at dksX0_change_6 12 rfl rfl)
theorem dX0_change_153 : decode cX0_change 153 = .ok (.istore 4, 2) := dk_54 4 (dk_at dksX0_change_6 14 rfl rfl)
theorem dX0_change_155 : decode cX0_change 155 = .ok (.iload 7, 2) := dk_21 7 (dk_at dksX0_change_6 16 rfl rfl)
theorem dX0_change_157 : decode cX0_change 157 = .ok (.istore 5, 2) := dk_54 5 (dk_at dksX0_change_6 18 rfl rfl)
theorem dX0_change_159 : decode cX0_change 159 = .ok (.iload 8, 2) := dk_21 8 (dk_at dksX0_change_6 20 rfl rfl)
theorem dX0_change_161 : decode cX0_change 161 = .ok (.istore_n 3, 1) := dk_62 (dk_at dksX0_change_6 22 rfl rfl)
theorem dX0_change_162 : decode cX0_change 162 = .ok (.iinc 7 1, 3) := dk_132 7 1 (dk_at dksX0_change_7 0 rfl rfl)
theorem dX0_change_165 : decode cX0_change 165 = .ok (.goto (-81), 3) := dk_167 255 175 (dk_at dksX0_change_7 3 rfl rfl)
theorem dX0_change_168 : decode cX0_change 168 = .ok (.iinc 6 1, 3) := dk_132 6 1 (dk_at dksX0_change_7 6 rfl rfl)
theorem dX0_change_171 : decode cX0_change 171 = .ok (.goto (-105), 3) := dk_167 255 151 (dk_at dksX0_change_7 9 rfl rfl)
theorem dX0_change_174 : decode cX0_change 174 = .ok (.iload_n 2, 1) := dk_28 (dk_at dksX0_change_7 12 rfl rfl)
theorem dX0_change_175 : decode cX0_change 175 = .ok (.ifCond .ne 7, 3) := dk_154 0 7 (dk_at dksX0_change_7 13 rfl rfl)
theorem dX0_change_178 : decode cX0_change 178 = .ok (.iload_n 3, 1) := dk_29 (dk_at dksX0_change_7 16 rfl rfl)
theorem dX0_change_179 : decode cX0_change 179 = .ok (.goto 15, 3) := dk_167 0 15 (dk_at dksX0_change_7 17 rfl rfl)
theorem dX0_change_182 : decode cX0_change 182 = .ok (.iload_n 2, 1) := dk_28 (dk_at dksX0_change_7 20 rfl rfl)
theorem dX0_change_183 : decode cX0_change 183 = .ok (.iconst 1, 1) := dk_4 (dk_at dksX0_change_7 21 rfl rfl)
theorem dX0_change_184 : decode cX0_change 184 = .ok (.if_icmp .ne 8, 3) := dk_160 0 8 (dk_at dksX0_change_8 0 rfl rfl)
theorem dX0_change_187 : decode cX0_change 187 = .ok (.iload 4, 2) := dk_21 4 (dk_at dksX0_change_8 3 rfl rfl)
theorem dX0_change_189 : decode cX0_change 189 = .ok (.goto 5, 3) := dk_167 0 5 (dk_at dksX0_change_8 5 rfl rfl)
theorem dX0_change_192 : decode cX0_change 192 = .ok (.iload 5, 2) := dk_21 5 (dk_at dksX0_change_8 8 rfl rfl)
theorem dX0_change_194 : decode cX0_change 194 = .ok (.ireturn, 1) := dk_172 (dk_at dksX0_change_8 10 rfl rfl)
abbrev cX0_game : ByteArray := prog_1_method_32_code
def yX0_game : MethodName := ⟨RX0, "game", "(IIII)I"⟩
def dkwX0_game_4 : List UInt8 := [167, 0, 7, 42, 180, 1, 24, 172]
abbrev dktX0_game_4 : List UInt8 := dkwX0_game_4 ++ []
def dkwX0_game_3 : List UInt8 := [132, 5, 1, 167, 255, 232, 42, 27, 28, 3, 29, 182, 1, 20, 54, 5, 21, 4, 154, 0, 8, 21, 5]
abbrev dktX0_game_3 : List UInt8 := dkwX0_game_3 ++ dktX0_game_4
def dkwX0_game_2 : List UInt8 := [3, 54, 5, 21, 5, 29, 163, 0, 24, 42, 180, 0, 19, 21, 5, 50, 42, 180, 0, 138, 182, 0, 134, 87]
abbrev dktX0_game_2 : List UInt8 := dkwX0_game_2 ++ dktX0_game_3
def dkwX0_game_1 : List UInt8 := [20, 1, 27, 184, 0, 178, 153, 0, 14, 21, 4, 133, 9, 10, 184, 0, 178, 154, 0, 7, 17, 252, 24, 172]
abbrev dktX0_game_1 : List UInt8 := dkwX0_game_1 ++ dktX0_game_2
def dkwX0_game_0 : List UInt8 := [42, 27, 182, 0, 157, 153, 0, 39, 42, 28, 182, 0, 157, 153, 0, 31, 27, 28, 159, 0, 26, 29, 133, 10]
abbrev dktX0_game_0 : List UInt8 := dkwX0_game_0 ++ dktX0_game_1
theorem dksX0_game_0 : cX0_game.data.toList.drop 0 = dktX0_game_0 := by decide +kernel
theorem dksX0_game_1 : cX0_game.data.toList.drop 24 = dktX0_game_1 := dk_seg dksX0_game_0 24 rfl rfl
theorem dksX0_game_2 : cX0_game.data.toList.drop 48 = dktX0_game_2 := dk_seg dksX0_game_1 24 rfl rfl
theorem dksX0_game_3 : cX0_game.data.toList.drop 72 = dktX0_game_3 := dk_seg dksX0_game_2 24 rfl rfl
theorem dksX0_game_4 : cX0_game.data.toList.drop 95 = dktX0_game_4 := dk_seg dksX0_game_3 23 rfl rfl
theorem dX0_game_0 : decode cX0_game 0 = .ok (.aload_n 0, 1) := dk_42 (dk_at dksX0_game_0 0 rfl rfl)
theorem dX0_game_1 : decode cX0_game 1 = .ok (.iload_n 1, 1) := dk_27 (dk_at dksX0_game_0 1 rfl rfl)
theorem dX0_game_2 : decode cX0_game 2 = .ok (.invokevirtual 157, 3) := dk_182 0 157 (dk_at dksX0_game_0 2 rfl rfl)
theorem dX0_game_5 : decode cX0_game 5 = .ok (.ifCond .eq 39, 3) := dk_153 0 39 (dk_at dksX0_game_0 5 rfl rfl)
theorem dX0_game_8 : decode cX0_game 8 = .ok (.aload_n 0, 1) := dk_42 (dk_at dksX0_game_0 8 rfl rfl)
theorem dX0_game_9 : decode cX0_game 9 = .ok (.iload_n 2, 1) := dk_28 (dk_at dksX0_game_0 9 rfl rfl)
theorem dX0_game_10 : decode cX0_game 10 = .ok (.invokevirtual 157, 3) := dk_182 0 157 (dk_at dksX0_game_0 10 rfl rfl)
theorem dX0_game_13 : decode cX0_game 13 = .ok (.ifCond .eq 31, 3) := dk_153 0 31 (dk_at dksX0_game_0 13 rfl rfl)
theorem dX0_game_16 : decode cX0_game 16 = .ok (.iload_n 1, 1) := dk_27 (dk_at dksX0_game_0 16 rfl rfl)
theorem dX0_game_17 : decode cX0_game 17 = .ok (.iload_n 2, 1) := dk_28 (dk_at dksX0_game_0 17 rfl rfl)
theorem dX0_game_18 : decode cX0_game 18 = .ok (.if_icmp .eq 26, 3) := dk_159 0 26 (dk_at dksX0_game_0 18 rfl rfl)
theorem dX0_game_21 : decode cX0_game 21 = .ok (.iload_n 3, 1) := dk_29 (dk_at dksX0_game_0 21 rfl rfl)
theorem dX0_game_22 : decode cX0_game 22 = .ok (.i2l, 1) := dk_133 (dk_at dksX0_game_0 22 rfl rfl)
theorem dX0_game_23 : decode cX0_game 23 = .ok (.lconst 1, 1) := dk_10 (dk_at dksX0_game_0 23 rfl rfl)
theorem dX0_game_24 : decode cX0_game 24 = .ok (.ldc2_w 283, 3) := dk_20 1 27 (dk_at dksX0_game_1 0 rfl rfl)
theorem dX0_game_27 : decode cX0_game 27 = .ok (.invokestatic 178, 3) := dk_184 0 178 (dk_at dksX0_game_1 3 rfl rfl)
theorem dX0_game_30 : decode cX0_game 30 = .ok (.ifCond .eq 14, 3) := dk_153 0 14 (dk_at dksX0_game_1 6 rfl rfl)
theorem dX0_game_33 : decode cX0_game 33 = .ok (.iload 4, 2) := dk_21 4 (dk_at dksX0_game_1 9 rfl rfl)
theorem dX0_game_35 : decode cX0_game 35 = .ok (.i2l, 1) := dk_133 (dk_at dksX0_game_1 11 rfl rfl)
theorem dX0_game_36 : decode cX0_game 36 = .ok (.lconst 0, 1) := dk_9 (dk_at dksX0_game_1 12 rfl rfl)
theorem dX0_game_37 : decode cX0_game 37 = .ok (.lconst 1, 1) := dk_10 (dk_at dksX0_game_1 13 rfl rfl)
theorem dX0_game_38 : decode cX0_game 38 = .ok (.invokestatic 178, 3) := dk_184 0 178 (dk_at dksX0_game_1 14 rfl rfl)
theorem dX0_game_41 : decode cX0_game 41 = .ok (.ifCond .ne 7, 3) := dk_154 0 7 (dk_at dksX0_game_1 17 rfl rfl)
theorem dX0_game_44 : decode cX0_game 44 = .ok (.sipush (-1000), 3) := dk_17 252 24 (dk_at dksX0_game_1 20 rfl rfl)
theorem dX0_game_47 : decode cX0_game 47 = .ok (.ireturn, 1) := dk_172 (dk_at dksX0_game_1 23 rfl rfl)
theorem dX0_game_48 : decode cX0_game 48 = .ok (.iconst 0, 1) := dk_3 (dk_at dksX0_game_2 0 rfl rfl)
theorem dX0_game_49 : decode cX0_game 49 = .ok (.istore 5, 2) := dk_54 5 (dk_at dksX0_game_2 1 rfl rfl)
theorem dX0_game_51 : decode cX0_game 51 = .ok (.iload 5, 2) := dk_21 5 (dk_at dksX0_game_2 3 rfl rfl)
theorem dX0_game_53 : decode cX0_game 53 = .ok (.iload_n 3, 1) := dk_29 (dk_at dksX0_game_2 5 rfl rfl)
theorem dX0_game_54 : decode cX0_game 54 = .ok (.if_icmp .gt 24, 3) := dk_163 0 24 (dk_at dksX0_game_2 6 rfl rfl)
theorem dX0_game_57 : decode cX0_game 57 = .ok (.aload_n 0, 1) := dk_42 (dk_at dksX0_game_2 9 rfl rfl)
theorem dX0_game_58 : decode cX0_game 58 = .ok (.getfield 19, 3) := dk_180 0 19 (dk_at dksX0_game_2 10 rfl rfl)
theorem dX0_game_61 : decode cX0_game 61 = .ok (.iload 5, 2) := dk_21 5 (dk_at dksX0_game_2 13 rfl rfl)
theorem dX0_game_63 : decode cX0_game 63 = .ok (.aaload, 1) := dk_50 (dk_at dksX0_game_2 15 rfl rfl)
theorem dX0_game_64 : decode cX0_game 64 = .ok (.aload_n 0, 1) := dk_42 (dk_at dksX0_game_2 16 rfl rfl)
theorem dX0_game_65 : decode cX0_game 65 = .ok (.getfield 138, 3) := dk_180 0 138 (dk_at dksX0_game_2 17 rfl rfl)
theorem dX0_game_68 : decode cX0_game 68 = .ok (.invokevirtual 134, 3) := dk_182 0 134 (dk_at dksX0_game_2 20 rfl rfl)
theorem dX0_game_71 : decode cX0_game 71 = .ok (.pop, 1) := dk_87 (dk_at dksX0_game_2 23 rfl rfl)
theorem dX0_game_72 : decode cX0_game 72 = .ok (.iinc 5 1, 3) := dk_132 5 1 (dk_at dksX0_game_3 0 rfl rfl)
theorem dX0_game_75 : decode cX0_game 75 = .ok (.goto (-24), 3) := dk_167 255 232 (dk_at dksX0_game_3 3 rfl rfl)
theorem dX0_game_78 : decode cX0_game 78 = .ok (.aload_n 0, 1) := dk_42 (dk_at dksX0_game_3 6 rfl rfl)
theorem dX0_game_79 : decode cX0_game 79 = .ok (.iload_n 1, 1) := dk_27 (dk_at dksX0_game_3 7 rfl rfl)
theorem dX0_game_80 : decode cX0_game 80 = .ok (.iload_n 2, 1) := dk_28 (dk_at dksX0_game_3 8 rfl rfl)
theorem dX0_game_81 : decode cX0_game 81 = .ok (.iconst 0, 1) := dk_3 (dk_at dksX0_game_3 9 rfl rfl)
theorem dX0_game_82 : decode cX0_game 82 = .ok (.iload_n 3, 1) := dk_29 (dk_at dksX0_game_3 10 rfl rfl)
theorem dX0_game_83 : decode cX0_game 83 = .ok (.invokevirtual 276, 3) := dk_182 1 20 (dk_at dksX0_game_3 11 rfl rfl)
theorem dX0_game_86 : decode cX0_game 86 = .ok (.istore 5, 2) := dk_54 5 (dk_at dksX0_game_3 14 rfl rfl)
theorem dX0_game_88 : decode cX0_game 88 = .ok (.iload 4, 2) := dk_21 4 (dk_at dksX0_game_3 16 rfl rfl)
theorem dX0_game_90 : decode cX0_game 90 = .ok (.ifCond .ne 8, 3) := dk_154 0 8 (dk_at dksX0_game_3 18 rfl rfl)
theorem dX0_game_93 : decode cX0_game 93 = .ok (.iload 5, 2) := dk_21 5 (dk_at dksX0_game_3 21 rfl rfl)
theorem dX0_game_95 : decode cX0_game 95 = .ok (.goto 7, 3) := dk_167 0 7 (dk_at dksX0_game_4 0 rfl rfl)
theorem dX0_game_98 : decode cX0_game 98 = .ok (.aload_n 0, 1) := dk_42 (dk_at dksX0_game_4 3 rfl rfl)
theorem dX0_game_99 : decode cX0_game 99 = .ok (.getfield 280, 3) := dk_180 1 24 (dk_at dksX0_game_4 4 rfl rfl)
theorem dX0_game_102 : decode cX0_game 102 = .ok (.ireturn, 1) := dk_172 (dk_at dksX0_game_4 7 rfl rfl)
abbrev cX0_plays : ByteArray := prog_1_method_31_code
def yX0_plays : MethodName := ⟨RX0, "plays", "(IIII)I"⟩
def dkwX0_plays_9 : List UInt8 := [132, 8, 1, 167, 255, 93, 21, 7, 172]
abbrev dktX0_plays_9 : List UInt8 := dkwX0_plays_9 ++ []
def dkwX0_plays_8 : List UInt8 := [161, 0, 6, 167, 0, 20, 4, 54, 6, 21, 11, 54, 7, 29, 154, 0, 9, 42, 21, 8, 181, 1, 24]
abbrev dktX0_plays_8 : List UInt8 := dkwX0_plays_8 ++ dktX0_plays_9
def dkwX0_plays_7 : List UInt8 := [153, 0, 29, 29, 5, 112, 154, 0, 13, 21, 11, 21, 7, 163, 0, 16, 167, 0, 30, 21, 11, 21, 7]
abbrev dktX0_plays_7 : List UInt8 := dkwX0_plays_7 ++ dktX0_plays_8
def dkwX0_plays_6 : List UInt8 := [25, 10, 21, 9, 21, 5, 182, 1, 17, 42, 27, 28, 29, 4, 96, 21, 4, 182, 1, 20, 54, 11, 21, 6]
abbrev dktX0_plays_6 : List UInt8 := dkwX0_plays_6 ++ dktX0_plays_7
def dkwX0_plays_5 : List UInt8 := [4, 96, 50, 42, 180, 0, 19, 29, 50, 182, 0, 246, 58, 10, 25, 10, 180, 0, 161, 21, 5, 21, 9, 79]
abbrev dktX0_plays_5 : List UInt8 := dkwX0_plays_5 ++ dktX0_plays_6
def dkwX0_plays_4 : List UInt8 := [21, 5, 46, 21, 8, 182, 1, 13, 54, 9, 21, 9, 2, 160, 0, 6, 167, 0, 102, 42, 180, 0, 19, 29]
abbrev dktX0_plays_4 : List UInt8 := dkwX0_plays_4 ++ dktX0_plays_5
def dkwX0_plays_3 : List UInt8 := [180, 0, 161, 21, 5, 46, 167, 0, 26, 42, 180, 0, 19, 29, 50, 42, 180, 0, 19, 29, 50, 180, 0, 161]
abbrev dktX0_plays_3 : List UInt8 := dkwX0_plays_3 ++ dktX0_plays_4
def dkwX0_plays_2 : List UInt8 := [54, 7, 2, 54, 8, 21, 8, 7, 162, 0, 163, 21, 8, 2, 160, 0, 18, 42, 180, 0, 19, 29, 50]
abbrev dktX0_plays_2 : List UInt8 := dkwX0_plays_2 ++ dktX0_plays_3
def dkwX0_plays_1 : List UInt8 := [28, 182, 0, 169, 100, 172, 29, 5, 112, 154, 0, 7, 27, 167, 0, 4, 28, 54, 5, 3, 54, 6, 3]
abbrev dktX0_plays_1 : List UInt8 := dkwX0_plays_1 ++ dktX0_plays_2
def dkwX0_plays_0 : List UInt8 := [29, 21, 4, 160, 0, 27, 42, 180, 0, 19, 21, 4, 50, 27, 182, 0, 169, 42, 180, 0, 19, 21, 4, 50]
abbrev dktX0_plays_0 : List UInt8 := dkwX0_plays_0 ++ dktX0_plays_1
theorem dksX0_plays_0 : cX0_plays.data.toList.drop 0 = dktX0_plays_0 := by decide +kernel
theorem dksX0_plays_1 : cX0_plays.data.toList.drop 24 = dktX0_plays_1 := dk_seg dksX0_plays_0 24 rfl rfl
theorem dksX0_plays_2 : cX0_plays.data.toList.drop 47 = dktX0_plays_2 := dk_seg dksX0_plays_1 23 rfl rfl
theorem dksX0_plays_3 : cX0_plays.data.toList.drop 70 = dktX0_plays_3 := dk_seg dksX0_plays_2 23 rfl rfl
theorem dksX0_plays_4 : cX0_plays.data.toList.drop 94 = dktX0_plays_4 := dk_seg dksX0_plays_3 24 rfl rfl
theorem dksX0_plays_5 : cX0_plays.data.toList.drop 118 = dktX0_plays_5 := dk_seg dksX0_plays_4 24 rfl rfl
theorem dksX0_plays_6 : cX0_plays.data.toList.drop 142 = dktX0_plays_6 := dk_seg dksX0_plays_5 24 rfl rfl
theorem dksX0_plays_7 : cX0_plays.data.toList.drop 166 = dktX0_plays_7 := dk_seg dksX0_plays_6 24 rfl rfl
theorem dksX0_plays_8 : cX0_plays.data.toList.drop 189 = dktX0_plays_8 := dk_seg dksX0_plays_7 23 rfl rfl
theorem dksX0_plays_9 : cX0_plays.data.toList.drop 212 = dktX0_plays_9 := dk_seg dksX0_plays_8 23 rfl rfl
theorem dX0_plays_0 : decode cX0_plays 0 = .ok (.iload_n 3, 1) := dk_29 (dk_at dksX0_plays_0 0 rfl rfl)
theorem dX0_plays_1 : decode cX0_plays 1 = .ok (.iload 4, 2) := dk_21 4 (dk_at dksX0_plays_0 1 rfl rfl)
theorem dX0_plays_3 : decode cX0_plays 3 = .ok (.if_icmp .ne 27, 3) := dk_160 0 27 (dk_at dksX0_plays_0 3 rfl rfl)
theorem dX0_plays_6 : decode cX0_plays 6 = .ok (.aload_n 0, 1) := dk_42 (dk_at dksX0_plays_0 6 rfl rfl)
theorem dX0_plays_7 : decode cX0_plays 7 = .ok (.getfield 19, 3) := dk_180 0 19 (dk_at dksX0_plays_0 7 rfl rfl)
theorem dX0_plays_10 : decode cX0_plays 10 = .ok (.iload 4, 2) := dk_21 4 (dk_at dksX0_plays_0 10 rfl rfl)
theorem dX0_plays_12 : decode cX0_plays 12 = .ok (.aaload, 1) := dk_50 (dk_at dksX0_plays_0 12 rfl rfl)
theorem dX0_plays_13 : decode cX0_plays 13 = .ok (.iload_n 1, 1) := dk_27 (dk_at dksX0_plays_0 13 rfl rfl)
theorem dX0_plays_14 : decode cX0_plays 14 = .ok (.invokevirtual 169, 3) := dk_182 0 169 (dk_at dksX0_plays_0 14 rfl rfl)
theorem dX0_plays_17 : decode cX0_plays 17 = .ok (.aload_n 0, 1) := dk_42 (dk_at dksX0_plays_0 17 rfl rfl)
theorem dX0_plays_18 : decode cX0_plays 18 = .ok (.getfield 19, 3) := dk_180 0 19 (dk_at dksX0_plays_0 18 rfl rfl)
theorem dX0_plays_21 : decode cX0_plays 21 = .ok (.iload 4, 2) := dk_21 4 (dk_at dksX0_plays_0 21 rfl rfl)
theorem dX0_plays_23 : decode cX0_plays 23 = .ok (.aaload, 1) := dk_50 (dk_at dksX0_plays_0 23 rfl rfl)
theorem dX0_plays_24 : decode cX0_plays 24 = .ok (.iload_n 2, 1) := dk_28 (dk_at dksX0_plays_1 0 rfl rfl)
theorem dX0_plays_25 : decode cX0_plays 25 = .ok (.invokevirtual 169, 3) := dk_182 0 169 (dk_at dksX0_plays_1 1 rfl rfl)
theorem dX0_plays_28 : decode cX0_plays 28 = .ok (.isub, 1) := dk_100 (dk_at dksX0_plays_1 4 rfl rfl)
theorem dX0_plays_29 : decode cX0_plays 29 = .ok (.ireturn, 1) := dk_172 (dk_at dksX0_plays_1 5 rfl rfl)
theorem dX0_plays_30 : decode cX0_plays 30 = .ok (.iload_n 3, 1) := dk_29 (dk_at dksX0_plays_1 6 rfl rfl)
theorem dX0_plays_31 : decode cX0_plays 31 = .ok (.iconst 2, 1) := dk_5 (dk_at dksX0_plays_1 7 rfl rfl)
theorem dX0_plays_32 : decode cX0_plays 32 = .ok (.irem, 1) := dk_112 (dk_at dksX0_plays_1 8 rfl rfl)
theorem dX0_plays_33 : decode cX0_plays 33 = .ok (.ifCond .ne 7, 3) := dk_154 0 7 (dk_at dksX0_plays_1 9 rfl rfl)
theorem dX0_plays_36 : decode cX0_plays 36 = .ok (.iload_n 1, 1) := dk_27 (dk_at dksX0_plays_1 12 rfl rfl)
theorem dX0_plays_37 : decode cX0_plays 37 = .ok (.goto 4, 3) := dk_167 0 4 (dk_at dksX0_plays_1 13 rfl rfl)
theorem dX0_plays_40 : decode cX0_plays 40 = .ok (.iload_n 2, 1) := dk_28 (dk_at dksX0_plays_1 16 rfl rfl)
theorem dX0_plays_41 : decode cX0_plays 41 = .ok (.istore 5, 2) := dk_54 5 (dk_at dksX0_plays_1 17 rfl rfl)
theorem dX0_plays_43 : decode cX0_plays 43 = .ok (.iconst 0, 1) := dk_3 (dk_at dksX0_plays_1 19 rfl rfl)
theorem dX0_plays_44 : decode cX0_plays 44 = .ok (.istore 6, 2) := dk_54 6 (dk_at dksX0_plays_1 20 rfl rfl)
theorem dX0_plays_46 : decode cX0_plays 46 = .ok (.iconst 0, 1) := dk_3 (dk_at dksX0_plays_1 22 rfl rfl)
theorem dX0_plays_47 : decode cX0_plays 47 = .ok (.istore 7, 2) := dk_54 7 (dk_at dksX0_plays_2 0 rfl rfl)
theorem dX0_plays_49 : decode cX0_plays 49 = .ok (.iconst (-1), 1) := dk_2 (dk_at dksX0_plays_2 2 rfl rfl)
theorem dX0_plays_50 : decode cX0_plays 50 = .ok (.istore 8, 2) := dk_54 8 (dk_at dksX0_plays_2 3 rfl rfl)
theorem dX0_plays_52 : decode cX0_plays 52 = .ok (.iload 8, 2) := dk_21 8 (dk_at dksX0_plays_2 5 rfl rfl)
theorem dX0_plays_54 : decode cX0_plays 54 = .ok (.iconst 4, 1) := dk_7 (dk_at dksX0_plays_2 7 rfl rfl)
theorem dX0_plays_55 : decode cX0_plays 55 = .ok (.if_icmp .ge 163, 3) := dk_162 0 163 (dk_at dksX0_plays_2 8 rfl rfl)
theorem dX0_plays_58 : decode cX0_plays 58 = .ok (.iload 8, 2) := dk_21 8 (dk_at dksX0_plays_2 11 rfl rfl)
theorem dX0_plays_60 : decode cX0_plays 60 = .ok (.iconst (-1), 1) := dk_2 (dk_at dksX0_plays_2 13 rfl rfl)
theorem dX0_plays_61 : decode cX0_plays 61 = .ok (.if_icmp .ne 18, 3) := dk_160 0 18 (dk_at dksX0_plays_2 14 rfl rfl)
theorem dX0_plays_64 : decode cX0_plays 64 = .ok (.aload_n 0, 1) := dk_42 (dk_at dksX0_plays_2 17 rfl rfl)
theorem dX0_plays_65 : decode cX0_plays 65 = .ok (.getfield 19, 3) := dk_180 0 19 (dk_at dksX0_plays_2 18 rfl rfl)
theorem dX0_plays_68 : decode cX0_plays 68 = .ok (.iload_n 3, 1) := dk_29 (dk_at dksX0_plays_2 21 rfl rfl)
theorem dX0_plays_69 : decode cX0_plays 69 = .ok (.aaload, 1) := dk_50 (dk_at dksX0_plays_2 22 rfl rfl)
theorem dX0_plays_70 : decode cX0_plays 70 = .ok (.getfield 161, 3) := dk_180 0 161 (dk_at dksX0_plays_3 0 rfl rfl)
theorem dX0_plays_73 : decode cX0_plays 73 = .ok (.iload 5, 2) := dk_21 5 (dk_at dksX0_plays_3 3 rfl rfl)
theorem dX0_plays_75 : decode cX0_plays 75 = .ok (.iaload, 1) := dk_46 (dk_at dksX0_plays_3 5 rfl rfl)
theorem dX0_plays_76 : decode cX0_plays 76 = .ok (.goto 26, 3) := dk_167 0 26 (dk_at dksX0_plays_3 6 rfl rfl)
theorem dX0_plays_79 : decode cX0_plays 79 = .ok (.aload_n 0, 1) := dk_42 (dk_at dksX0_plays_3 9 rfl rfl)
theorem dX0_plays_80 : decode cX0_plays 80 = .ok (.getfield 19, 3) := dk_180 0 19 (dk_at dksX0_plays_3 10 rfl rfl)
theorem dX0_plays_83 : decode cX0_plays 83 = .ok (.iload_n 3, 1) := dk_29 (dk_at dksX0_plays_3 13 rfl rfl)
theorem dX0_plays_84 : decode cX0_plays 84 = .ok (.aaload, 1) := dk_50 (dk_at dksX0_plays_3 14 rfl rfl)
theorem dX0_plays_85 : decode cX0_plays 85 = .ok (.aload_n 0, 1) := dk_42 (dk_at dksX0_plays_3 15 rfl rfl)
theorem dX0_plays_86 : decode cX0_plays 86 = .ok (.getfield 19, 3) := dk_180 0 19 (dk_at dksX0_plays_3 16 rfl rfl)
theorem dX0_plays_89 : decode cX0_plays 89 = .ok (.iload_n 3, 1) := dk_29 (dk_at dksX0_plays_3 19 rfl rfl)
theorem dX0_plays_90 : decode cX0_plays 90 = .ok (.aaload, 1) := dk_50 (dk_at dksX0_plays_3 20 rfl rfl)
theorem dX0_plays_91 : decode cX0_plays 91 = .ok (.getfield 161, 3) := dk_180 0 161 (dk_at dksX0_plays_3 21 rfl rfl)
theorem dX0_plays_94 : decode cX0_plays 94 = .ok (.iload 5, 2) := dk_21 5 (dk_at dksX0_plays_4 0 rfl rfl)
theorem dX0_plays_96 : decode cX0_plays 96 = .ok (.iaload, 1) := dk_46 (dk_at dksX0_plays_4 2 rfl rfl)
theorem dX0_plays_97 : decode cX0_plays 97 = .ok (.iload 8, 2) := dk_21 8 (dk_at dksX0_plays_4 3 rfl rfl)
theorem dX0_plays_99 : decode cX0_plays 99 = .ok (.invokevirtual 269, 3) := dk_182 1 13 (dk_at dksX0_plays_4 5 rfl rfl)
theorem dX0_plays_102 : decode cX0_plays 102 = .ok (.istore 9, 2) := dk_54 9 (dk_at dksX0_plays_4 8 rfl rfl)
theorem dX0_plays_104 : decode cX0_plays 104 = .ok (.iload 9, 2) := dk_21 9 (dk_at dksX0_plays_4 10 rfl rfl)
theorem dX0_plays_106 : decode cX0_plays 106 = .ok (.iconst (-1), 1) := dk_2 (dk_at dksX0_plays_4 12 rfl rfl)
theorem dX0_plays_107 : decode cX0_plays 107 = .ok (.if_icmp .ne 6, 3) := dk_160 0 6 (dk_at dksX0_plays_4 13 rfl rfl)
theorem dX0_plays_110 : decode cX0_plays 110 = .ok (.goto 102, 3) := dk_167 0 102 (dk_at dksX0_plays_4 16 rfl rfl)
theorem dX0_plays_113 : decode cX0_plays 113 = .ok (.aload_n 0, 1) := dk_42 (dk_at dksX0_plays_4 19 rfl rfl)
theorem dX0_plays_114 : decode cX0_plays 114 = .ok (.getfield 19, 3) := dk_180 0 19 (dk_at dksX0_plays_4 20 rfl rfl)
theorem dX0_plays_117 : decode cX0_plays 117 = .ok (.iload_n 3, 1) := dk_29 (dk_at dksX0_plays_4 23 rfl rfl)
theorem dX0_plays_118 : decode cX0_plays 118 = .ok (.iconst 1, 1) := dk_4 (dk_at dksX0_plays_5 0 rfl rfl)
theorem dX0_plays_119 : decode cX0_plays 119 = .ok (.iadd, 1) := dk_96 (dk_at dksX0_plays_5 1 rfl rfl)
theorem dX0_plays_120 : decode cX0_plays 120 = .ok (.aaload, 1) := dk_50 (dk_at dksX0_plays_5 2 rfl rfl)
theorem dX0_plays_121 : decode cX0_plays 121 = .ok (.aload_n 0, 1) := dk_42 (dk_at dksX0_plays_5 3 rfl rfl)
theorem dX0_plays_122 : decode cX0_plays 122 = .ok (.getfield 19, 3) := dk_180 0 19 (dk_at dksX0_plays_5 4 rfl rfl)
theorem dX0_plays_125 : decode cX0_plays 125 = .ok (.iload_n 3, 1) := dk_29 (dk_at dksX0_plays_5 7 rfl rfl)
theorem dX0_plays_126 : decode cX0_plays 126 = .ok (.aaload, 1) := dk_50 (dk_at dksX0_plays_5 8 rfl rfl)
theorem dX0_plays_127 : decode cX0_plays 127 = .ok (.invokevirtual 246, 3) := dk_182 0 246 (dk_at dksX0_plays_5 9 rfl rfl)
theorem dX0_plays_130 : decode cX0_plays 130 = .ok (.astore 10, 2) := dk_58 10 (dk_at dksX0_plays_5 12 rfl rfl)
theorem dX0_plays_132 : decode cX0_plays 132 = .ok (.aload 10, 2) := dk_25 10 (dk_at dksX0_plays_5 14 rfl rfl)
theorem dX0_plays_134 : decode cX0_plays 134 = .ok (.getfield 161, 3) := dk_180 0 161 (dk_at dksX0_plays_5 16 rfl rfl)
theorem dX0_plays_137 : decode cX0_plays 137 = .ok (.iload 5, 2) := dk_21 5 (dk_at dksX0_plays_5 19 rfl rfl)
theorem dX0_plays_139 : decode cX0_plays 139 = .ok (.iload 9, 2) := dk_21 9 (dk_at dksX0_plays_5 21 rfl rfl)
theorem dX0_plays_141 : decode cX0_plays 141 = .ok (.iastore, 1) := dk_79 (dk_at dksX0_plays_5 23 rfl rfl)
theorem dX0_plays_142 : decode cX0_plays 142 = .ok (.aload 10, 2) := dk_25 10 (dk_at dksX0_plays_6 0 rfl rfl)
theorem dX0_plays_144 : decode cX0_plays 144 = .ok (.iload 9, 2) := dk_21 9 (dk_at dksX0_plays_6 2 rfl rfl)
theorem dX0_plays_146 : decode cX0_plays 146 = .ok (.iload 5, 2) := dk_21 5 (dk_at dksX0_plays_6 4 rfl rfl)
theorem dX0_plays_148 : decode cX0_plays 148 = .ok (.invokevirtual 273, 3) := dk_182 1 17 (dk_at dksX0_plays_6 6 rfl rfl)
theorem dX0_plays_151 : decode cX0_plays 151 = .ok (.aload_n 0, 1) := dk_42 (dk_at dksX0_plays_6 9 rfl rfl)
theorem dX0_plays_152 : decode cX0_plays 152 = .ok (.iload_n 1, 1) := dk_27 (dk_at dksX0_plays_6 10 rfl rfl)
theorem dX0_plays_153 : decode cX0_plays 153 = .ok (.iload_n 2, 1) := dk_28 (dk_at dksX0_plays_6 11 rfl rfl)
theorem dX0_plays_154 : decode cX0_plays 154 = .ok (.iload_n 3, 1) := dk_29 (dk_at dksX0_plays_6 12 rfl rfl)
theorem dX0_plays_155 : decode cX0_plays 155 = .ok (.iconst 1, 1) := dk_4 (dk_at dksX0_plays_6 13 rfl rfl)
theorem dX0_plays_156 : decode cX0_plays 156 = .ok (.iadd, 1) := dk_96 (dk_at dksX0_plays_6 14 rfl rfl)
theorem dX0_plays_157 : decode cX0_plays 157 = .ok (.iload 4, 2) := dk_21 4 (dk_at dksX0_plays_6 15 rfl rfl)
theorem dX0_plays_159 : decode cX0_plays 159 = .ok (.invokevirtual 276, 3) := dk_182 1 20 (dk_at dksX0_plays_6 17 rfl rfl)
theorem dX0_plays_162 : decode cX0_plays 162 = .ok (.istore 11, 2) := dk_54 11 (dk_at dksX0_plays_6 20 rfl rfl)
theorem dX0_plays_164 : decode cX0_plays 164 = .ok (.iload 6, 2) := dk_21 6 (dk_at dksX0_plays_6 22 rfl rfl)
theorem dX0_plays_166 : decode cX0_plays 166 = .ok (.ifCond .eq 29, 3) := dk_153 0 29 (dk_at dksX0_plays_7 0 rfl rfl)
theorem dX0_plays_169 : decode cX0_plays 169 = .ok (.iload_n 3, 1) := dk_29 (dk_at dksX0_plays_7 3 rfl rfl)
theorem dX0_plays_170 : decode cX0_plays 170 = .ok (.iconst 2, 1) := dk_5 (dk_at dksX0_plays_7 4 rfl rfl)
theorem dX0_plays_171 : decode cX0_plays 171 = .ok (.irem, 1) := dk_112 (dk_at dksX0_plays_7 5 rfl rfl)
theorem dX0_plays_172 : decode cX0_plays 172 = .ok (.ifCond .ne 13, 3) := dk_154 0 13 (dk_at dksX0_plays_7 6 rfl rfl)
theorem dX0_plays_175 : decode cX0_plays 175 = .ok (.iload 11, 2) := dk_21 11 (dk_at dksX0_plays_7 9 rfl rfl)
theorem dX0_plays_177 : decode cX0_plays 177 = .ok (.iload 7, 2) := dk_21 7 (dk_at dksX0_plays_7 11 rfl rfl)
theorem dX0_plays_179 : decode cX0_plays 179 = .ok (.if_icmp .gt 16, 3) := dk_163 0 16 (dk_at dksX0_plays_7 13 rfl rfl)
theorem dX0_plays_182 : decode cX0_plays 182 = .ok (.goto 30, 3) := dk_167 0 30 (dk_at dksX0_plays_7 16 rfl rfl)
theorem dX0_plays_185 : decode cX0_plays 185 = .ok (.iload 11, 2) := dk_21 11 (dk_at dksX0_plays_7 19 rfl rfl)
theorem dX0_plays_187 : decode cX0_plays 187 = .ok (.iload 7, 2) := dk_21 7 (dk_at dksX0_plays_7 21 rfl rfl)
theorem dX0_plays_189 : decode cX0_plays 189 = .ok (.if_icmp .lt 6, 3) := dk_161 0 6 (dk_at dksX0_plays_8 0 rfl rfl)
theorem dX0_plays_192 : decode cX0_plays 192 = .ok (.goto 20, 3) := dk_167 0 20 (dk_at dksX0_plays_8 3 rfl rfl)
theorem dX0_plays_195 : decode cX0_plays 195 = .ok (.iconst 1, 1) := dk_4 (dk_at dksX0_plays_8 6 rfl rfl)
theorem dX0_plays_196 : decode cX0_plays 196 = .ok (.istore 6, 2) := dk_54 6 (dk_at dksX0_plays_8 7 rfl rfl)
theorem dX0_plays_198 : decode cX0_plays 198 = .ok (.iload 11, 2) := dk_21 11 (dk_at dksX0_plays_8 9 rfl rfl)
theorem dX0_plays_200 : decode cX0_plays 200 = .ok (.istore 7, 2) := dk_54 7 (dk_at dksX0_plays_8 11 rfl rfl)
theorem dX0_plays_202 : decode cX0_plays 202 = .ok (.iload_n 3, 1) := dk_29 (dk_at dksX0_plays_8 13 rfl rfl)
theorem dX0_plays_203 : decode cX0_plays 203 = .ok (.ifCond .ne 9, 3) := dk_154 0 9 (dk_at dksX0_plays_8 14 rfl rfl)
theorem dX0_plays_206 : decode cX0_plays 206 = .ok (.aload_n 0, 1) := dk_42 (dk_at dksX0_plays_8 17 rfl rfl)
theorem dX0_plays_207 : decode cX0_plays 207 = .ok (.iload 8, 2) := dk_21 8 (dk_at dksX0_plays_8 18 rfl rfl)
theorem dX0_plays_209 : decode cX0_plays 209 = .ok (.putfield 280, 3) := dk_181 1 24 (dk_at dksX0_plays_8 20 rfl rfl)
theorem dX0_plays_212 : decode cX0_plays 212 = .ok (.iinc 8 1, 3) := dk_132 8 1 (dk_at dksX0_plays_9 0 rfl rfl)
theorem dX0_plays_215 : decode cX0_plays 215 = .ok (.goto (-163), 3) := dk_167 255 93 (dk_at dksX0_plays_9 3 rfl rfl)
theorem dX0_plays_218 : decode cX0_plays 218 = .ok (.iload 7, 2) := dk_21 7 (dk_at dksX0_plays_9 6 rfl rfl)
theorem dX0_plays_220 : decode cX0_plays 220 = .ok (.ireturn, 1) := dk_172 (dk_at dksX0_plays_9 8 rfl rfl)
abbrev cX0_rests : ByteArray := prog_1_method_34_code
def yX0_rests : MethodName := ⟨RX0, "rests", "(IIII)I"⟩
def dkwX0_rests_10 : List UInt8 := [167, 0, 9, 6, 21, 6, 7, 112, 104, 172]
abbrev dktX0_rests_10 : List UInt8 := dkwX0_rests_10 ++ []
def dkwX0_rests_9 : List UInt8 := [21, 6, 2, 160, 0, 8, 16, 254, 167, 0, 24, 21, 4, 4, 160, 0, 12, 6, 21, 6, 7, 108, 104]
abbrev dktX0_rests_9 : List UInt8 := dkwX0_rests_9 ++ dktX0_rests_10
def dkwX0_rests_8 : List UInt8 := [167, 0, 10, 132, 5, 1, 21, 7, 54, 6, 132, 7, 255, 167, 255, 223, 21, 4, 154, 0, 6, 21, 5, 172]
abbrev dktX0_rests_8 : List UInt8 := dkwX0_rests_8 ++ dktX0_rests_9
def dkwX0_rests_7 : List UInt8 := [16, 15, 54, 7, 21, 7, 155, 0, 34, 42, 21, 7, 7, 108, 21, 7, 7, 112, 182, 1, 31, 154, 0, 6]
abbrev dktX0_rests_7 : List UInt8 := dkwX0_rests_7 ++ dktX0_rests_8
def dkwX0_rests_6 : List UInt8 := [21, 5, 42, 180, 0, 16, 28, 182, 0, 169, 79, 132, 5, 1, 167, 255, 166, 3, 54, 5, 2, 54, 6]
abbrev dktX0_rests_6 : List UInt8 := dkwX0_rests_6 ++ dktX0_rests_7
def dkwX0_rests_5 : List UInt8 := [182, 0, 230, 87, 42, 180, 0, 92, 21, 5, 42, 180, 0, 16, 27, 182, 0, 169, 79, 42, 180, 0, 96]
abbrev dktX0_rests_5 : List UInt8 := dkwX0_rests_5 ++ dktX0_rests_6
def dkwX0_rests_4 : List UInt8 := [180, 0, 16, 180, 0, 164, 28, 6, 21, 5, 7, 112, 104, 79, 42, 180, 0, 16, 29, 42, 182, 0, 214]
abbrev dktX0_rests_4 : List UInt8 := dkwX0_rests_4 ++ dktX0_rests_5
def dkwX0_rests_3 : List UInt8 := [180, 0, 16, 42, 180, 0, 138, 182, 0, 246, 180, 0, 164, 27, 6, 21, 5, 7, 108, 104, 79, 42]
abbrev dktX0_rests_3 : List UInt8 := dkwX0_rests_3 ++ dktX0_rests_4
def dkwX0_rests_2 : List UInt8 := [42, 180, 0, 16, 42, 180, 0, 138, 182, 0, 134, 87, 3, 54, 5, 21, 5, 16, 16, 162, 0, 89, 42]
abbrev dktX0_rests_2 : List UInt8 := dkwX0_rests_2 ++ dktX0_rests_3
def dkwX0_rests_1 : List UInt8 := [20, 1, 29, 184, 0, 178, 153, 0, 16, 21, 4, 133, 9, 20, 0, 176, 184, 0, 178, 154, 0, 5, 2, 172]
abbrev dktX0_rests_1 : List UInt8 := dkwX0_rests_1 ++ dktX0_rests_2
def dkwX0_rests_0 : List UInt8 := [42, 27, 182, 0, 157, 153, 0, 41, 42, 28, 182, 0, 157, 153, 0, 33, 27, 28, 159, 0, 28, 29, 133, 10]
abbrev dktX0_rests_0 : List UInt8 := dkwX0_rests_0 ++ dktX0_rests_1
theorem dksX0_rests_0 : cX0_rests.data.toList.drop 0 = dktX0_rests_0 := by decide +kernel
theorem dksX0_rests_1 : cX0_rests.data.toList.drop 24 = dktX0_rests_1 := dk_seg dksX0_rests_0 24 rfl rfl
theorem dksX0_rests_2 : cX0_rests.data.toList.drop 48 = dktX0_rests_2 := dk_seg dksX0_rests_1 24 rfl rfl
theorem dksX0_rests_3 : cX0_rests.data.toList.drop 71 = dktX0_rests_3 := dk_seg dksX0_rests_2 23 rfl rfl
theorem dksX0_rests_4 : cX0_rests.data.toList.drop 93 = dktX0_rests_4 := dk_seg dksX0_rests_3 22 rfl rfl
theorem dksX0_rests_5 : cX0_rests.data.toList.drop 116 = dktX0_rests_5 := dk_seg dksX0_rests_4 23 rfl rfl
theorem dksX0_rests_6 : cX0_rests.data.toList.drop 139 = dktX0_rests_6 := dk_seg dksX0_rests_5 23 rfl rfl
theorem dksX0_rests_7 : cX0_rests.data.toList.drop 162 = dktX0_rests_7 := dk_seg dksX0_rests_6 23 rfl rfl
theorem dksX0_rests_8 : cX0_rests.data.toList.drop 186 = dktX0_rests_8 := dk_seg dksX0_rests_7 24 rfl rfl
theorem dksX0_rests_9 : cX0_rests.data.toList.drop 210 = dktX0_rests_9 := dk_seg dksX0_rests_8 24 rfl rfl
theorem dksX0_rests_10 : cX0_rests.data.toList.drop 233 = dktX0_rests_10 := dk_seg dksX0_rests_9 23 rfl rfl
theorem dX0_rests_0 : decode cX0_rests 0 = .ok (.aload_n 0, 1) := dk_42 (dk_at dksX0_rests_0 0 rfl rfl)
theorem dX0_rests_1 : decode cX0_rests 1 = .ok (.iload_n 1, 1) := dk_27 (dk_at dksX0_rests_0 1 rfl rfl)
theorem dX0_rests_2 : decode cX0_rests 2 = .ok (.invokevirtual 157, 3) := dk_182 0 157 (dk_at dksX0_rests_0 2 rfl rfl)
theorem dX0_rests_5 : decode cX0_rests 5 = .ok (.ifCond .eq 41, 3) := dk_153 0 41 (dk_at dksX0_rests_0 5 rfl rfl)
theorem dX0_rests_8 : decode cX0_rests 8 = .ok (.aload_n 0, 1) := dk_42 (dk_at dksX0_rests_0 8 rfl rfl)
theorem dX0_rests_9 : decode cX0_rests 9 = .ok (.iload_n 2, 1) := dk_28 (dk_at dksX0_rests_0 9 rfl rfl)
theorem dX0_rests_10 : decode cX0_rests 10 = .ok (.invokevirtual 157, 3) := dk_182 0 157 (dk_at dksX0_rests_0 10 rfl rfl)
theorem dX0_rests_13 : decode cX0_rests 13 = .ok (.ifCond .eq 33, 3) := dk_153 0 33 (dk_at dksX0_rests_0 13 rfl rfl)
theorem dX0_rests_16 : decode cX0_rests 16 = .ok (.iload_n 1, 1) := dk_27 (dk_at dksX0_rests_0 16 rfl rfl)
theorem dX0_rests_17 : decode cX0_rests 17 = .ok (.iload_n 2, 1) := dk_28 (dk_at dksX0_rests_0 17 rfl rfl)
theorem dX0_rests_18 : decode cX0_rests 18 = .ok (.if_icmp .eq 28, 3) := dk_159 0 28 (dk_at dksX0_rests_0 18 rfl rfl)
theorem dX0_rests_21 : decode cX0_rests 21 = .ok (.iload_n 3, 1) := dk_29 (dk_at dksX0_rests_0 21 rfl rfl)
theorem dX0_rests_22 : decode cX0_rests 22 = .ok (.i2l, 1) := dk_133 (dk_at dksX0_rests_0 22 rfl rfl)
theorem dX0_rests_23 : decode cX0_rests 23 = .ok (.lconst 1, 1) := dk_10 (dk_at dksX0_rests_0 23 rfl rfl)
theorem dX0_rests_24 : decode cX0_rests 24 = .ok (.ldc2_w 285, 3) := dk_20 1 29 (dk_at dksX0_rests_1 0 rfl rfl)
theorem dX0_rests_27 : decode cX0_rests 27 = .ok (.invokestatic 178, 3) := dk_184 0 178 (dk_at dksX0_rests_1 3 rfl rfl)
theorem dX0_rests_30 : decode cX0_rests 30 = .ok (.ifCond .eq 16, 3) := dk_153 0 16 (dk_at dksX0_rests_1 6 rfl rfl)
theorem dX0_rests_33 : decode cX0_rests 33 = .ok (.iload 4, 2) := dk_21 4 (dk_at dksX0_rests_1 9 rfl rfl)
theorem dX0_rests_35 : decode cX0_rests 35 = .ok (.i2l, 1) := dk_133 (dk_at dksX0_rests_1 11 rfl rfl)
theorem dX0_rests_36 : decode cX0_rests 36 = .ok (.lconst 0, 1) := dk_9 (dk_at dksX0_rests_1 12 rfl rfl)
theorem dX0_rests_37 : decode cX0_rests 37 = .ok (.ldc2_w 176, 3) := dk_20 0 176 (dk_at dksX0_rests_1 13 rfl rfl)
theorem dX0_rests_40 : decode cX0_rests 40 = .ok (.invokestatic 178, 3) := dk_184 0 178 (dk_at dksX0_rests_1 16 rfl rfl)
theorem dX0_rests_43 : decode cX0_rests 43 = .ok (.ifCond .ne 5, 3) := dk_154 0 5 (dk_at dksX0_rests_1 19 rfl rfl)
theorem dX0_rests_46 : decode cX0_rests 46 = .ok (.iconst (-1), 1) := dk_2 (dk_at dksX0_rests_1 22 rfl rfl)
theorem dX0_rests_47 : decode cX0_rests 47 = .ok (.ireturn, 1) := dk_172 (dk_at dksX0_rests_1 23 rfl rfl)
theorem dX0_rests_48 : decode cX0_rests 48 = .ok (.aload_n 0, 1) := dk_42 (dk_at dksX0_rests_2 0 rfl rfl)
theorem dX0_rests_49 : decode cX0_rests 49 = .ok (.getfield 16, 3) := dk_180 0 16 (dk_at dksX0_rests_2 1 rfl rfl)
theorem dX0_rests_52 : decode cX0_rests 52 = .ok (.aload_n 0, 1) := dk_42 (dk_at dksX0_rests_2 4 rfl rfl)
theorem dX0_rests_53 : decode cX0_rests 53 = .ok (.getfield 138, 3) := dk_180 0 138 (dk_at dksX0_rests_2 5 rfl rfl)
theorem dX0_rests_56 : decode cX0_rests 56 = .ok (.invokevirtual 134, 3) := dk_182 0 134 (dk_at dksX0_rests_2 8 rfl rfl)
theorem dX0_rests_59 : decode cX0_rests 59 = .ok (.pop, 1) := dk_87 (dk_at dksX0_rests_2 11 rfl rfl)
theorem dX0_rests_60 : decode cX0_rests 60 = .ok (.iconst 0, 1) := dk_3 (dk_at dksX0_rests_2 12 rfl rfl)
theorem dX0_rests_61 : decode cX0_rests 61 = .ok (.istore 5, 2) := dk_54 5 (dk_at dksX0_rests_2 13 rfl rfl)
theorem dX0_rests_63 : decode cX0_rests 63 = .ok (.iload 5, 2) := dk_21 5 (dk_at dksX0_rests_2 15 rfl rfl)
theorem dX0_rests_65 : decode cX0_rests 65 = .ok (.bipush 16, 2) := dk_16 16 (dk_at dksX0_rests_2 17 rfl rfl)
theorem dX0_rests_67 : decode cX0_rests 67 = .ok (.if_icmp .ge 89, 3) := dk_162 0 89 (dk_at dksX0_rests_2 19 rfl rfl)
theorem dX0_rests_70 : decode cX0_rests 70 = .ok (.aload_n 0, 1) := dk_42 (dk_at dksX0_rests_2 22 rfl rfl)
theorem dX0_rests_71 : decode cX0_rests 71 = .ok (.getfield 16, 3) := dk_180 0 16 (dk_at dksX0_rests_3 0 rfl rfl)
theorem dX0_rests_74 : decode cX0_rests 74 = .ok (.aload_n 0, 1) := dk_42 (dk_at dksX0_rests_3 3 rfl rfl)
theorem dX0_rests_75 : decode cX0_rests 75 = .ok (.getfield 138, 3) := dk_180 0 138 (dk_at dksX0_rests_3 4 rfl rfl)
theorem dX0_rests_78 : decode cX0_rests 78 = .ok (.invokevirtual 246, 3) := dk_182 0 246 (dk_at dksX0_rests_3 7 rfl rfl)
theorem dX0_rests_81 : decode cX0_rests 81 = .ok (.getfield 164, 3) := dk_180 0 164 (dk_at dksX0_rests_3 10 rfl rfl)
theorem dX0_rests_84 : decode cX0_rests 84 = .ok (.iload_n 1, 1) := dk_27 (dk_at dksX0_rests_3 13 rfl rfl)
theorem dX0_rests_85 : decode cX0_rests 85 = .ok (.iconst 3, 1) := dk_6 (dk_at dksX0_rests_3 14 rfl rfl)
theorem dX0_rests_86 : decode cX0_rests 86 = .ok (.iload 5, 2) := dk_21 5 (dk_at dksX0_rests_3 15 rfl rfl)
theorem dX0_rests_88 : decode cX0_rests 88 = .ok (.iconst 4, 1) := dk_7 (dk_at dksX0_rests_3 17 rfl rfl)
theorem dX0_rests_89 : decode cX0_rests 89 = .ok (.idiv, 1) := dk_108 (dk_at dksX0_rests_3 18 rfl rfl)
theorem dX0_rests_90 : decode cX0_rests 90 = .ok (.imul, 1) := dk_104 (dk_at dksX0_rests_3 19 rfl rfl)
theorem dX0_rests_91 : decode cX0_rests 91 = .ok (.iastore, 1) := dk_79 (dk_at dksX0_rests_3 20 rfl rfl)
theorem dX0_rests_92 : decode cX0_rests 92 = .ok (.aload_n 0, 1) := dk_42 (dk_at dksX0_rests_3 21 rfl rfl)
theorem dX0_rests_93 : decode cX0_rests 93 = .ok (.getfield 16, 3) := dk_180 0 16 (dk_at dksX0_rests_4 0 rfl rfl)
theorem dX0_rests_96 : decode cX0_rests 96 = .ok (.getfield 164, 3) := dk_180 0 164 (dk_at dksX0_rests_4 3 rfl rfl)
theorem dX0_rests_99 : decode cX0_rests 99 = .ok (.iload_n 2, 1) := dk_28 (dk_at dksX0_rests_4 6 rfl rfl)
theorem dX0_rests_100 : decode cX0_rests 100 = .ok (.iconst 3, 1) := dk_6 (dk_at dksX0_rests_4 7 rfl rfl)
theorem dX0_rests_101 : decode cX0_rests 101 = .ok (.iload 5, 2) := dk_21 5 (dk_at dksX0_rests_4 8 rfl rfl)
theorem dX0_rests_103 : decode cX0_rests 103 = .ok (.iconst 4, 1) := dk_7 (dk_at dksX0_rests_4 10 rfl rfl)
theorem dX0_rests_104 : decode cX0_rests 104 = .ok (.irem, 1) := dk_112 (dk_at dksX0_rests_4 11 rfl rfl)
theorem dX0_rests_105 : decode cX0_rests 105 = .ok (.imul, 1) := dk_104 (dk_at dksX0_rests_4 12 rfl rfl)
theorem dX0_rests_106 : decode cX0_rests 106 = .ok (.iastore, 1) := dk_79 (dk_at dksX0_rests_4 13 rfl rfl)
theorem dX0_rests_107 : decode cX0_rests 107 = .ok (.aload_n 0, 1) := dk_42 (dk_at dksX0_rests_4 14 rfl rfl)
theorem dX0_rests_108 : decode cX0_rests 108 = .ok (.getfield 16, 3) := dk_180 0 16 (dk_at dksX0_rests_4 15 rfl rfl)
theorem dX0_rests_111 : decode cX0_rests 111 = .ok (.iload_n 3, 1) := dk_29 (dk_at dksX0_rests_4 18 rfl rfl)
theorem dX0_rests_112 : decode cX0_rests 112 = .ok (.aload_n 0, 1) := dk_42 (dk_at dksX0_rests_4 19 rfl rfl)
theorem dX0_rests_113 : decode cX0_rests 113 = .ok (.invokevirtual 214, 3) := dk_182 0 214 (dk_at dksX0_rests_4 20 rfl rfl)
theorem dX0_rests_116 : decode cX0_rests 116 = .ok (.invokevirtual 230, 3) := dk_182 0 230 (dk_at dksX0_rests_5 0 rfl rfl)
theorem dX0_rests_119 : decode cX0_rests 119 = .ok (.pop, 1) := dk_87 (dk_at dksX0_rests_5 3 rfl rfl)
theorem dX0_rests_120 : decode cX0_rests 120 = .ok (.aload_n 0, 1) := dk_42 (dk_at dksX0_rests_5 4 rfl rfl)
theorem dX0_rests_121 : decode cX0_rests 121 = .ok (.getfield 92, 3) := dk_180 0 92 (dk_at dksX0_rests_5 5 rfl rfl)
theorem dX0_rests_124 : decode cX0_rests 124 = .ok (.iload 5, 2) := dk_21 5 (dk_at dksX0_rests_5 8 rfl rfl)
theorem dX0_rests_126 : decode cX0_rests 126 = .ok (.aload_n 0, 1) := dk_42 (dk_at dksX0_rests_5 10 rfl rfl)
theorem dX0_rests_127 : decode cX0_rests 127 = .ok (.getfield 16, 3) := dk_180 0 16 (dk_at dksX0_rests_5 11 rfl rfl)
theorem dX0_rests_130 : decode cX0_rests 130 = .ok (.iload_n 1, 1) := dk_27 (dk_at dksX0_rests_5 14 rfl rfl)
theorem dX0_rests_131 : decode cX0_rests 131 = .ok (.invokevirtual 169, 3) := dk_182 0 169 (dk_at dksX0_rests_5 15 rfl rfl)
theorem dX0_rests_134 : decode cX0_rests 134 = .ok (.iastore, 1) := dk_79 (dk_at dksX0_rests_5 18 rfl rfl)
theorem dX0_rests_135 : decode cX0_rests 135 = .ok (.aload_n 0, 1) := dk_42 (dk_at dksX0_rests_5 19 rfl rfl)
theorem dX0_rests_136 : decode cX0_rests 136 = .ok (.getfield 96, 3) := dk_180 0 96 (dk_at dksX0_rests_5 20 rfl rfl)
theorem dX0_rests_139 : decode cX0_rests 139 = .ok (.iload 5, 2) := dk_21 5 (dk_at dksX0_rests_6 0 rfl rfl)
theorem dX0_rests_141 : decode cX0_rests 141 = .ok (.aload_n 0, 1) := dk_42 (dk_at dksX0_rests_6 2 rfl rfl)
theorem dX0_rests_142 : decode cX0_rests 142 = .ok (.getfield 16, 3) := dk_180 0 16 (dk_at dksX0_rests_6 3 rfl rfl)
theorem dX0_rests_145 : decode cX0_rests 145 = .ok (.iload_n 2, 1) := dk_28 (dk_at dksX0_rests_6 6 rfl rfl)
theorem dX0_rests_146 : decode cX0_rests 146 = .ok (.invokevirtual 169, 3) := dk_182 0 169 (dk_at dksX0_rests_6 7 rfl rfl)
theorem dX0_rests_149 : decode cX0_rests 149 = .ok (.iastore, 1) := dk_79 (dk_at dksX0_rests_6 10 rfl rfl)
theorem dX0_rests_150 : decode cX0_rests 150 = .ok (.iinc 5 1, 3) := dk_132 5 1 (dk_at dksX0_rests_6 11 rfl rfl)
theorem dX0_rests_153 : decode cX0_rests 153 = .ok (.goto (-90), 3) := dk_167 255 166 (dk_at dksX0_rests_6 14 rfl rfl)
theorem dX0_rests_156 : decode cX0_rests 156 = .ok (.iconst 0, 1) := dk_3 (dk_at dksX0_rests_6 17 rfl rfl)
theorem dX0_rests_157 : decode cX0_rests 157 = .ok (.istore 5, 2) := dk_54 5 (dk_at dksX0_rests_6 18 rfl rfl)
theorem dX0_rests_159 : decode cX0_rests 159 = .ok (.iconst (-1), 1) := dk_2 (dk_at dksX0_rests_6 20 rfl rfl)
theorem dX0_rests_160 : decode cX0_rests 160 = .ok (.istore 6, 2) := dk_54 6 (dk_at dksX0_rests_6 21 rfl rfl)
theorem dX0_rests_162 : decode cX0_rests 162 = .ok (.bipush 15, 2) := dk_16 15 (dk_at dksX0_rests_7 0 rfl rfl)
theorem dX0_rests_164 : decode cX0_rests 164 = .ok (.istore 7, 2) := dk_54 7 (dk_at dksX0_rests_7 2 rfl rfl)
theorem dX0_rests_166 : decode cX0_rests 166 = .ok (.iload 7, 2) := dk_21 7 (dk_at dksX0_rests_7 4 rfl rfl)
theorem dX0_rests_168 : decode cX0_rests 168 = .ok (.ifCond .lt 34, 3) := dk_155 0 34 (dk_at dksX0_rests_7 6 rfl rfl)
theorem dX0_rests_171 : decode cX0_rests 171 = .ok (.aload_n 0, 1) := dk_42 (dk_at dksX0_rests_7 9 rfl rfl)
theorem dX0_rests_172 : decode cX0_rests 172 = .ok (.iload 7, 2) := dk_21 7 (dk_at dksX0_rests_7 10 rfl rfl)
theorem dX0_rests_174 : decode cX0_rests 174 = .ok (.iconst 4, 1) := dk_7 (dk_at dksX0_rests_7 12 rfl rfl)
theorem dX0_rests_175 : decode cX0_rests 175 = .ok (.idiv, 1) := dk_108 (dk_at dksX0_rests_7 13 rfl rfl)
theorem dX0_rests_176 : decode cX0_rests 176 = .ok (.iload 7, 2) := dk_21 7 (dk_at dksX0_rests_7 14 rfl rfl)
theorem dX0_rests_178 : decode cX0_rests 178 = .ok (.iconst 4, 1) := dk_7 (dk_at dksX0_rests_7 16 rfl rfl)
theorem dX0_rests_179 : decode cX0_rests 179 = .ok (.irem, 1) := dk_112 (dk_at dksX0_rests_7 17 rfl rfl)
theorem dX0_rests_180 : decode cX0_rests 180 = .ok (.invokevirtual 287, 3) := dk_182 1 31 (dk_at dksX0_rests_7 18 rfl rfl)
theorem dX0_rests_183 : decode cX0_rests 183 = .ok (.ifCond .ne 6, 3) := dk_154 0 6 (dk_at dksX0_rests_7 21 rfl rfl)
theorem dX0_rests_186 : decode cX0_rests 186 = .ok (.goto 10, 3) := dk_167 0 10 (dk_at dksX0_rests_8 0 rfl rfl)
theorem dX0_rests_189 : decode cX0_rests 189 = .ok (.iinc 5 1, 3) := dk_132 5 1 (dk_at dksX0_rests_8 3 rfl rfl)
theorem dX0_rests_192 : decode cX0_rests 192 = .ok (.iload 7, 2) := dk_21 7 (dk_at dksX0_rests_8 6 rfl rfl)
theorem dX0_rests_194 : decode cX0_rests 194 = .ok (.istore 6, 2) := dk_54 6 (dk_at dksX0_rests_8 8 rfl rfl)
theorem dX0_rests_196 : decode cX0_rests 196 = .ok (.iinc 7 (-1), 3) := dk_132 7 255 (dk_at dksX0_rests_8 10 rfl rfl)
theorem dX0_rests_199 : decode cX0_rests 199 = .ok (.goto (-33), 3) := dk_167 255 223 (dk_at dksX0_rests_8 13 rfl rfl)
theorem dX0_rests_202 : decode cX0_rests 202 = .ok (.iload 4, 2) := dk_21 4 (dk_at dksX0_rests_8 16 rfl rfl)
theorem dX0_rests_204 : decode cX0_rests 204 = .ok (.ifCond .ne 6, 3) := dk_154 0 6 (dk_at dksX0_rests_8 18 rfl rfl)
theorem dX0_rests_207 : decode cX0_rests 207 = .ok (.iload 5, 2) := dk_21 5 (dk_at dksX0_rests_8 21 rfl rfl)
theorem dX0_rests_209 : decode cX0_rests 209 = .ok (.ireturn, 1) := dk_172 (dk_at dksX0_rests_8 23 rfl rfl)
theorem dX0_rests_210 : decode cX0_rests 210 = .ok (.iload 6, 2) := dk_21 6 (dk_at dksX0_rests_9 0 rfl rfl)
theorem dX0_rests_212 : decode cX0_rests 212 = .ok (.iconst (-1), 1) := dk_2 (dk_at dksX0_rests_9 2 rfl rfl)
theorem dX0_rests_213 : decode cX0_rests 213 = .ok (.if_icmp .ne 8, 3) := dk_160 0 8 (dk_at dksX0_rests_9 3 rfl rfl)
theorem dX0_rests_216 : decode cX0_rests 216 = .ok (.bipush (-2), 2) := dk_16 254 (dk_at dksX0_rests_9 6 rfl rfl)
theorem dX0_rests_218 : decode cX0_rests 218 = .ok (.goto 24, 3) := dk_167 0 24 (dk_at dksX0_rests_9 8 rfl rfl)
theorem dX0_rests_221 : decode cX0_rests 221 = .ok (.iload 4, 2) := dk_21 4 (dk_at dksX0_rests_9 11 rfl rfl)
theorem dX0_rests_223 : decode cX0_rests 223 = .ok (.iconst 1, 1) := dk_4 (dk_at dksX0_rests_9 13 rfl rfl)
theorem dX0_rests_224 : decode cX0_rests 224 = .ok (.if_icmp .ne 12, 3) := dk_160 0 12 (dk_at dksX0_rests_9 14 rfl rfl)
theorem dX0_rests_227 : decode cX0_rests 227 = .ok (.iconst 3, 1) := dk_6 (dk_at dksX0_rests_9 17 rfl rfl)
theorem dX0_rests_228 : decode cX0_rests 228 = .ok (.iload 6, 2) := dk_21 6 (dk_at dksX0_rests_9 18 rfl rfl)
theorem dX0_rests_230 : decode cX0_rests 230 = .ok (.iconst 4, 1) := dk_7 (dk_at dksX0_rests_9 20 rfl rfl)
theorem dX0_rests_231 : decode cX0_rests 231 = .ok (.idiv, 1) := dk_108 (dk_at dksX0_rests_9 21 rfl rfl)
theorem dX0_rests_232 : decode cX0_rests 232 = .ok (.imul, 1) := dk_104 (dk_at dksX0_rests_9 22 rfl rfl)
theorem dX0_rests_233 : decode cX0_rests 233 = .ok (.goto 9, 3) := dk_167 0 9 (dk_at dksX0_rests_10 0 rfl rfl)
theorem dX0_rests_236 : decode cX0_rests 236 = .ok (.iconst 3, 1) := dk_6 (dk_at dksX0_rests_10 3 rfl rfl)
theorem dX0_rests_237 : decode cX0_rests 237 = .ok (.iload 6, 2) := dk_21 6 (dk_at dksX0_rests_10 4 rfl rfl)
theorem dX0_rests_239 : decode cX0_rests 239 = .ok (.iconst 4, 1) := dk_7 (dk_at dksX0_rests_10 6 rfl rfl)
theorem dX0_rests_240 : decode cX0_rests 240 = .ok (.irem, 1) := dk_112 (dk_at dksX0_rests_10 7 rfl rfl)
theorem dX0_rests_241 : decode cX0_rests 241 = .ok (.imul, 1) := dk_104 (dk_at dksX0_rests_10 8 rfl rfl)
theorem dX0_rests_242 : decode cX0_rests 242 = .ok (.ireturn, 1) := dk_172 (dk_at dksX0_rests_10 9 rfl rfl)
abbrev cX0_isRest : ByteArray := prog_1_method_33_code
def yX0_isRest : MethodName := ⟨RX0, "isRest", "(II)Z"⟩
def dkwX0_isRest_2 : List UInt8 := [96, 46, 164, 0, 5, 3, 172, 132, 3, 1, 167, 255, 200, 4, 172]
abbrev dktX0_isRest_2 : List UInt8 := dkwX0_isRest_2 ++ []
def dkwX0_isRest_1 : List UInt8 := [28, 96, 46, 163, 0, 26, 42, 180, 0, 96, 7, 27, 104, 29, 96, 46, 42, 180, 0, 96, 7, 27, 104, 28]
abbrev dktX0_isRest_1 : List UInt8 := dkwX0_isRest_1 ++ dktX0_isRest_2
def dkwX0_isRest_0 : List UInt8 := [3, 62, 29, 7, 162, 0, 57, 42, 180, 0, 92, 7, 29, 104, 28, 96, 46, 42, 180, 0, 92, 7, 27, 104]
abbrev dktX0_isRest_0 : List UInt8 := dkwX0_isRest_0 ++ dktX0_isRest_1
theorem dksX0_isRest_0 : cX0_isRest.data.toList.drop 0 = dktX0_isRest_0 := by decide +kernel
theorem dksX0_isRest_1 : cX0_isRest.data.toList.drop 24 = dktX0_isRest_1 := dk_seg dksX0_isRest_0 24 rfl rfl
theorem dksX0_isRest_2 : cX0_isRest.data.toList.drop 48 = dktX0_isRest_2 := dk_seg dksX0_isRest_1 24 rfl rfl
theorem dX0_isRest_0 : decode cX0_isRest 0 = .ok (.iconst 0, 1) := dk_3 (dk_at dksX0_isRest_0 0 rfl rfl)
theorem dX0_isRest_1 : decode cX0_isRest 1 = .ok (.istore_n 3, 1) := dk_62 (dk_at dksX0_isRest_0 1 rfl rfl)
theorem dX0_isRest_2 : decode cX0_isRest 2 = .ok (.iload_n 3, 1) := dk_29 (dk_at dksX0_isRest_0 2 rfl rfl)
theorem dX0_isRest_3 : decode cX0_isRest 3 = .ok (.iconst 4, 1) := dk_7 (dk_at dksX0_isRest_0 3 rfl rfl)
theorem dX0_isRest_4 : decode cX0_isRest 4 = .ok (.if_icmp .ge 57, 3) := dk_162 0 57 (dk_at dksX0_isRest_0 4 rfl rfl)
theorem dX0_isRest_7 : decode cX0_isRest 7 = .ok (.aload_n 0, 1) := dk_42 (dk_at dksX0_isRest_0 7 rfl rfl)
theorem dX0_isRest_8 : decode cX0_isRest 8 = .ok (.getfield 92, 3) := dk_180 0 92 (dk_at dksX0_isRest_0 8 rfl rfl)
theorem dX0_isRest_11 : decode cX0_isRest 11 = .ok (.iconst 4, 1) := dk_7 (dk_at dksX0_isRest_0 11 rfl rfl)
theorem dX0_isRest_12 : decode cX0_isRest 12 = .ok (.iload_n 3, 1) := dk_29 (dk_at dksX0_isRest_0 12 rfl rfl)
theorem dX0_isRest_13 : decode cX0_isRest 13 = .ok (.imul, 1) := dk_104 (dk_at dksX0_isRest_0 13 rfl rfl)
theorem dX0_isRest_14 : decode cX0_isRest 14 = .ok (.iload_n 2, 1) := dk_28 (dk_at dksX0_isRest_0 14 rfl rfl)
theorem dX0_isRest_15 : decode cX0_isRest 15 = .ok (.iadd, 1) := dk_96 (dk_at dksX0_isRest_0 15 rfl rfl)
theorem dX0_isRest_16 : decode cX0_isRest 16 = .ok (.iaload, 1) := dk_46 (dk_at dksX0_isRest_0 16 rfl rfl)
theorem dX0_isRest_17 : decode cX0_isRest 17 = .ok (.aload_n 0, 1) := dk_42 (dk_at dksX0_isRest_0 17 rfl rfl)
theorem dX0_isRest_18 : decode cX0_isRest 18 = .ok (.getfield 92, 3) := dk_180 0 92 (dk_at dksX0_isRest_0 18 rfl rfl)
theorem dX0_isRest_21 : decode cX0_isRest 21 = .ok (.iconst 4, 1) := dk_7 (dk_at dksX0_isRest_0 21 rfl rfl)
theorem dX0_isRest_22 : decode cX0_isRest 22 = .ok (.iload_n 1, 1) := dk_27 (dk_at dksX0_isRest_0 22 rfl rfl)
theorem dX0_isRest_23 : decode cX0_isRest 23 = .ok (.imul, 1) := dk_104 (dk_at dksX0_isRest_0 23 rfl rfl)
theorem dX0_isRest_24 : decode cX0_isRest 24 = .ok (.iload_n 2, 1) := dk_28 (dk_at dksX0_isRest_1 0 rfl rfl)
theorem dX0_isRest_25 : decode cX0_isRest 25 = .ok (.iadd, 1) := dk_96 (dk_at dksX0_isRest_1 1 rfl rfl)
theorem dX0_isRest_26 : decode cX0_isRest 26 = .ok (.iaload, 1) := dk_46 (dk_at dksX0_isRest_1 2 rfl rfl)
theorem dX0_isRest_27 : decode cX0_isRest 27 = .ok (.if_icmp .gt 26, 3) := dk_163 0 26 (dk_at dksX0_isRest_1 3 rfl rfl)
theorem dX0_isRest_30 : decode cX0_isRest 30 = .ok (.aload_n 0, 1) := dk_42 (dk_at dksX0_isRest_1 6 rfl rfl)
theorem dX0_isRest_31 : decode cX0_isRest 31 = .ok (.getfield 96, 3) := dk_180 0 96 (dk_at dksX0_isRest_1 7 rfl rfl)
theorem dX0_isRest_34 : decode cX0_isRest 34 = .ok (.iconst 4, 1) := dk_7 (dk_at dksX0_isRest_1 10 rfl rfl)
theorem dX0_isRest_35 : decode cX0_isRest 35 = .ok (.iload_n 1, 1) := dk_27 (dk_at dksX0_isRest_1 11 rfl rfl)
theorem dX0_isRest_36 : decode cX0_isRest 36 = .ok (.imul, 1) := dk_104 (dk_at dksX0_isRest_1 12 rfl rfl)
theorem dX0_isRest_37 : decode cX0_isRest 37 = .ok (.iload_n 3, 1) := dk_29 (dk_at dksX0_isRest_1 13 rfl rfl)
theorem dX0_isRest_38 : decode cX0_isRest 38 = .ok (.iadd, 1) := dk_96 (dk_at dksX0_isRest_1 14 rfl rfl)
theorem dX0_isRest_39 : decode cX0_isRest 39 = .ok (.iaload, 1) := dk_46 (dk_at dksX0_isRest_1 15 rfl rfl)
theorem dX0_isRest_40 : decode cX0_isRest 40 = .ok (.aload_n 0, 1) := dk_42 (dk_at dksX0_isRest_1 16 rfl rfl)
theorem dX0_isRest_41 : decode cX0_isRest 41 = .ok (.getfield 96, 3) := dk_180 0 96 (dk_at dksX0_isRest_1 17 rfl rfl)
theorem dX0_isRest_44 : decode cX0_isRest 44 = .ok (.iconst 4, 1) := dk_7 (dk_at dksX0_isRest_1 20 rfl rfl)
theorem dX0_isRest_45 : decode cX0_isRest 45 = .ok (.iload_n 1, 1) := dk_27 (dk_at dksX0_isRest_1 21 rfl rfl)
theorem dX0_isRest_46 : decode cX0_isRest 46 = .ok (.imul, 1) := dk_104 (dk_at dksX0_isRest_1 22 rfl rfl)
theorem dX0_isRest_47 : decode cX0_isRest 47 = .ok (.iload_n 2, 1) := dk_28 (dk_at dksX0_isRest_1 23 rfl rfl)
theorem dX0_isRest_48 : decode cX0_isRest 48 = .ok (.iadd, 1) := dk_96 (dk_at dksX0_isRest_2 0 rfl rfl)
theorem dX0_isRest_49 : decode cX0_isRest 49 = .ok (.iaload, 1) := dk_46 (dk_at dksX0_isRest_2 1 rfl rfl)
theorem dX0_isRest_50 : decode cX0_isRest 50 = .ok (.if_icmp .le 5, 3) := dk_164 0 5 (dk_at dksX0_isRest_2 2 rfl rfl)
theorem dX0_isRest_53 : decode cX0_isRest 53 = .ok (.iconst 0, 1) := dk_3 (dk_at dksX0_isRest_2 5 rfl rfl)
theorem dX0_isRest_54 : decode cX0_isRest 54 = .ok (.ireturn, 1) := dk_172 (dk_at dksX0_isRest_2 6 rfl rfl)
theorem dX0_isRest_55 : decode cX0_isRest 55 = .ok (.iinc 3 1, 3) := dk_132 3 1 (dk_at dksX0_isRest_2 7 rfl rfl)
theorem dX0_isRest_58 : decode cX0_isRest 58 = .ok (.goto (-56), 3) := dk_167 255 200 (dk_at dksX0_isRest_2 10 rfl rfl)
theorem dX0_isRest_61 : decode cX0_isRest 61 = .ok (.iconst 1, 1) := dk_4 (dk_at dksX0_isRest_2 13 rfl rfl)
theorem dX0_isRest_62 : decode cX0_isRest 62 = .ok (.ireturn, 1) := dk_172 (dk_at dksX0_isRest_2 14 rfl rfl)
abbrev cX0_pence : ByteArray := prog_1_method_35_code
def yX0_pence : MethodName := ⟨RX0, "pence", "(II)I"⟩
def dkwX0_pence_6 : List UInt8 := [29, 108, 21, 5, 21, 4, 162, 0, 7, 4, 167, 0, 4, 3, 96, 172]
abbrev dktX0_pence_6 : List UInt8 := dkwX0_pence_6 ++ []
def dkwX0_pence_5 : List UInt8 := [4, 167, 0, 4, 3, 96, 54, 5, 132, 7, 1, 167, 255, 185, 27, 42, 180, 0, 138, 28, 182, 0, 169, 104]
abbrev dktX0_pence_5 : List UInt8 := dkwX0_pence_5 ++ dktX0_pence_6
def dkwX0_pence_4 : List UInt8 := [21, 8, 29, 112, 21, 6, 163, 0, 18, 21, 8, 29, 112, 21, 6, 160, 0, 13, 21, 7, 28, 162, 0, 7]
abbrev dktX0_pence_4 : List UInt8 := dkwX0_pence_4 ++ dktX0_pence_5
def dkwX0_pence_3 : List UInt8 := [27, 42, 180, 0, 138, 21, 7, 182, 0, 169, 104, 54, 8, 21, 4, 21, 8, 29, 108, 100, 54, 4, 21, 5]
abbrev dktX0_pence_3 : List UInt8 := dkwX0_pence_3 ++ dktX0_pence_4
def dkwX0_pence_2 : List UInt8 := [28, 182, 0, 169, 104, 29, 112, 54, 6, 3, 54, 7, 21, 7, 42, 180, 0, 138, 180, 0, 140, 162, 0, 65]
abbrev dktX0_pence_2 : List UInt8 := dkwX0_pence_2 ++ dktX0_pence_3
def dkwX0_pence_1 : List UInt8 := [180, 0, 138, 182, 0, 234, 62, 29, 154, 0, 5, 3, 172, 27, 54, 4, 3, 54, 5, 27, 42, 180, 0, 138]
abbrev dktX0_pence_1 : List UInt8 := dkwX0_pence_1 ++ dktX0_pence_2
def dkwX0_pence_0 : List UInt8 := [42, 28, 182, 0, 157, 153, 0, 15, 27, 133, 9, 20, 1, 34, 184, 0, 178, 154, 0, 5, 2, 172, 42]
abbrev dktX0_pence_0 : List UInt8 := dkwX0_pence_0 ++ dktX0_pence_1
theorem dksX0_pence_0 : cX0_pence.data.toList.drop 0 = dktX0_pence_0 := by decide +kernel
theorem dksX0_pence_1 : cX0_pence.data.toList.drop 23 = dktX0_pence_1 := dk_seg dksX0_pence_0 23 rfl rfl
theorem dksX0_pence_2 : cX0_pence.data.toList.drop 47 = dktX0_pence_2 := dk_seg dksX0_pence_1 24 rfl rfl
theorem dksX0_pence_3 : cX0_pence.data.toList.drop 71 = dktX0_pence_3 := dk_seg dksX0_pence_2 24 rfl rfl
theorem dksX0_pence_4 : cX0_pence.data.toList.drop 95 = dktX0_pence_4 := dk_seg dksX0_pence_3 24 rfl rfl
theorem dksX0_pence_5 : cX0_pence.data.toList.drop 119 = dktX0_pence_5 := dk_seg dksX0_pence_4 24 rfl rfl
theorem dksX0_pence_6 : cX0_pence.data.toList.drop 143 = dktX0_pence_6 := dk_seg dksX0_pence_5 24 rfl rfl
theorem dX0_pence_0 : decode cX0_pence 0 = .ok (.aload_n 0, 1) := dk_42 (dk_at dksX0_pence_0 0 rfl rfl)
theorem dX0_pence_1 : decode cX0_pence 1 = .ok (.iload_n 2, 1) := dk_28 (dk_at dksX0_pence_0 1 rfl rfl)
theorem dX0_pence_2 : decode cX0_pence 2 = .ok (.invokevirtual 157, 3) := dk_182 0 157 (dk_at dksX0_pence_0 2 rfl rfl)
theorem dX0_pence_5 : decode cX0_pence 5 = .ok (.ifCond .eq 15, 3) := dk_153 0 15 (dk_at dksX0_pence_0 5 rfl rfl)
theorem dX0_pence_8 : decode cX0_pence 8 = .ok (.iload_n 1, 1) := dk_27 (dk_at dksX0_pence_0 8 rfl rfl)
theorem dX0_pence_9 : decode cX0_pence 9 = .ok (.i2l, 1) := dk_133 (dk_at dksX0_pence_0 9 rfl rfl)
theorem dX0_pence_10 : decode cX0_pence 10 = .ok (.lconst 0, 1) := dk_9 (dk_at dksX0_pence_0 10 rfl rfl)
theorem dX0_pence_11 : decode cX0_pence 11 = .ok (.ldc2_w 290, 3) := dk_20 1 34 (dk_at dksX0_pence_0 11 rfl rfl)
theorem dX0_pence_14 : decode cX0_pence 14 = .ok (.invokestatic 178, 3) := dk_184 0 178 (dk_at dksX0_pence_0 14 rfl rfl)
theorem dX0_pence_17 : decode cX0_pence 17 = .ok (.ifCond .ne 5, 3) := dk_154 0 5 (dk_at dksX0_pence_0 17 rfl rfl)
theorem dX0_pence_20 : decode cX0_pence 20 = .ok (.iconst (-1), 1) := dk_2 (dk_at dksX0_pence_0 20 rfl rfl)
theorem dX0_pence_21 : decode cX0_pence 21 = .ok (.ireturn, 1) := dk_172 (dk_at dksX0_pence_0 21 rfl rfl)
theorem dX0_pence_22 : decode cX0_pence 22 = .ok (.aload_n 0, 1) := dk_42 (dk_at dksX0_pence_0 22 rfl rfl)
theorem dX0_pence_23 : decode cX0_pence 23 = .ok (.getfield 138, 3) := dk_180 0 138 (dk_at dksX0_pence_1 0 rfl rfl)
theorem dX0_pence_26 : decode cX0_pence 26 = .ok (.invokevirtual 234, 3) := dk_182 0 234 (dk_at dksX0_pence_1 3 rfl rfl)
theorem dX0_pence_29 : decode cX0_pence 29 = .ok (.istore_n 3, 1) := dk_62 (dk_at dksX0_pence_1 6 rfl rfl)
theorem dX0_pence_30 : decode cX0_pence 30 = .ok (.iload_n 3, 1) := dk_29 (dk_at dksX0_pence_1 7 rfl rfl)
theorem dX0_pence_31 : decode cX0_pence 31 = .ok (.ifCond .ne 5, 3) := dk_154 0 5 (dk_at dksX0_pence_1 8 rfl rfl)
theorem dX0_pence_34 : decode cX0_pence 34 = .ok (.iconst 0, 1) := dk_3 (dk_at dksX0_pence_1 11 rfl rfl)
theorem dX0_pence_35 : decode cX0_pence 35 = .ok (.ireturn, 1) := dk_172 (dk_at dksX0_pence_1 12 rfl rfl)
theorem dX0_pence_36 : decode cX0_pence 36 = .ok (.iload_n 1, 1) := dk_27 (dk_at dksX0_pence_1 13 rfl rfl)
theorem dX0_pence_37 : decode cX0_pence 37 = .ok (.istore 4, 2) := dk_54 4 (dk_at dksX0_pence_1 14 rfl rfl)
theorem dX0_pence_39 : decode cX0_pence 39 = .ok (.iconst 0, 1) := dk_3 (dk_at dksX0_pence_1 16 rfl rfl)
theorem dX0_pence_40 : decode cX0_pence 40 = .ok (.istore 5, 2) := dk_54 5 (dk_at dksX0_pence_1 17 rfl rfl)
theorem dX0_pence_42 : decode cX0_pence 42 = .ok (.iload_n 1, 1) := dk_27 (dk_at dksX0_pence_1 19 rfl rfl)
theorem dX0_pence_43 : decode cX0_pence 43 = .ok (.aload_n 0, 1) := dk_42 (dk_at dksX0_pence_1 20 rfl rfl)
theorem dX0_pence_44 : decode cX0_pence 44 = .ok (.getfield 138, 3) := dk_180 0 138 (dk_at dksX0_pence_1 21 rfl rfl)
theorem dX0_pence_47 : decode cX0_pence 47 = .ok (.iload_n 2, 1) := dk_28 (dk_at dksX0_pence_2 0 rfl rfl)
theorem dX0_pence_48 : decode cX0_pence 48 = .ok (.invokevirtual 169, 3) := dk_182 0 169 (dk_at dksX0_pence_2 1 rfl rfl)
theorem dX0_pence_51 : decode cX0_pence 51 = .ok (.imul, 1) := dk_104 (dk_at dksX0_pence_2 4 rfl rfl)
theorem dX0_pence_52 : decode cX0_pence 52 = .ok (.iload_n 3, 1) := dk_29 (dk_at dksX0_pence_2 5 rfl rfl)
theorem dX0_pence_53 : decode cX0_pence 53 = .ok (.irem, 1) := dk_112 (dk_at dksX0_pence_2 6 rfl rfl)
theorem dX0_pence_54 : decode cX0_pence 54 = .ok (.istore 6, 2) := dk_54 6 (dk_at dksX0_pence_2 7 rfl rfl)
theorem dX0_pence_56 : decode cX0_pence 56 = .ok (.iconst 0, 1) := dk_3 (dk_at dksX0_pence_2 9 rfl rfl)
theorem dX0_pence_57 : decode cX0_pence 57 = .ok (.istore 7, 2) := dk_54 7 (dk_at dksX0_pence_2 10 rfl rfl)
theorem dX0_pence_59 : decode cX0_pence 59 = .ok (.iload 7, 2) := dk_21 7 (dk_at dksX0_pence_2 12 rfl rfl)
theorem dX0_pence_61 : decode cX0_pence 61 = .ok (.aload_n 0, 1) := dk_42 (dk_at dksX0_pence_2 14 rfl rfl)
theorem dX0_pence_62 : decode cX0_pence 62 = .ok (.getfield 138, 3) := dk_180 0 138 (dk_at dksX0_pence_2 15 rfl rfl)
theorem dX0_pence_65 : decode cX0_pence 65 = .ok (.getfield 140, 3) := dk_180 0 140 (dk_at dksX0_pence_2 18 rfl rfl)
theorem dX0_pence_68 : decode cX0_pence 68 = .ok (.if_icmp .ge 65, 3) := dk_162 0 65 (dk_at dksX0_pence_2 21 rfl rfl)
theorem dX0_pence_71 : decode cX0_pence 71 = .ok (.iload_n 1, 1) := dk_27 (dk_at dksX0_pence_3 0 rfl rfl)
theorem dX0_pence_72 : decode cX0_pence 72 = .ok (.aload_n 0, 1) := dk_42 (dk_at dksX0_pence_3 1 rfl rfl)
theorem dX0_pence_73 : decode cX0_pence 73 = .ok (.getfield 138, 3) := dk_180 0 138 (dk_at dksX0_pence_3 2 rfl rfl)
theorem dX0_pence_76 : decode cX0_pence 76 = .ok (.iload 7, 2) := dk_21 7 (dk_at dksX0_pence_3 5 rfl rfl)
theorem dX0_pence_78 : decode cX0_pence 78 = .ok (.invokevirtual 169, 3) := dk_182 0 169 (dk_at dksX0_pence_3 7 rfl rfl)
theorem dX0_pence_81 : decode cX0_pence 81 = .ok (.imul, 1) := dk_104 (dk_at dksX0_pence_3 10 rfl rfl)
theorem dX0_pence_82 : decode cX0_pence 82 = .ok (.istore 8, 2) := dk_54 8 (dk_at dksX0_pence_3 11 rfl rfl)
theorem dX0_pence_84 : decode cX0_pence 84 = .ok (.iload 4, 2) := dk_21 4 (dk_at dksX0_pence_3 13 rfl rfl)
theorem dX0_pence_86 : decode cX0_pence 86 = .ok (.iload 8, 2) := dk_21 8 (dk_at dksX0_pence_3 15 rfl rfl)
theorem dX0_pence_88 : decode cX0_pence 88 = .ok (.iload_n 3, 1) := dk_29 (dk_at dksX0_pence_3 17 rfl rfl)
theorem dX0_pence_89 : decode cX0_pence 89 = .ok (.idiv, 1) := dk_108 (dk_at dksX0_pence_3 18 rfl rfl)
theorem dX0_pence_90 : decode cX0_pence 90 = .ok (.isub, 1) := dk_100 (dk_at dksX0_pence_3 19 rfl rfl)
theorem dX0_pence_91 : decode cX0_pence 91 = .ok (.istore 4, 2) := dk_54 4 (dk_at dksX0_pence_3 20 rfl rfl)
theorem dX0_pence_93 : decode cX0_pence 93 = .ok (.iload 5, 2) := dk_21 5 (dk_at dksX0_pence_3 22 rfl rfl)
theorem dX0_pence_95 : decode cX0_pence 95 = .ok (.iload 8, 2) := dk_21 8 (dk_at dksX0_pence_4 0 rfl rfl)
theorem dX0_pence_97 : decode cX0_pence 97 = .ok (.iload_n 3, 1) := dk_29 (dk_at dksX0_pence_4 2 rfl rfl)
theorem dX0_pence_98 : decode cX0_pence 98 = .ok (.irem, 1) := dk_112 (dk_at dksX0_pence_4 3 rfl rfl)
theorem dX0_pence_99 : decode cX0_pence 99 = .ok (.iload 6, 2) := dk_21 6 (dk_at dksX0_pence_4 4 rfl rfl)
theorem dX0_pence_101 : decode cX0_pence 101 = .ok (.if_icmp .gt 18, 3) := dk_163 0 18 (dk_at dksX0_pence_4 6 rfl rfl)
theorem dX0_pence_104 : decode cX0_pence 104 = .ok (.iload 8, 2) := dk_21 8 (dk_at dksX0_pence_4 9 rfl rfl)
theorem dX0_pence_106 : decode cX0_pence 106 = .ok (.iload_n 3, 1) := dk_29 (dk_at dksX0_pence_4 11 rfl rfl)
theorem dX0_pence_107 : decode cX0_pence 107 = .ok (.irem, 1) := dk_112 (dk_at dksX0_pence_4 12 rfl rfl)
theorem dX0_pence_108 : decode cX0_pence 108 = .ok (.iload 6, 2) := dk_21 6 (dk_at dksX0_pence_4 13 rfl rfl)
theorem dX0_pence_110 : decode cX0_pence 110 = .ok (.if_icmp .ne 13, 3) := dk_160 0 13 (dk_at dksX0_pence_4 15 rfl rfl)
theorem dX0_pence_113 : decode cX0_pence 113 = .ok (.iload 7, 2) := dk_21 7 (dk_at dksX0_pence_4 18 rfl rfl)
theorem dX0_pence_115 : decode cX0_pence 115 = .ok (.iload_n 2, 1) := dk_28 (dk_at dksX0_pence_4 20 rfl rfl)
theorem dX0_pence_116 : decode cX0_pence 116 = .ok (.if_icmp .ge 7, 3) := dk_162 0 7 (dk_at dksX0_pence_4 21 rfl rfl)
theorem dX0_pence_119 : decode cX0_pence 119 = .ok (.iconst 1, 1) := dk_4 (dk_at dksX0_pence_5 0 rfl rfl)
theorem dX0_pence_120 : decode cX0_pence 120 = .ok (.goto 4, 3) := dk_167 0 4 (dk_at dksX0_pence_5 1 rfl rfl)
theorem dX0_pence_123 : decode cX0_pence 123 = .ok (.iconst 0, 1) := dk_3 (dk_at dksX0_pence_5 4 rfl rfl)
theorem dX0_pence_124 : decode cX0_pence 124 = .ok (.iadd, 1) := dk_96 (dk_at dksX0_pence_5 5 rfl rfl)
theorem dX0_pence_125 : decode cX0_pence 125 = .ok (.istore 5, 2) := dk_54 5 (dk_at dksX0_pence_5 6 rfl rfl)
theorem dX0_pence_127 : decode cX0_pence 127 = .ok (.iinc 7 1, 3) := dk_132 7 1 (dk_at dksX0_pence_5 8 rfl rfl)
theorem dX0_pence_130 : decode cX0_pence 130 = .ok (.goto (-71), 3) := dk_167 255 185 (dk_at dksX0_pence_5 11 rfl rfl)
theorem dX0_pence_133 : decode cX0_pence 133 = .ok (.iload_n 1, 1) := dk_27 (dk_at dksX0_pence_5 14 rfl rfl)
theorem dX0_pence_134 : decode cX0_pence 134 = .ok (.aload_n 0, 1) := dk_42 (dk_at dksX0_pence_5 15 rfl rfl)
theorem dX0_pence_135 : decode cX0_pence 135 = .ok (.getfield 138, 3) := dk_180 0 138 (dk_at dksX0_pence_5 16 rfl rfl)
theorem dX0_pence_138 : decode cX0_pence 138 = .ok (.iload_n 2, 1) := dk_28 (dk_at dksX0_pence_5 19 rfl rfl)
theorem dX0_pence_139 : decode cX0_pence 139 = .ok (.invokevirtual 169, 3) := dk_182 0 169 (dk_at dksX0_pence_5 20 rfl rfl)
theorem dX0_pence_142 : decode cX0_pence 142 = .ok (.imul, 1) := dk_104 (dk_at dksX0_pence_5 23 rfl rfl)
theorem dX0_pence_143 : decode cX0_pence 143 = .ok (.iload_n 3, 1) := dk_29 (dk_at dksX0_pence_6 0 rfl rfl)
theorem dX0_pence_144 : decode cX0_pence 144 = .ok (.idiv, 1) := dk_108 (dk_at dksX0_pence_6 1 rfl rfl)
theorem dX0_pence_145 : decode cX0_pence 145 = .ok (.iload 5, 2) := dk_21 5 (dk_at dksX0_pence_6 2 rfl rfl)
theorem dX0_pence_147 : decode cX0_pence 147 = .ok (.iload 4, 2) := dk_21 4 (dk_at dksX0_pence_6 4 rfl rfl)
theorem dX0_pence_149 : decode cX0_pence 149 = .ok (.if_icmp .ge 7, 3) := dk_162 0 7 (dk_at dksX0_pence_6 6 rfl rfl)
theorem dX0_pence_152 : decode cX0_pence 152 = .ok (.iconst 1, 1) := dk_4 (dk_at dksX0_pence_6 9 rfl rfl)
theorem dX0_pence_153 : decode cX0_pence 153 = .ok (.goto 4, 3) := dk_167 0 4 (dk_at dksX0_pence_6 10 rfl rfl)
theorem dX0_pence_156 : decode cX0_pence 156 = .ok (.iconst 0, 1) := dk_3 (dk_at dksX0_pence_6 13 rfl rfl)
theorem dX0_pence_157 : decode cX0_pence 157 = .ok (.iadd, 1) := dk_96 (dk_at dksX0_pence_6 14 rfl rfl)
theorem dX0_pence_158 : decode cX0_pence 158 = .ok (.ireturn, 1) := dk_172 (dk_at dksX0_pence_6 15 rfl rfl)
abbrev cX0_read : ByteArray := prog_1_method_39_code
def yX0_read : MethodName := ⟨RX0, "read", "(II)I"⟩
def dkwX0_read_4 : List UInt8 := [16, 36, 29, 104, 16, 36, 184, 0, 196, 132, 3, 1, 167, 255, 196, 42, 28, 182, 1, 48, 172]
abbrev dktX0_read_4 : List UInt8 := dkwX0_read_4 ++ []
def dkwX0_read_3 : List UInt8 := [182, 0, 230, 87, 42, 180, 0, 99, 29, 4, 84, 42, 180, 0, 16, 180, 0, 182, 3, 42, 180, 0, 103]
abbrev dktX0_read_3 : List UInt8 := dkwX0_read_3 ++ dktX0_read_4
def dkwX0_read_2 : List UInt8 := [180, 0, 147, 163, 0, 58, 42, 180, 0, 16, 42, 180, 0, 138, 182, 0, 246, 27, 42, 29, 182, 1, 44]
abbrev dktX0_read_2 : List UInt8 := dkwX0_read_2 ++ dktX0_read_3
def dkwX0_read_1 : List UInt8 := [184, 0, 178, 154, 0, 5, 2, 172, 42, 180, 0, 16, 42, 180, 0, 138, 182, 0, 134, 87, 3, 62, 29, 42]
abbrev dktX0_read_1 : List UInt8 := dkwX0_read_1 ++ dktX0_read_2
def dkwX0_read_0 : List UInt8 := [42, 180, 0, 138, 198, 0, 25, 27, 133, 10, 20, 0, 244, 184, 0, 178, 153, 0, 13, 28, 133, 9, 10]
abbrev dktX0_read_0 : List UInt8 := dkwX0_read_0 ++ dktX0_read_1
theorem dksX0_read_0 : cX0_read.data.toList.drop 0 = dktX0_read_0 := by decide +kernel
theorem dksX0_read_1 : cX0_read.data.toList.drop 23 = dktX0_read_1 := dk_seg dksX0_read_0 23 rfl rfl
theorem dksX0_read_2 : cX0_read.data.toList.drop 47 = dktX0_read_2 := dk_seg dksX0_read_1 24 rfl rfl
theorem dksX0_read_3 : cX0_read.data.toList.drop 70 = dktX0_read_3 := dk_seg dksX0_read_2 23 rfl rfl
theorem dksX0_read_4 : cX0_read.data.toList.drop 93 = dktX0_read_4 := dk_seg dksX0_read_3 23 rfl rfl
theorem dX0_read_0 : decode cX0_read 0 = .ok (.aload_n 0, 1) := dk_42 (dk_at dksX0_read_0 0 rfl rfl)
theorem dX0_read_1 : decode cX0_read 1 = .ok (.getfield 138, 3) := dk_180 0 138 (dk_at dksX0_read_0 1 rfl rfl)
theorem dX0_read_4 : decode cX0_read 4 = .ok (.ifnull 25, 3) := dk_198 0 25 (dk_at dksX0_read_0 4 rfl rfl)
theorem dX0_read_7 : decode cX0_read 7 = .ok (.iload_n 1, 1) := dk_27 (dk_at dksX0_read_0 7 rfl rfl)
theorem dX0_read_8 : decode cX0_read 8 = .ok (.i2l, 1) := dk_133 (dk_at dksX0_read_0 8 rfl rfl)
theorem dX0_read_9 : decode cX0_read 9 = .ok (.lconst 1, 1) := dk_10 (dk_at dksX0_read_0 9 rfl rfl)
theorem dX0_read_10 : decode cX0_read 10 = .ok (.ldc2_w 244, 3) := dk_20 0 244 (dk_at dksX0_read_0 10 rfl rfl)
theorem dX0_read_13 : decode cX0_read 13 = .ok (.invokestatic 178, 3) := dk_184 0 178 (dk_at dksX0_read_0 13 rfl rfl)
theorem dX0_read_16 : decode cX0_read 16 = .ok (.ifCond .eq 13, 3) := dk_153 0 13 (dk_at dksX0_read_0 16 rfl rfl)
theorem dX0_read_19 : decode cX0_read 19 = .ok (.iload_n 2, 1) := dk_28 (dk_at dksX0_read_0 19 rfl rfl)
theorem dX0_read_20 : decode cX0_read 20 = .ok (.i2l, 1) := dk_133 (dk_at dksX0_read_0 20 rfl rfl)
theorem dX0_read_21 : decode cX0_read 21 = .ok (.lconst 0, 1) := dk_9 (dk_at dksX0_read_0 21 rfl rfl)
theorem dX0_read_22 : decode cX0_read 22 = .ok (.lconst 1, 1) := dk_10 (dk_at dksX0_read_0 22 rfl rfl)
theorem dX0_read_23 : decode cX0_read 23 = .ok (.invokestatic 178, 3) := dk_184 0 178 (dk_at dksX0_read_1 0 rfl rfl)
theorem dX0_read_26 : decode cX0_read 26 = .ok (.ifCond .ne 5, 3) := dk_154 0 5 (dk_at dksX0_read_1 3 rfl rfl)
theorem dX0_read_29 : decode cX0_read 29 = .ok (.iconst (-1), 1) := dk_2 (dk_at dksX0_read_1 6 rfl rfl)
theorem dX0_read_30 : decode cX0_read 30 = .ok (.ireturn, 1) := dk_172 (dk_at dksX0_read_1 7 rfl rfl)
theorem dX0_read_31 : decode cX0_read 31 = .ok (.aload_n 0, 1) := dk_42 (dk_at dksX0_read_1 8 rfl rfl)
theorem dX0_read_32 : decode cX0_read 32 = .ok (.getfield 16, 3) := dk_180 0 16 (dk_at dksX0_read_1 9 rfl rfl)
theorem dX0_read_35 : decode cX0_read 35 = .ok (.aload_n 0, 1) := dk_42 (dk_at dksX0_read_1 12 rfl rfl)
theorem dX0_read_36 : decode cX0_read 36 = .ok (.getfield 138, 3) := dk_180 0 138 (dk_at dksX0_read_1 13 rfl rfl)
theorem dX0_read_39 : decode cX0_read 39 = .ok (.invokevirtual 134, 3) := dk_182 0 134 (dk_at dksX0_read_1 16 rfl rfl)
theorem dX0_read_42 : decode cX0_read 42 = .ok (.pop, 1) := dk_87 (dk_at dksX0_read_1 19 rfl rfl)
theorem dX0_read_43 : decode cX0_read 43 = .ok (.iconst 0, 1) := dk_3 (dk_at dksX0_read_1 20 rfl rfl)
theorem dX0_read_44 : decode cX0_read 44 = .ok (.istore_n 3, 1) := dk_62 (dk_at dksX0_read_1 21 rfl rfl)
theorem dX0_read_45 : decode cX0_read 45 = .ok (.iload_n 3, 1) := dk_29 (dk_at dksX0_read_1 22 rfl rfl)
theorem dX0_read_46 : decode cX0_read 46 = .ok (.aload_n 0, 1) := dk_42 (dk_at dksX0_read_1 23 rfl rfl)
theorem dX0_read_47 : decode cX0_read 47 = .ok (.getfield 147, 3) := dk_180 0 147 (dk_at dksX0_read_2 0 rfl rfl)
theorem dX0_read_50 : decode cX0_read 50 = .ok (.if_icmp .gt 58, 3) := dk_163 0 58 (dk_at dksX0_read_2 3 rfl rfl)
theorem dX0_read_53 : decode cX0_read 53 = .ok (.aload_n 0, 1) := dk_42 (dk_at dksX0_read_2 6 rfl rfl)
theorem dX0_read_54 : decode cX0_read 54 = .ok (.getfield 16, 3) := dk_180 0 16 (dk_at dksX0_read_2 7 rfl rfl)
theorem dX0_read_57 : decode cX0_read 57 = .ok (.aload_n 0, 1) := dk_42 (dk_at dksX0_read_2 10 rfl rfl)
theorem dX0_read_58 : decode cX0_read 58 = .ok (.getfield 138, 3) := dk_180 0 138 (dk_at dksX0_read_2 11 rfl rfl)
theorem dX0_read_61 : decode cX0_read 61 = .ok (.invokevirtual 246, 3) := dk_182 0 246 (dk_at dksX0_read_2 14 rfl rfl)
theorem dX0_read_64 : decode cX0_read 64 = .ok (.iload_n 1, 1) := dk_27 (dk_at dksX0_read_2 17 rfl rfl)
theorem dX0_read_65 : decode cX0_read 65 = .ok (.aload_n 0, 1) := dk_42 (dk_at dksX0_read_2 18 rfl rfl)
theorem dX0_read_66 : decode cX0_read 66 = .ok (.iload_n 3, 1) := dk_29 (dk_at dksX0_read_2 19 rfl rfl)
theorem dX0_read_67 : decode cX0_read 67 = .ok (.invokevirtual 300, 3) := dk_182 1 44 (dk_at dksX0_read_2 20 rfl rfl)
theorem dX0_read_70 : decode cX0_read 70 = .ok (.invokevirtual 230, 3) := dk_182 0 230 (dk_at dksX0_read_3 0 rfl rfl)
theorem dX0_read_73 : decode cX0_read 73 = .ok (.pop, 1) := dk_87 (dk_at dksX0_read_3 3 rfl rfl)
theorem dX0_read_74 : decode cX0_read 74 = .ok (.aload_n 0, 1) := dk_42 (dk_at dksX0_read_3 4 rfl rfl)
theorem dX0_read_75 : decode cX0_read 75 = .ok (.getfield 99, 3) := dk_180 0 99 (dk_at dksX0_read_3 5 rfl rfl)
theorem dX0_read_78 : decode cX0_read 78 = .ok (.iload_n 3, 1) := dk_29 (dk_at dksX0_read_3 8 rfl rfl)
theorem dX0_read_79 : decode cX0_read 79 = .ok (.iconst 1, 1) := dk_4 (dk_at dksX0_read_3 9 rfl rfl)
theorem dX0_read_80 : decode cX0_read 80 = .ok (.bastore, 1) := dk_84 (dk_at dksX0_read_3 10 rfl rfl)
theorem dX0_read_81 : decode cX0_read 81 = .ok (.aload_n 0, 1) := dk_42 (dk_at dksX0_read_3 11 rfl rfl)
theorem dX0_read_82 : decode cX0_read 82 = .ok (.getfield 16, 3) := dk_180 0 16 (dk_at dksX0_read_3 12 rfl rfl)
theorem dX0_read_85 : decode cX0_read 85 = .ok (.getfield 182, 3) := dk_180 0 182 (dk_at dksX0_read_3 15 rfl rfl)
theorem dX0_read_88 : decode cX0_read 88 = .ok (.iconst 0, 1) := dk_3 (dk_at dksX0_read_3 18 rfl rfl)
theorem dX0_read_89 : decode cX0_read 89 = .ok (.aload_n 0, 1) := dk_42 (dk_at dksX0_read_3 19 rfl rfl)
theorem dX0_read_90 : decode cX0_read 90 = .ok (.getfield 103, 3) := dk_180 0 103 (dk_at dksX0_read_3 20 rfl rfl)
theorem dX0_read_93 : decode cX0_read 93 = .ok (.bipush 36, 2) := dk_16 36 (dk_at dksX0_read_4 0 rfl rfl)
theorem dX0_read_95 : decode cX0_read 95 = .ok (.iload_n 3, 1) := dk_29 (dk_at dksX0_read_4 2 rfl rfl)
theorem dX0_read_96 : decode cX0_read 96 = .ok (.imul, 1) := dk_104 (dk_at dksX0_read_4 3 rfl rfl)
theorem dX0_read_97 : decode cX0_read 97 = .ok (.bipush 36, 2) := dk_16 36 (dk_at dksX0_read_4 4 rfl rfl)
theorem dX0_read_99 : decode cX0_read 99 = .ok (.invokestatic 196, 3) := dk_184 0 196 (dk_at dksX0_read_4 6 rfl rfl)
theorem dX0_read_102 : decode cX0_read 102 = .ok (.iinc 3 1, 3) := dk_132 3 1 (dk_at dksX0_read_4 9 rfl rfl)
theorem dX0_read_105 : decode cX0_read 105 = .ok (.goto (-60), 3) := dk_167 255 196 (dk_at dksX0_read_4 12 rfl rfl)
theorem dX0_read_108 : decode cX0_read 108 = .ok (.aload_n 0, 1) := dk_42 (dk_at dksX0_read_4 15 rfl rfl)
theorem dX0_read_109 : decode cX0_read 109 = .ok (.iload_n 2, 1) := dk_28 (dk_at dksX0_read_4 16 rfl rfl)
theorem dX0_read_110 : decode cX0_read 110 = .ok (.invokevirtual 304, 3) := dk_182 1 48 (dk_at dksX0_read_4 17 rfl rfl)
theorem dX0_read_113 : decode cX0_read 113 = .ok (.ireturn, 1) := dk_172 (dk_at dksX0_read_4 20 rfl rfl)
abbrev cX0_ruleOf : ByteArray := prog_1_method_38_code
def yX0_ruleOf : MethodName := ⟨RX0, "ruleOf", "(I)LSkySpire$Rule;"⟩
def dkwX0_ruleOf_0 : List UInt8 := [27, 154, 0, 7, 1, 167, 0, 11, 42, 180, 0, 88, 27, 4, 100, 50, 176]
abbrev dktX0_ruleOf_0 : List UInt8 := dkwX0_ruleOf_0 ++ []
theorem dksX0_ruleOf_0 : cX0_ruleOf.data.toList.drop 0 = dktX0_ruleOf_0 := by decide +kernel
theorem dX0_ruleOf_0 : decode cX0_ruleOf 0 = .ok (.iload_n 1, 1) := dk_27 (dk_at dksX0_ruleOf_0 0 rfl rfl)
theorem dX0_ruleOf_1 : decode cX0_ruleOf 1 = .ok (.ifCond .ne 7, 3) := dk_154 0 7 (dk_at dksX0_ruleOf_0 1 rfl rfl)
theorem dX0_ruleOf_4 : decode cX0_ruleOf 4 = .ok (.aconst_null, 1) := dk_1 (dk_at dksX0_ruleOf_0 4 rfl rfl)
theorem dX0_ruleOf_5 : decode cX0_ruleOf 5 = .ok (.goto 11, 3) := dk_167 0 11 (dk_at dksX0_ruleOf_0 5 rfl rfl)
theorem dX0_ruleOf_8 : decode cX0_ruleOf 8 = .ok (.aload_n 0, 1) := dk_42 (dk_at dksX0_ruleOf_0 8 rfl rfl)
theorem dX0_ruleOf_9 : decode cX0_ruleOf 9 = .ok (.getfield 88, 3) := dk_180 0 88 (dk_at dksX0_ruleOf_0 9 rfl rfl)
theorem dX0_ruleOf_12 : decode cX0_ruleOf 12 = .ok (.iload_n 1, 1) := dk_27 (dk_at dksX0_ruleOf_0 12 rfl rfl)
theorem dX0_ruleOf_13 : decode cX0_ruleOf 13 = .ok (.iconst 1, 1) := dk_4 (dk_at dksX0_ruleOf_0 13 rfl rfl)
theorem dX0_ruleOf_14 : decode cX0_ruleOf 14 = .ok (.isub, 1) := dk_100 (dk_at dksX0_ruleOf_0 14 rfl rfl)
theorem dX0_ruleOf_15 : decode cX0_ruleOf 15 = .ok (.aaload, 1) := dk_50 (dk_at dksX0_ruleOf_0 15 rfl rfl)
theorem dX0_ruleOf_16 : decode cX0_ruleOf 16 = .ok (.areturn, 1) := dk_176 (dk_at dksX0_ruleOf_0 16 rfl rfl)
abbrev cX0_parts : ByteArray := prog_1_method_37_code
def yX0_parts : MethodName := ⟨RX0, "parts", "(I)I"⟩
def dkwX0_parts_3 : List UInt8 := [172]
abbrev dktX0_parts_3 : List UInt8 := dkwX0_parts_3 ++ []
def dkwX0_parts_2 : List UInt8 := [167, 0, 9, 21, 4, 61, 21, 5, 62, 132, 4, 1, 167, 255, 207, 27, 154, 0, 7, 28, 167, 0, 4, 29]
abbrev dktX0_parts_2 : List UInt8 := dkwX0_parts_2 ++ dktX0_parts_3
def dkwX0_parts_1 : List UInt8 := [182, 1, 41, 54, 5, 21, 5, 153, 0, 24, 28, 16, 254, 159, 0, 12, 21, 5, 29, 161, 0, 6]
abbrev dktX0_parts_1 : List UInt8 := dkwX0_parts_1 ++ dktX0_parts_2
def dkwX0_parts_0 : List UInt8 := [16, 254, 61, 16, 254, 62, 3, 54, 4, 21, 4, 42, 180, 0, 138, 182, 0, 154, 162, 0, 43, 42, 21, 4]
abbrev dktX0_parts_0 : List UInt8 := dkwX0_parts_0 ++ dktX0_parts_1
theorem dksX0_parts_0 : cX0_parts.data.toList.drop 0 = dktX0_parts_0 := by decide +kernel
theorem dksX0_parts_1 : cX0_parts.data.toList.drop 24 = dktX0_parts_1 := dk_seg dksX0_parts_0 24 rfl rfl
theorem dksX0_parts_2 : cX0_parts.data.toList.drop 46 = dktX0_parts_2 := dk_seg dksX0_parts_1 22 rfl rfl
theorem dksX0_parts_3 : cX0_parts.data.toList.drop 70 = dktX0_parts_3 := dk_seg dksX0_parts_2 24 rfl rfl
theorem dX0_parts_0 : decode cX0_parts 0 = .ok (.bipush (-2), 2) := dk_16 254 (dk_at dksX0_parts_0 0 rfl rfl)
theorem dX0_parts_2 : decode cX0_parts 2 = .ok (.istore_n 2, 1) := dk_61 (dk_at dksX0_parts_0 2 rfl rfl)
theorem dX0_parts_3 : decode cX0_parts 3 = .ok (.bipush (-2), 2) := dk_16 254 (dk_at dksX0_parts_0 3 rfl rfl)
theorem dX0_parts_5 : decode cX0_parts 5 = .ok (.istore_n 3, 1) := dk_62 (dk_at dksX0_parts_0 5 rfl rfl)
theorem dX0_parts_6 : decode cX0_parts 6 = .ok (.iconst 0, 1) := dk_3 (dk_at dksX0_parts_0 6 rfl rfl)
theorem dX0_parts_7 : decode cX0_parts 7 = .ok (.istore 4, 2) := dk_54 4 (dk_at dksX0_parts_0 7 rfl rfl)
theorem dX0_parts_9 : decode cX0_parts 9 = .ok (.iload 4, 2) := dk_21 4 (dk_at dksX0_parts_0 9 rfl rfl)
theorem dX0_parts_11 : decode cX0_parts 11 = .ok (.aload_n 0, 1) := dk_42 (dk_at dksX0_parts_0 11 rfl rfl)
theorem dX0_parts_12 : decode cX0_parts 12 = .ok (.getfield 138, 3) := dk_180 0 138 (dk_at dksX0_parts_0 12 rfl rfl)
theorem dX0_parts_15 : decode cX0_parts 15 = .ok (.invokevirtual 154, 3) := dk_182 0 154 (dk_at dksX0_parts_0 15 rfl rfl)
theorem dX0_parts_18 : decode cX0_parts 18 = .ok (.if_icmp .ge 43, 3) := dk_162 0 43 (dk_at dksX0_parts_0 18 rfl rfl)
theorem dX0_parts_21 : decode cX0_parts 21 = .ok (.aload_n 0, 1) := dk_42 (dk_at dksX0_parts_0 21 rfl rfl)
theorem dX0_parts_22 : decode cX0_parts 22 = .ok (.iload 4, 2) := dk_21 4 (dk_at dksX0_parts_0 22 rfl rfl)
theorem dX0_parts_24 : decode cX0_parts 24 = .ok (.invokevirtual 297, 3) := dk_182 1 41 (dk_at dksX0_parts_1 0 rfl rfl)
theorem dX0_parts_27 : decode cX0_parts 27 = .ok (.istore 5, 2) := dk_54 5 (dk_at dksX0_parts_1 3 rfl rfl)
theorem dX0_parts_29 : decode cX0_parts 29 = .ok (.iload 5, 2) := dk_21 5 (dk_at dksX0_parts_1 5 rfl rfl)
theorem dX0_parts_31 : decode cX0_parts 31 = .ok (.ifCond .eq 24, 3) := dk_153 0 24 (dk_at dksX0_parts_1 7 rfl rfl)
theorem dX0_parts_34 : decode cX0_parts 34 = .ok (.iload_n 2, 1) := dk_28 (dk_at dksX0_parts_1 10 rfl rfl)
theorem dX0_parts_35 : decode cX0_parts 35 = .ok (.bipush (-2), 2) := dk_16 254 (dk_at dksX0_parts_1 11 rfl rfl)
theorem dX0_parts_37 : decode cX0_parts 37 = .ok (.if_icmp .eq 12, 3) := dk_159 0 12 (dk_at dksX0_parts_1 13 rfl rfl)
theorem dX0_parts_40 : decode cX0_parts 40 = .ok (.iload 5, 2) := dk_21 5 (dk_at dksX0_parts_1 16 rfl rfl)
theorem dX0_parts_42 : decode cX0_parts 42 = .ok (.iload_n 3, 1) := dk_29 (dk_at dksX0_parts_1 18 rfl rfl)
theorem dX0_parts_43 : decode cX0_parts 43 = .ok (.if_icmp .lt 6, 3) := dk_161 0 6 (dk_at dksX0_parts_1 19 rfl rfl)
theorem dX0_parts_46 : decode cX0_parts 46 = .ok (.goto 9, 3) := dk_167 0 9 (dk_at dksX0_parts_2 0 rfl rfl)
theorem dX0_parts_49 : decode cX0_parts 49 = .ok (.iload 4, 2) := dk_21 4 (dk_at dksX0_parts_2 3 rfl rfl)
theorem dX0_parts_51 : decode cX0_parts 51 = .ok (.istore_n 2, 1) := dk_61 (dk_at dksX0_parts_2 5 rfl rfl)
theorem dX0_parts_52 : decode cX0_parts 52 = .ok (.iload 5, 2) := dk_21 5 (dk_at dksX0_parts_2 6 rfl rfl)
theorem dX0_parts_54 : decode cX0_parts 54 = .ok (.istore_n 3, 1) := dk_62 (dk_at dksX0_parts_2 8 rfl rfl)
theorem dX0_parts_55 : decode cX0_parts 55 = .ok (.iinc 4 1, 3) := dk_132 4 1 (dk_at dksX0_parts_2 9 rfl rfl)
theorem dX0_parts_58 : decode cX0_parts 58 = .ok (.goto (-49), 3) := dk_167 255 207 (dk_at dksX0_parts_2 12 rfl rfl)
theorem dX0_parts_61 : decode cX0_parts 61 = .ok (.iload_n 1, 1) := dk_27 (dk_at dksX0_parts_2 15 rfl rfl)
theorem dX0_parts_62 : decode cX0_parts 62 = .ok (.ifCond .ne 7, 3) := dk_154 0 7 (dk_at dksX0_parts_2 16 rfl rfl)
theorem dX0_parts_65 : decode cX0_parts 65 = .ok (.iload_n 2, 1) := dk_28 (dk_at dksX0_parts_2 19 rfl rfl)
theorem dX0_parts_66 : decode cX0_parts 66 = .ok (.goto 4, 3) := dk_167 0 4 (dk_at dksX0_parts_2 20 rfl rfl)
theorem dX0_parts_69 : decode cX0_parts 69 = .ok (.iload_n 3, 1) := dk_29 (dk_at dksX0_parts_2 23 rfl rfl)
theorem dX0_parts_70 : decode cX0_parts 70 = .ok (.ireturn, 1) := dk_172 (dk_at dksX0_parts_3 0 rfl rfl)
abbrev cX0_alikeOf : ByteArray := prog_1_method_36_code
def yX0_alikeOf : MethodName := ⟨RX0, "alikeOf", "(I)I"⟩
def dkwX0_alikeOf_3 : List UInt8 := [28, 21, 4, 184, 1, 36, 61, 132, 3, 1, 167, 255, 178, 28, 172]
abbrev dktX0_alikeOf_3 : List UInt8 := dkwX0_alikeOf_3 ++ []
def dkwX0_alikeOf_2 : List UInt8 := [21, 5, 104, 27, 96, 46, 29, 160, 0, 7, 4, 167, 0, 4, 3, 96, 54, 4, 132, 5, 1, 167, 255, 208]
abbrev dktX0_alikeOf_2 : List UInt8 := dkwX0_alikeOf_2 ++ dktX0_alikeOf_3
def dkwX0_alikeOf_1 : List UInt8 := [180, 0, 147, 163, 0, 45, 21, 4, 42, 180, 0, 99, 21, 5, 51, 153, 0, 23, 42, 180, 0, 103, 16, 36]
abbrev dktX0_alikeOf_1 : List UInt8 := dkwX0_alikeOf_1 ++ dktX0_alikeOf_2
def dkwX0_alikeOf_0 : List UInt8 := [3, 61, 2, 62, 29, 42, 180, 0, 138, 180, 0, 140, 162, 0, 73, 3, 54, 4, 3, 54, 5, 21, 5, 42]
abbrev dktX0_alikeOf_0 : List UInt8 := dkwX0_alikeOf_0 ++ dktX0_alikeOf_1
theorem dksX0_alikeOf_0 : cX0_alikeOf.data.toList.drop 0 = dktX0_alikeOf_0 := by decide +kernel
theorem dksX0_alikeOf_1 : cX0_alikeOf.data.toList.drop 24 = dktX0_alikeOf_1 := dk_seg dksX0_alikeOf_0 24 rfl rfl
theorem dksX0_alikeOf_2 : cX0_alikeOf.data.toList.drop 48 = dktX0_alikeOf_2 := dk_seg dksX0_alikeOf_1 24 rfl rfl
theorem dksX0_alikeOf_3 : cX0_alikeOf.data.toList.drop 72 = dktX0_alikeOf_3 := dk_seg dksX0_alikeOf_2 24 rfl rfl
theorem dX0_alikeOf_0 : decode cX0_alikeOf 0 = .ok (.iconst 0, 1) := dk_3 (dk_at dksX0_alikeOf_0 0 rfl rfl)
theorem dX0_alikeOf_1 : decode cX0_alikeOf 1 = .ok (.istore_n 2, 1) := dk_61 (dk_at dksX0_alikeOf_0 1 rfl rfl)
theorem dX0_alikeOf_2 : decode cX0_alikeOf 2 = .ok (.iconst (-1), 1) := dk_2 (dk_at dksX0_alikeOf_0 2 rfl rfl)
theorem dX0_alikeOf_3 : decode cX0_alikeOf 3 = .ok (.istore_n 3, 1) := dk_62 (dk_at dksX0_alikeOf_0 3 rfl rfl)
theorem dX0_alikeOf_4 : decode cX0_alikeOf 4 = .ok (.iload_n 3, 1) := dk_29 (dk_at dksX0_alikeOf_0 4 rfl rfl)
theorem dX0_alikeOf_5 : decode cX0_alikeOf 5 = .ok (.aload_n 0, 1) := dk_42 (dk_at dksX0_alikeOf_0 5 rfl rfl)
theorem dX0_alikeOf_6 : decode cX0_alikeOf 6 = .ok (.getfield 138, 3) := dk_180 0 138 (dk_at dksX0_alikeOf_0 6 rfl rfl)
theorem dX0_alikeOf_9 : decode cX0_alikeOf 9 = .ok (.getfield 140, 3) := dk_180 0 140 (dk_at dksX0_alikeOf_0 9 rfl rfl)
theorem dX0_alikeOf_12 : decode cX0_alikeOf 12 = .ok (.if_icmp .ge 73, 3) := dk_162 0 73 (dk_at dksX0_alikeOf_0 12 rfl rfl)
theorem dX0_alikeOf_15 : decode cX0_alikeOf 15 = .ok (.iconst 0, 1) := dk_3 (dk_at dksX0_alikeOf_0 15 rfl rfl)
theorem dX0_alikeOf_16 : decode cX0_alikeOf 16 = .ok (.istore 4, 2) := dk_54 4 (dk_at dksX0_alikeOf_0 16 rfl rfl)
theorem dX0_alikeOf_18 : decode cX0_alikeOf 18 = .ok (.iconst 0, 1) := dk_3 (dk_at dksX0_alikeOf_0 18 rfl rfl)
theorem dX0_alikeOf_19 : decode cX0_alikeOf 19 = .ok (.istore 5, 2) := dk_54 5 (dk_at dksX0_alikeOf_0 19 rfl rfl)
theorem dX0_alikeOf_21 : decode cX0_alikeOf 21 = .ok (.iload 5, 2) := dk_21 5 (dk_at dksX0_alikeOf_0 21 rfl rfl)
theorem dX0_alikeOf_23 : decode cX0_alikeOf 23 = .ok (.aload_n 0, 1) := dk_42 (dk_at dksX0_alikeOf_0 23 rfl rfl)
theorem dX0_alikeOf_24 : decode cX0_alikeOf 24 = .ok (.getfield 147, 3) := dk_180 0 147 (dk_at dksX0_alikeOf_1 0 rfl rfl)
theorem dX0_alikeOf_27 : decode cX0_alikeOf 27 = .ok (.if_icmp .gt 45, 3) := dk_163 0 45 (dk_at dksX0_alikeOf_1 3 rfl rfl)
theorem dX0_alikeOf_30 : decode cX0_alikeOf 30 = .ok (.iload 4, 2) := dk_21 4 (dk_at dksX0_alikeOf_1 6 rfl rfl)
theorem dX0_alikeOf_32 : decode cX0_alikeOf 32 = .ok (.aload_n 0, 1) := dk_42 (dk_at dksX0_alikeOf_1 8 rfl rfl)
theorem dX0_alikeOf_33 : decode cX0_alikeOf 33 = .ok (.getfield 99, 3) := dk_180 0 99 (dk_at dksX0_alikeOf_1 9 rfl rfl)
theorem dX0_alikeOf_36 : decode cX0_alikeOf 36 = .ok (.iload 5, 2) := dk_21 5 (dk_at dksX0_alikeOf_1 12 rfl rfl)
theorem dX0_alikeOf_38 : decode cX0_alikeOf 38 = .ok (.baload, 1) := dk_51 (dk_at dksX0_alikeOf_1 14 rfl rfl)
theorem dX0_alikeOf_39 : decode cX0_alikeOf 39 = .ok (.ifCond .eq 23, 3) := dk_153 0 23 (dk_at dksX0_alikeOf_1 15 rfl rfl)
theorem dX0_alikeOf_42 : decode cX0_alikeOf 42 = .ok (.aload_n 0, 1) := dk_42 (dk_at dksX0_alikeOf_1 18 rfl rfl)
theorem dX0_alikeOf_43 : decode cX0_alikeOf 43 = .ok (.getfield 103, 3) := dk_180 0 103 (dk_at dksX0_alikeOf_1 19 rfl rfl)
theorem dX0_alikeOf_46 : decode cX0_alikeOf 46 = .ok (.bipush 36, 2) := dk_16 36 (dk_at dksX0_alikeOf_1 22 rfl rfl)
theorem dX0_alikeOf_48 : decode cX0_alikeOf 48 = .ok (.iload 5, 2) := dk_21 5 (dk_at dksX0_alikeOf_2 0 rfl rfl)
theorem dX0_alikeOf_50 : decode cX0_alikeOf 50 = .ok (.imul, 1) := dk_104 (dk_at dksX0_alikeOf_2 2 rfl rfl)
theorem dX0_alikeOf_51 : decode cX0_alikeOf 51 = .ok (.iload_n 1, 1) := dk_27 (dk_at dksX0_alikeOf_2 3 rfl rfl)
theorem dX0_alikeOf_52 : decode cX0_alikeOf 52 = .ok (.iadd, 1) := dk_96 (dk_at dksX0_alikeOf_2 4 rfl rfl)
theorem dX0_alikeOf_53 : decode cX0_alikeOf 53 = .ok (.iaload, 1) := dk_46 (dk_at dksX0_alikeOf_2 5 rfl rfl)
theorem dX0_alikeOf_54 : decode cX0_alikeOf 54 = .ok (.iload_n 3, 1) := dk_29 (dk_at dksX0_alikeOf_2 6 rfl rfl)
theorem dX0_alikeOf_55 : decode cX0_alikeOf 55 = .ok (.if_icmp .ne 7, 3) := dk_160 0 7 (dk_at dksX0_alikeOf_2 7 rfl rfl)
theorem dX0_alikeOf_58 : decode cX0_alikeOf 58 = .ok (.iconst 1, 1) := dk_4 (dk_at dksX0_alikeOf_2 10 rfl rfl)
theorem dX0_alikeOf_59 : decode cX0_alikeOf 59 = .ok (.goto 4, 3) := dk_167 0 4 (dk_at dksX0_alikeOf_2 11 rfl rfl)
theorem dX0_alikeOf_62 : decode cX0_alikeOf 62 = .ok (.iconst 0, 1) := dk_3 (dk_at dksX0_alikeOf_2 14 rfl rfl)
theorem dX0_alikeOf_63 : decode cX0_alikeOf 63 = .ok (.iadd, 1) := dk_96 (dk_at dksX0_alikeOf_2 15 rfl rfl)
theorem dX0_alikeOf_64 : decode cX0_alikeOf 64 = .ok (.istore 4, 2) := dk_54 4 (dk_at dksX0_alikeOf_2 16 rfl rfl)
theorem dX0_alikeOf_66 : decode cX0_alikeOf 66 = .ok (.iinc 5 1, 3) := dk_132 5 1 (dk_at dksX0_alikeOf_2 18 rfl rfl)
theorem dX0_alikeOf_69 : decode cX0_alikeOf 69 = .ok (.goto (-48), 3) := dk_167 255 208 (dk_at dksX0_alikeOf_2 21 rfl rfl)
theorem dX0_alikeOf_72 : decode cX0_alikeOf 72 = .ok (.iload_n 2, 1) := dk_28 (dk_at dksX0_alikeOf_3 0 rfl rfl)
theorem dX0_alikeOf_73 : decode cX0_alikeOf 73 = .ok (.iload 4, 2) := dk_21 4 (dk_at dksX0_alikeOf_3 1 rfl rfl)
theorem dX0_alikeOf_75 : decode cX0_alikeOf 75 = .ok (.invokestatic 292, 3) := dk_184 1 36 (dk_at dksX0_alikeOf_3 3 rfl rfl)
theorem dX0_alikeOf_78 : decode cX0_alikeOf 78 = .ok (.istore_n 2, 1) := dk_61 (dk_at dksX0_alikeOf_3 6 rfl rfl)
theorem dX0_alikeOf_79 : decode cX0_alikeOf 79 = .ok (.iinc 3 1, 3) := dk_132 3 1 (dk_at dksX0_alikeOf_3 7 rfl rfl)
theorem dX0_alikeOf_82 : decode cX0_alikeOf 82 = .ok (.goto (-78), 3) := dk_167 255 178 (dk_at dksX0_alikeOf_3 10 rfl rfl)
theorem dX0_alikeOf_85 : decode cX0_alikeOf 85 = .ok (.iload_n 2, 1) := dk_28 (dk_at dksX0_alikeOf_3 13 rfl rfl)
theorem dX0_alikeOf_86 : decode cX0_alikeOf 86 = .ok (.ireturn, 1) := dk_172 (dk_at dksX0_alikeOf_3 14 rfl rfl)
abbrev cX0_note : ByteArray := prog_1_method_40_code
def yX0_note : MethodName := ⟨RX0, "note", "(III)I"⟩
def dkwX0_note_5 : List UInt8 := [180, 0, 138, 89, 180, 1, 51, 4, 96, 181, 1, 51, 42, 180, 0, 138, 180, 1, 51, 172]
abbrev dktX0_note_5 : List UInt8 := dkwX0_note_5 ++ []
def dkwX0_note_4 : List UInt8 := [180, 1, 54, 21, 4, 4, 96, 28, 79, 42, 180, 0, 138, 180, 1, 54, 21, 4, 5, 96, 29, 79, 42]
abbrev dktX0_note_4 : List UInt8 := dkwX0_note_4 ++ dktX0_note_5
def dkwX0_note_3 : List UInt8 := [180, 0, 138, 180, 1, 51, 104, 54, 4, 42, 180, 0, 138, 180, 1, 54, 21, 4, 27, 79, 42, 180, 0, 138]
abbrev dktX0_note_3 : List UInt8 := dkwX0_note_3 ++ dktX0_note_4
def dkwX0_note_2 : List UInt8 := [29, 182, 0, 157, 153, 0, 15, 42, 180, 0, 138, 180, 1, 51, 16, 10, 160, 0, 6, 16, 254, 172, 6, 42]
abbrev dktX0_note_2 : List UInt8 := dkwX0_note_2 ++ dktX0_note_3
def dkwX0_note_1 : List UInt8 := [9, 20, 0, 244, 184, 0, 178, 153, 0, 36, 42, 28, 182, 0, 173, 153, 0, 28, 29, 2, 159, 0, 11, 42]
abbrev dktX0_note_1 : List UInt8 := dkwX0_note_1 ++ dktX0_note_2
def dkwX0_note_0 : List UInt8 := [27, 2, 160, 0, 20, 42, 180, 0, 138, 198, 0, 11, 42, 180, 0, 138, 3, 181, 1, 51, 3, 172, 27, 133]
abbrev dktX0_note_0 : List UInt8 := dkwX0_note_0 ++ dktX0_note_1
theorem dksX0_note_0 : cX0_note.data.toList.drop 0 = dktX0_note_0 := by decide +kernel
theorem dksX0_note_1 : cX0_note.data.toList.drop 24 = dktX0_note_1 := dk_seg dksX0_note_0 24 rfl rfl
theorem dksX0_note_2 : cX0_note.data.toList.drop 48 = dktX0_note_2 := dk_seg dksX0_note_1 24 rfl rfl
theorem dksX0_note_3 : cX0_note.data.toList.drop 72 = dktX0_note_3 := dk_seg dksX0_note_2 24 rfl rfl
theorem dksX0_note_4 : cX0_note.data.toList.drop 96 = dktX0_note_4 := dk_seg dksX0_note_3 24 rfl rfl
theorem dksX0_note_5 : cX0_note.data.toList.drop 119 = dktX0_note_5 := dk_seg dksX0_note_4 23 rfl rfl
theorem dX0_note_0 : decode cX0_note 0 = .ok (.iload_n 1, 1) := dk_27 (dk_at dksX0_note_0 0 rfl rfl)
theorem dX0_note_1 : decode cX0_note 1 = .ok (.iconst (-1), 1) := dk_2 (dk_at dksX0_note_0 1 rfl rfl)
theorem dX0_note_2 : decode cX0_note 2 = .ok (.if_icmp .ne 20, 3) := dk_160 0 20 (dk_at dksX0_note_0 2 rfl rfl)
theorem dX0_note_5 : decode cX0_note 5 = .ok (.aload_n 0, 1) := dk_42 (dk_at dksX0_note_0 5 rfl rfl)
theorem dX0_note_6 : decode cX0_note 6 = .ok (.getfield 138, 3) := dk_180 0 138 (dk_at dksX0_note_0 6 rfl rfl)
theorem dX0_note_9 : decode cX0_note 9 = .ok (.ifnull 11, 3) := dk_198 0 11 (dk_at dksX0_note_0 9 rfl rfl)
theorem dX0_note_12 : decode cX0_note 12 = .ok (.aload_n 0, 1) := dk_42 (dk_at dksX0_note_0 12 rfl rfl)
theorem dX0_note_13 : decode cX0_note 13 = .ok (.getfield 138, 3) := dk_180 0 138 (dk_at dksX0_note_0 13 rfl rfl)
theorem dX0_note_16 : decode cX0_note 16 = .ok (.iconst 0, 1) := dk_3 (dk_at dksX0_note_0 16 rfl rfl)
theorem dX0_note_17 : decode cX0_note 17 = .ok (.putfield 307, 3) := dk_181 1 51 (dk_at dksX0_note_0 17 rfl rfl)
theorem dX0_note_20 : decode cX0_note 20 = .ok (.iconst 0, 1) := dk_3 (dk_at dksX0_note_0 20 rfl rfl)
theorem dX0_note_21 : decode cX0_note 21 = .ok (.ireturn, 1) := dk_172 (dk_at dksX0_note_0 21 rfl rfl)
theorem dX0_note_22 : decode cX0_note 22 = .ok (.iload_n 1, 1) := dk_27 (dk_at dksX0_note_0 22 rfl rfl)
theorem dX0_note_23 : decode cX0_note 23 = .ok (.i2l, 1) := dk_133 (dk_at dksX0_note_0 23 rfl rfl)
theorem dX0_note_24 : decode cX0_note 24 = .ok (.lconst 0, 1) := dk_9 (dk_at dksX0_note_1 0 rfl rfl)
theorem dX0_note_25 : decode cX0_note 25 = .ok (.ldc2_w 244, 3) := dk_20 0 244 (dk_at dksX0_note_1 1 rfl rfl)
theorem dX0_note_28 : decode cX0_note 28 = .ok (.invokestatic 178, 3) := dk_184 0 178 (dk_at dksX0_note_1 4 rfl rfl)
theorem dX0_note_31 : decode cX0_note 31 = .ok (.ifCond .eq 36, 3) := dk_153 0 36 (dk_at dksX0_note_1 7 rfl rfl)
theorem dX0_note_34 : decode cX0_note 34 = .ok (.aload_n 0, 1) := dk_42 (dk_at dksX0_note_1 10 rfl rfl)
theorem dX0_note_35 : decode cX0_note 35 = .ok (.iload_n 2, 1) := dk_28 (dk_at dksX0_note_1 11 rfl rfl)
theorem dX0_note_36 : decode cX0_note 36 = .ok (.invokevirtual 173, 3) := dk_182 0 173 (dk_at dksX0_note_1 12 rfl rfl)
theorem dX0_note_39 : decode cX0_note 39 = .ok (.ifCond .eq 28, 3) := dk_153 0 28 (dk_at dksX0_note_1 15 rfl rfl)
theorem dX0_note_42 : decode cX0_note 42 = .ok (.iload_n 3, 1) := dk_29 (dk_at dksX0_note_1 18 rfl rfl)
theorem dX0_note_43 : decode cX0_note 43 = .ok (.iconst (-1), 1) := dk_2 (dk_at dksX0_note_1 19 rfl rfl)
theorem dX0_note_44 : decode cX0_note 44 = .ok (.if_icmp .eq 11, 3) := dk_159 0 11 (dk_at dksX0_note_1 20 rfl rfl)
theorem dX0_note_47 : decode cX0_note 47 = .ok (.aload_n 0, 1) := dk_42 (dk_at dksX0_note_1 23 rfl rfl)
theorem dX0_note_48 : decode cX0_note 48 = .ok (.iload_n 3, 1) := dk_29 (dk_at dksX0_note_2 0 rfl rfl)
theorem dX0_note_49 : decode cX0_note 49 = .ok (.invokevirtual 157, 3) := dk_182 0 157 (dk_at dksX0_note_2 1 rfl rfl)
theorem dX0_note_52 : decode cX0_note 52 = .ok (.ifCond .eq 15, 3) := dk_153 0 15 (dk_at dksX0_note_2 4 rfl rfl)
theorem dX0_note_55 : decode cX0_note 55 = .ok (.aload_n 0, 1) := dk_42 (dk_at dksX0_note_2 7 rfl rfl)
theorem dX0_note_56 : decode cX0_note 56 = .ok (.getfield 138, 3) := dk_180 0 138 (dk_at dksX0_note_2 8 rfl rfl)
theorem dX0_note_59 : decode cX0_note 59 = .ok (.getfield 307, 3) := dk_180 1 51 (dk_at dksX0_note_2 11 rfl rfl)
theorem dX0_note_62 : decode cX0_note 62 = .ok (.bipush 10, 2) := dk_16 10 (dk_at dksX0_note_2 14 rfl rfl)
theorem dX0_note_64 : decode cX0_note 64 = .ok (.if_icmp .ne 6, 3) := dk_160 0 6 (dk_at dksX0_note_2 16 rfl rfl)
theorem dX0_note_67 : decode cX0_note 67 = .ok (.bipush (-2), 2) := dk_16 254 (dk_at dksX0_note_2 19 rfl rfl)
theorem dX0_note_69 : decode cX0_note 69 = .ok (.ireturn, 1) := dk_172 (dk_at dksX0_note_2 21 rfl rfl)
theorem dX0_note_70 : decode cX0_note 70 = .ok (.iconst 3, 1) := dk_6 (dk_at dksX0_note_2 22 rfl rfl)
theorem dX0_note_71 : decode cX0_note 71 = .ok (.aload_n 0, 1) := dk_42 (dk_at dksX0_note_2 23 rfl rfl)
theorem dX0_note_72 : decode cX0_note 72 = .ok (.getfield 138, 3) := dk_180 0 138 (dk_at dksX0_note_3 0 rfl rfl)
theorem dX0_note_75 : decode cX0_note 75 = .ok (.getfield 307, 3) := dk_180 1 51 (dk_at dksX0_note_3 3 rfl rfl)
theorem dX0_note_78 : decode cX0_note 78 = .ok (.imul, 1) := dk_104 (dk_at dksX0_note_3 6 rfl rfl)
theorem dX0_note_79 : decode cX0_note 79 = .ok (.istore 4, 2) := dk_54 4 (dk_at dksX0_note_3 7 rfl rfl)
theorem dX0_note_81 : decode cX0_note 81 = .ok (.aload_n 0, 1) := dk_42 (dk_at dksX0_note_3 9 rfl rfl)
theorem dX0_note_82 : decode cX0_note 82 = .ok (.getfield 138, 3) := dk_180 0 138 (dk_at dksX0_note_3 10 rfl rfl)
theorem dX0_note_85 : decode cX0_note 85 = .ok (.getfield 310, 3) := dk_180 1 54 (dk_at dksX0_note_3 13 rfl rfl)
theorem dX0_note_88 : decode cX0_note 88 = .ok (.iload 4, 2) := dk_21 4 (dk_at dksX0_note_3 16 rfl rfl)
theorem dX0_note_90 : decode cX0_note 90 = .ok (.iload_n 1, 1) := dk_27 (dk_at dksX0_note_3 18 rfl rfl)
theorem dX0_note_91 : decode cX0_note 91 = .ok (.iastore, 1) := dk_79 (dk_at dksX0_note_3 19 rfl rfl)
theorem dX0_note_92 : decode cX0_note 92 = .ok (.aload_n 0, 1) := dk_42 (dk_at dksX0_note_3 20 rfl rfl)
theorem dX0_note_93 : decode cX0_note 93 = .ok (.getfield 138, 3) := dk_180 0 138 (dk_at dksX0_note_3 21 rfl rfl)
theorem dX0_note_96 : decode cX0_note 96 = .ok (.getfield 310, 3) := dk_180 1 54 (dk_at dksX0_note_4 0 rfl rfl)
theorem dX0_note_99 : decode cX0_note 99 = .ok (.iload 4, 2) := dk_21 4 (dk_at dksX0_note_4 3 rfl rfl)
theorem dX0_note_101 : decode cX0_note 101 = .ok (.iconst 1, 1) := dk_4 (dk_at dksX0_note_4 5 rfl rfl)
theorem dX0_note_102 : decode cX0_note 102 = .ok (.iadd, 1) := dk_96 (dk_at dksX0_note_4 6 rfl rfl)
theorem dX0_note_103 : decode cX0_note 103 = .ok (.iload_n 2, 1) := dk_28 (dk_at dksX0_note_4 7 rfl rfl)
theorem dX0_note_104 : decode cX0_note 104 = .ok (.iastore, 1) := dk_79 (dk_at dksX0_note_4 8 rfl rfl)
theorem dX0_note_105 : decode cX0_note 105 = .ok (.aload_n 0, 1) := dk_42 (dk_at dksX0_note_4 9 rfl rfl)
theorem dX0_note_106 : decode cX0_note 106 = .ok (.getfield 138, 3) := dk_180 0 138 (dk_at dksX0_note_4 10 rfl rfl)
theorem dX0_note_109 : decode cX0_note 109 = .ok (.getfield 310, 3) := dk_180 1 54 (dk_at dksX0_note_4 13 rfl rfl)
theorem dX0_note_112 : decode cX0_note 112 = .ok (.iload 4, 2) := dk_21 4 (dk_at dksX0_note_4 16 rfl rfl)
theorem dX0_note_114 : decode cX0_note 114 = .ok (.iconst 2, 1) := dk_5 (dk_at dksX0_note_4 18 rfl rfl)
theorem dX0_note_115 : decode cX0_note 115 = .ok (.iadd, 1) := dk_96 (dk_at dksX0_note_4 19 rfl rfl)
theorem dX0_note_116 : decode cX0_note 116 = .ok (.iload_n 3, 1) := dk_29 (dk_at dksX0_note_4 20 rfl rfl)
theorem dX0_note_117 : decode cX0_note 117 = .ok (.iastore, 1) := dk_79 (dk_at dksX0_note_4 21 rfl rfl)
theorem dX0_note_118 : decode cX0_note 118 = .ok (.aload_n 0, 1) := dk_42 (dk_at dksX0_note_4 22 rfl rfl)
theorem dX0_note_119 : decode cX0_note 119 = .ok (.getfield 138, 3) := dk_180 0 138 (dk_at dksX0_note_5 0 rfl rfl)
theorem dX0_note_122 : decode cX0_note 122 = .ok (.dup, 1) := dk_89 (dk_at dksX0_note_5 3 rfl rfl)
theorem dX0_note_123 : decode cX0_note 123 = .ok (.getfield 307, 3) := dk_180 1 51 (dk_at dksX0_note_5 4 rfl rfl)
theorem dX0_note_126 : decode cX0_note 126 = .ok (.iconst 1, 1) := dk_4 (dk_at dksX0_note_5 7 rfl rfl)
theorem dX0_note_127 : decode cX0_note 127 = .ok (.iadd, 1) := dk_96 (dk_at dksX0_note_5 8 rfl rfl)
theorem dX0_note_128 : decode cX0_note 128 = .ok (.putfield 307, 3) := dk_181 1 51 (dk_at dksX0_note_5 9 rfl rfl)
theorem dX0_note_131 : decode cX0_note 131 = .ok (.aload_n 0, 1) := dk_42 (dk_at dksX0_note_5 12 rfl rfl)
theorem dX0_note_132 : decode cX0_note 132 = .ok (.getfield 138, 3) := dk_180 0 138 (dk_at dksX0_note_5 13 rfl rfl)
theorem dX0_note_135 : decode cX0_note 135 = .ok (.getfield 307, 3) := dk_180 1 51 (dk_at dksX0_note_5 16 rfl rfl)
theorem dX0_note_138 : decode cX0_note 138 = .ok (.ireturn, 1) := dk_172 (dk_at dksX0_note_5 19 rfl rfl)
abbrev cX0_ruled : ByteArray := prog_1_method_43_code
def yX0_ruled : MethodName := ⟨RX0, "ruled", "(I)I"⟩
def dkwX0_ruled_3 : List UInt8 := [154, 0, 7, 28, 167, 0, 4, 29, 172]
abbrev dktX0_ruled_3 : List UInt8 := dkwX0_ruled_3 ++ []
def dkwX0_ruled_2 : List UInt8 := [21, 4, 51, 154, 0, 6, 167, 0, 11, 132, 2, 1, 21, 4, 4, 100, 62, 132, 4, 255, 167, 255, 227, 27]
abbrev dktX0_ruled_2 : List UInt8 := dkwX0_ruled_2 ++ dktX0_ruled_3
def dkwX0_ruled_1 : List UInt8 := [182, 1, 63, 3, 61, 16, 254, 62, 42, 180, 0, 147, 54, 4, 21, 4, 155, 0, 30, 42, 180, 0, 99]
abbrev dktX0_ruled_1 : List UInt8 := dkwX0_ruled_1 ++ dktX0_ruled_2
def dkwX0_ruled_0 : List UInt8 := [42, 180, 0, 138, 198, 0, 13, 27, 133, 9, 10, 184, 0, 178, 154, 0, 6, 16, 253, 172, 42, 3]
abbrev dktX0_ruled_0 : List UInt8 := dkwX0_ruled_0 ++ dktX0_ruled_1
theorem dksX0_ruled_0 : cX0_ruled.data.toList.drop 0 = dktX0_ruled_0 := by decide +kernel
theorem dksX0_ruled_1 : cX0_ruled.data.toList.drop 22 = dktX0_ruled_1 := dk_seg dksX0_ruled_0 22 rfl rfl
theorem dksX0_ruled_2 : cX0_ruled.data.toList.drop 45 = dktX0_ruled_2 := dk_seg dksX0_ruled_1 23 rfl rfl
theorem dksX0_ruled_3 : cX0_ruled.data.toList.drop 69 = dktX0_ruled_3 := dk_seg dksX0_ruled_2 24 rfl rfl
theorem dX0_ruled_0 : decode cX0_ruled 0 = .ok (.aload_n 0, 1) := dk_42 (dk_at dksX0_ruled_0 0 rfl rfl)
theorem dX0_ruled_1 : decode cX0_ruled 1 = .ok (.getfield 138, 3) := dk_180 0 138 (dk_at dksX0_ruled_0 1 rfl rfl)
theorem dX0_ruled_4 : decode cX0_ruled 4 = .ok (.ifnull 13, 3) := dk_198 0 13 (dk_at dksX0_ruled_0 4 rfl rfl)
theorem dX0_ruled_7 : decode cX0_ruled 7 = .ok (.iload_n 1, 1) := dk_27 (dk_at dksX0_ruled_0 7 rfl rfl)
theorem dX0_ruled_8 : decode cX0_ruled 8 = .ok (.i2l, 1) := dk_133 (dk_at dksX0_ruled_0 8 rfl rfl)
theorem dX0_ruled_9 : decode cX0_ruled 9 = .ok (.lconst 0, 1) := dk_9 (dk_at dksX0_ruled_0 9 rfl rfl)
theorem dX0_ruled_10 : decode cX0_ruled 10 = .ok (.lconst 1, 1) := dk_10 (dk_at dksX0_ruled_0 10 rfl rfl)
theorem dX0_ruled_11 : decode cX0_ruled 11 = .ok (.invokestatic 178, 3) := dk_184 0 178 (dk_at dksX0_ruled_0 11 rfl rfl)
theorem dX0_ruled_14 : decode cX0_ruled 14 = .ok (.ifCond .ne 6, 3) := dk_154 0 6 (dk_at dksX0_ruled_0 14 rfl rfl)
theorem dX0_ruled_17 : decode cX0_ruled 17 = .ok (.bipush (-3), 2) := dk_16 253 (dk_at dksX0_ruled_0 17 rfl rfl)
theorem dX0_ruled_19 : decode cX0_ruled 19 = .ok (.ireturn, 1) := dk_172 (dk_at dksX0_ruled_0 19 rfl rfl)
theorem dX0_ruled_20 : decode cX0_ruled 20 = .ok (.aload_n 0, 1) := dk_42 (dk_at dksX0_ruled_0 20 rfl rfl)
theorem dX0_ruled_21 : decode cX0_ruled 21 = .ok (.iconst 0, 1) := dk_3 (dk_at dksX0_ruled_0 21 rfl rfl)
theorem dX0_ruled_22 : decode cX0_ruled 22 = .ok (.invokevirtual 319, 3) := dk_182 1 63 (dk_at dksX0_ruled_1 0 rfl rfl)
theorem dX0_ruled_25 : decode cX0_ruled 25 = .ok (.iconst 0, 1) := dk_3 (dk_at dksX0_ruled_1 3 rfl rfl)
theorem dX0_ruled_26 : decode cX0_ruled 26 = .ok (.istore_n 2, 1) := dk_61 (dk_at dksX0_ruled_1 4 rfl rfl)
theorem dX0_ruled_27 : decode cX0_ruled 27 = .ok (.bipush (-2), 2) := dk_16 254 (dk_at dksX0_ruled_1 5 rfl rfl)
theorem dX0_ruled_29 : decode cX0_ruled 29 = .ok (.istore_n 3, 1) := dk_62 (dk_at dksX0_ruled_1 7 rfl rfl)
theorem dX0_ruled_30 : decode cX0_ruled 30 = .ok (.aload_n 0, 1) := dk_42 (dk_at dksX0_ruled_1 8 rfl rfl)
theorem dX0_ruled_31 : decode cX0_ruled 31 = .ok (.getfield 147, 3) := dk_180 0 147 (dk_at dksX0_ruled_1 9 rfl rfl)
theorem dX0_ruled_34 : decode cX0_ruled 34 = .ok (.istore 4, 2) := dk_54 4 (dk_at dksX0_ruled_1 12 rfl rfl)
theorem dX0_ruled_36 : decode cX0_ruled 36 = .ok (.iload 4, 2) := dk_21 4 (dk_at dksX0_ruled_1 14 rfl rfl)
theorem dX0_ruled_38 : decode cX0_ruled 38 = .ok (.ifCond .lt 30, 3) := dk_155 0 30 (dk_at dksX0_ruled_1 16 rfl rfl)
theorem dX0_ruled_41 : decode cX0_ruled 41 = .ok (.aload_n 0, 1) := dk_42 (dk_at dksX0_ruled_1 19 rfl rfl)
theorem dX0_ruled_42 : decode cX0_ruled 42 = .ok (.getfield 99, 3) := dk_180 0 99 (dk_at dksX0_ruled_1 20 rfl rfl)
theorem dX0_ruled_45 : decode cX0_ruled 45 = .ok (.iload 4, 2) := dk_21 4 (dk_at dksX0_ruled_2 0 rfl rfl)
theorem dX0_ruled_47 : decode cX0_ruled 47 = .ok (.baload, 1) := dk_51 (dk_at dksX0_ruled_2 2 rfl rfl)
theorem dX0_ruled_48 : decode cX0_ruled 48 = .ok (.ifCond .ne 6, 3) := dk_154 0 6 (dk_at dksX0_ruled_2 3 rfl rfl)
theorem dX0_ruled_51 : decode cX0_ruled 51 = .ok (.goto 11, 3) := dk_167 0 11 (dk_at dksX0_ruled_2 6 rfl rfl)
theorem dX0_ruled_54 : decode cX0_ruled 54 = .ok (.iinc 2 1, 3) := dk_132 2 1 (dk_at dksX0_ruled_2 9 rfl rfl)
theorem dX0_ruled_57 : decode cX0_ruled 57 = .ok (.iload 4, 2) := dk_21 4 (dk_at dksX0_ruled_2 12 rfl rfl)
theorem dX0_ruled_59 : decode cX0_ruled 59 = .ok (.iconst 1, 1) := dk_4 (dk_at dksX0_ruled_2 14 rfl rfl)
theorem dX0_ruled_60 : decode cX0_ruled 60 = .ok (.isub, 1) := dk_100 (dk_at dksX0_ruled_2 15 rfl rfl)
theorem dX0_ruled_61 : decode cX0_ruled 61 = .ok (.istore_n 3, 1) := dk_62 (dk_at dksX0_ruled_2 16 rfl rfl)
theorem dX0_ruled_62 : decode cX0_ruled 62 = .ok (.iinc 4 (-1), 3) := dk_132 4 255 (dk_at dksX0_ruled_2 17 rfl rfl)
theorem dX0_ruled_65 : decode cX0_ruled 65 = .ok (.goto (-29), 3) := dk_167 255 227 (dk_at dksX0_ruled_2 20 rfl rfl)
theorem dX0_ruled_68 : decode cX0_ruled 68 = .ok (.iload_n 1, 1) := dk_27 (dk_at dksX0_ruled_2 23 rfl rfl)
theorem dX0_ruled_69 : decode cX0_ruled 69 = .ok (.ifCond .ne 7, 3) := dk_154 0 7 (dk_at dksX0_ruled_3 0 rfl rfl)
theorem dX0_ruled_72 : decode cX0_ruled 72 = .ok (.iload_n 2, 1) := dk_28 (dk_at dksX0_ruled_3 3 rfl rfl)
theorem dX0_ruled_73 : decode cX0_ruled 73 = .ok (.goto 4, 3) := dk_167 0 4 (dk_at dksX0_ruled_3 4 rfl rfl)
theorem dX0_ruled_76 : decode cX0_ruled 76 = .ok (.iload_n 3, 1) := dk_29 (dk_at dksX0_ruled_3 7 rfl rfl)
theorem dX0_ruled_77 : decode cX0_ruled 77 = .ok (.ireturn, 1) := dk_172 (dk_at dksX0_ruled_3 8 rfl rfl)
abbrev cX0_gathersRules : ByteArray := prog_1_method_42_code
def yX0_gathersRules : MethodName := ⟨RX0, "gathersRules", "(I)V"⟩
def dkwX0_gathersRules_4 : List UInt8 := [182, 1, 44, 182, 0, 217, 87, 132, 3, 1, 167, 255, 194, 132, 2, 1, 167, 255, 164, 177]
abbrev dktX0_gathersRules_4 : List UInt8 := dkwX0_gathersRules_4 ++ []
def dkwX0_gathersRules_3 : List UInt8 := [180, 0, 182, 3, 42, 180, 0, 103, 16, 36, 28, 104, 16, 36, 184, 0, 196, 42, 180, 0, 16, 42, 28]
abbrev dktX0_gathersRules_3 : List UInt8 := dkwX0_gathersRules_3 ++ dktX0_gathersRules_4
def dkwX0_gathersRules_2 : List UInt8 := [180, 0, 99, 28, 92, 51, 42, 29, 182, 1, 60, 126, 84, 29, 27, 160, 0, 24, 42, 180, 0, 16]
abbrev dktX0_gathersRules_2 : List UInt8 := dkwX0_gathersRules_2 ++ dktX0_gathersRules_3
def dkwX0_gathersRules_1 : List UInt8 := [180, 0, 16, 182, 1, 57, 42, 180, 0, 99, 28, 4, 84, 3, 62, 29, 16, 60, 163, 0, 62, 42]
abbrev dktX0_gathersRules_1 : List UInt8 := dkwX0_gathersRules_1 ++ dktX0_gathersRules_2
def dkwX0_gathersRules_0 : List UInt8 := [42, 180, 0, 16, 42, 180, 0, 138, 182, 0, 134, 87, 3, 61, 28, 42, 180, 0, 147, 163, 0, 90, 42]
abbrev dktX0_gathersRules_0 : List UInt8 := dkwX0_gathersRules_0 ++ dktX0_gathersRules_1
theorem dksX0_gathersRules_0 : cX0_gathersRules.data.toList.drop 0 = dktX0_gathersRules_0 := by decide +kernel
theorem dksX0_gathersRules_1 : cX0_gathersRules.data.toList.drop 23 = dktX0_gathersRules_1 := dk_seg dksX0_gathersRules_0 23 rfl rfl
theorem dksX0_gathersRules_2 : cX0_gathersRules.data.toList.drop 45 = dktX0_gathersRules_2 := dk_seg dksX0_gathersRules_1 22 rfl rfl
theorem dksX0_gathersRules_3 : cX0_gathersRules.data.toList.drop 67 = dktX0_gathersRules_3 := dk_seg dksX0_gathersRules_2 22 rfl rfl
theorem dksX0_gathersRules_4 : cX0_gathersRules.data.toList.drop 90 = dktX0_gathersRules_4 := dk_seg dksX0_gathersRules_3 23 rfl rfl
theorem dX0_gathersRules_0 : decode cX0_gathersRules 0 = .ok (.aload_n 0, 1) := dk_42 (dk_at dksX0_gathersRules_0 0 rfl rfl)
theorem dX0_gathersRules_1 : decode cX0_gathersRules 1 = .ok (.getfield 16, 3) := dk_180 0 16 (dk_at dksX0_gathersRules_0 1 rfl rfl)
theorem dX0_gathersRules_4 : decode cX0_gathersRules 4 = .ok (.aload_n 0, 1) := dk_42 (dk_at dksX0_gathersRules_0 4 rfl rfl)
theorem dX0_gathersRules_5 : decode cX0_gathersRules 5 = .ok (.getfield 138, 3) := dk_180 0 138 (dk_at dksX0_gathersRules_0 5 rfl rfl)
theorem dX0_gathersRules_8 : decode cX0_gathersRules 8 = .ok (.invokevirtual 134, 3) := dk_182 0 134 (dk_at dksX0_gathersRules_0 8 rfl rfl)
theorem dX0_gathersRules_11 : decode cX0_gathersRules 11 = .ok (.pop, 1) := dk_87 (dk_at dksX0_gathersRules_0 11 rfl rfl)
theorem dX0_gathersRules_12 : decode cX0_gathersRules 12 = .ok (.iconst 0, 1) := dk_3 (dk_at dksX0_gathersRules_0 12 rfl rfl)
theorem dX0_gathersRules_13 : decode cX0_gathersRules 13 = .ok (.istore_n 2, 1) := dk_61 (dk_at dksX0_gathersRules_0 13 rfl rfl)
theorem dX0_gathersRules_14 : decode cX0_gathersRules 14 = .ok (.iload_n 2, 1) := dk_28 (dk_at dksX0_gathersRules_0 14 rfl rfl)
theorem dX0_gathersRules_15 : decode cX0_gathersRules 15 = .ok (.aload_n 0, 1) := dk_42 (dk_at dksX0_gathersRules_0 15 rfl rfl)
theorem dX0_gathersRules_16 : decode cX0_gathersRules 16 = .ok (.getfield 147, 3) := dk_180 0 147 (dk_at dksX0_gathersRules_0 16 rfl rfl)
theorem dX0_gathersRules_19 : decode cX0_gathersRules 19 = .ok (.if_icmp .gt 90, 3) := dk_163 0 90 (dk_at dksX0_gathersRules_0 19 rfl rfl)
theorem dX0_gathersRules_22 : decode cX0_gathersRules 22 = .ok (.aload_n 0, 1) := dk_42 (dk_at dksX0_gathersRules_0 22 rfl rfl)
theorem dX0_gathersRules_23 : decode cX0_gathersRules 23 = .ok (.getfield 16, 3) := dk_180 0 16 (dk_at dksX0_gathersRules_1 0 rfl rfl)
theorem dX0_gathersRules_26 : decode cX0_gathersRules 26 = .ok (.invokevirtual 313, 3) := dk_182 1 57 (dk_at dksX0_gathersRules_1 3 rfl rfl)
theorem dX0_gathersRules_29 : decode cX0_gathersRules 29 = .ok (.aload_n 0, 1) := dk_42 (dk_at dksX0_gathersRules_1 6 rfl rfl)
theorem dX0_gathersRules_30 : decode cX0_gathersRules 30 = .ok (.getfield 99, 3) := dk_180 0 99 (dk_at dksX0_gathersRules_1 7 rfl rfl)
theorem dX0_gathersRules_33 : decode cX0_gathersRules 33 = .ok (.iload_n 2, 1) := dk_28 (dk_at dksX0_gathersRules_1 10 rfl rfl)
theorem dX0_gathersRules_34 : decode cX0_gathersRules 34 = .ok (.iconst 1, 1) := dk_4 (dk_at dksX0_gathersRules_1 11 rfl rfl)
theorem dX0_gathersRules_35 : decode cX0_gathersRules 35 = .ok (.bastore, 1) := dk_84 (dk_at dksX0_gathersRules_1 12 rfl rfl)
theorem dX0_gathersRules_36 : decode cX0_gathersRules 36 = .ok (.iconst 0, 1) := dk_3 (dk_at dksX0_gathersRules_1 13 rfl rfl)
theorem dX0_gathersRules_37 : decode cX0_gathersRules 37 = .ok (.istore_n 3, 1) := dk_62 (dk_at dksX0_gathersRules_1 14 rfl rfl)
theorem dX0_gathersRules_38 : decode cX0_gathersRules 38 = .ok (.iload_n 3, 1) := dk_29 (dk_at dksX0_gathersRules_1 15 rfl rfl)
theorem dX0_gathersRules_39 : decode cX0_gathersRules 39 = .ok (.bipush 60, 2) := dk_16 60 (dk_at dksX0_gathersRules_1 16 rfl rfl)
theorem dX0_gathersRules_41 : decode cX0_gathersRules 41 = .ok (.if_icmp .gt 62, 3) := dk_163 0 62 (dk_at dksX0_gathersRules_1 18 rfl rfl)
theorem dX0_gathersRules_44 : decode cX0_gathersRules 44 = .ok (.aload_n 0, 1) := dk_42 (dk_at dksX0_gathersRules_1 21 rfl rfl)
theorem dX0_gathersRules_45 : decode cX0_gathersRules 45 = .ok (.getfield 99, 3) := dk_180 0 99 (dk_at dksX0_gathersRules_2 0 rfl rfl)
theorem dX0_gathersRules_48 : decode cX0_gathersRules 48 = .ok (.iload_n 2, 1) := dk_28 (dk_at dksX0_gathersRules_2 3 rfl rfl)
theorem dX0_gathersRules_49 : decode cX0_gathersRules 49 = .ok (.dup2, 1) := dk_92 (dk_at dksX0_gathersRules_2 4 rfl rfl)
theorem dX0_gathersRules_50 : decode cX0_gathersRules 50 = .ok (.baload, 1) := dk_51 (dk_at dksX0_gathersRules_2 5 rfl rfl)
theorem dX0_gathersRules_51 : decode cX0_gathersRules 51 = .ok (.aload_n 0, 1) := dk_42 (dk_at dksX0_gathersRules_2 6 rfl rfl)
theorem dX0_gathersRules_52 : decode cX0_gathersRules 52 = .ok (.iload_n 3, 1) := dk_29 (dk_at dksX0_gathersRules_2 7 rfl rfl)
theorem dX0_gathersRules_53 : decode cX0_gathersRules 53 = .ok (.invokevirtual 316, 3) := dk_182 1 60 (dk_at dksX0_gathersRules_2 8 rfl rfl)
theorem dX0_gathersRules_56 : decode cX0_gathersRules 56 = .ok (.iand, 1) := dk_126 (dk_at dksX0_gathersRules_2 11 rfl rfl)
theorem dX0_gathersRules_57 : decode cX0_gathersRules 57 = .ok (.bastore, 1) := dk_84 (dk_at dksX0_gathersRules_2 12 rfl rfl)
theorem dX0_gathersRules_58 : decode cX0_gathersRules 58 = .ok (.iload_n 3, 1) := dk_29 (dk_at dksX0_gathersRules_2 13 rfl rfl)
theorem dX0_gathersRules_59 : decode cX0_gathersRules 59 = .ok (.iload_n 1, 1) := dk_27 (dk_at dksX0_gathersRules_2 14 rfl rfl)
theorem dX0_gathersRules_60 : decode cX0_gathersRules 60 = .ok (.if_icmp .ne 24, 3) := dk_160 0 24 (dk_at dksX0_gathersRules_2 15 rfl rfl)
theorem dX0_gathersRules_63 : decode cX0_gathersRules 63 = .ok (.aload_n 0, 1) := dk_42 (dk_at dksX0_gathersRules_2 18 rfl rfl)
theorem dX0_gathersRules_64 : decode cX0_gathersRules 64 = .ok (.getfield 16, 3) := dk_180 0 16 (dk_at dksX0_gathersRules_2 19 rfl rfl)
theorem dX0_gathersRules_67 : decode cX0_gathersRules 67 = .ok (.getfield 182, 3) := dk_180 0 182 (dk_at dksX0_gathersRules_3 0 rfl rfl)
theorem dX0_gathersRules_70 : decode cX0_gathersRules 70 = .ok (.iconst 0, 1) := dk_3 (dk_at dksX0_gathersRules_3 3 rfl rfl)
theorem dX0_gathersRules_71 : decode cX0_gathersRules 71 = .ok (.aload_n 0, 1) := dk_42 (dk_at dksX0_gathersRules_3 4 rfl rfl)
theorem dX0_gathersRules_72 : decode cX0_gathersRules 72 = .ok (.getfield 103, 3) := dk_180 0 103 (dk_at dksX0_gathersRules_3 5 rfl rfl)
theorem dX0_gathersRules_75 : decode cX0_gathersRules 75 = .ok (.bipush 36, 2) := dk_16 36 (dk_at dksX0_gathersRules_3 8 rfl rfl)
theorem dX0_gathersRules_77 : decode cX0_gathersRules 77 = .ok (.iload_n 2, 1) := dk_28 (dk_at dksX0_gathersRules_3 10 rfl rfl)
theorem dX0_gathersRules_78 : decode cX0_gathersRules 78 = .ok (.imul, 1) := dk_104 (dk_at dksX0_gathersRules_3 11 rfl rfl)
theorem dX0_gathersRules_79 : decode cX0_gathersRules 79 = .ok (.bipush 36, 2) := dk_16 36 (dk_at dksX0_gathersRules_3 12 rfl rfl)
theorem dX0_gathersRules_81 : decode cX0_gathersRules 81 = .ok (.invokestatic 196, 3) := dk_184 0 196 (dk_at dksX0_gathersRules_3 14 rfl rfl)
theorem dX0_gathersRules_84 : decode cX0_gathersRules 84 = .ok (.aload_n 0, 1) := dk_42 (dk_at dksX0_gathersRules_3 17 rfl rfl)
theorem dX0_gathersRules_85 : decode cX0_gathersRules 85 = .ok (.getfield 16, 3) := dk_180 0 16 (dk_at dksX0_gathersRules_3 18 rfl rfl)
theorem dX0_gathersRules_88 : decode cX0_gathersRules 88 = .ok (.aload_n 0, 1) := dk_42 (dk_at dksX0_gathersRules_3 21 rfl rfl)
theorem dX0_gathersRules_89 : decode cX0_gathersRules 89 = .ok (.iload_n 2, 1) := dk_28 (dk_at dksX0_gathersRules_3 22 rfl rfl)
theorem dX0_gathersRules_90 : decode cX0_gathersRules 90 = .ok (.invokevirtual 300, 3) := dk_182 1 44 (dk_at dksX0_gathersRules_4 0 rfl rfl)
theorem dX0_gathersRules_93 : decode cX0_gathersRules 93 = .ok (.invokevirtual 217, 3) := dk_182 0 217 (dk_at dksX0_gathersRules_4 3 rfl rfl)
theorem dX0_gathersRules_96 : decode cX0_gathersRules 96 = .ok (.pop, 1) := dk_87 (dk_at dksX0_gathersRules_4 6 rfl rfl)
theorem dX0_gathersRules_97 : decode cX0_gathersRules 97 = .ok (.iinc 3 1, 3) := dk_132 3 1 (dk_at dksX0_gathersRules_4 7 rfl rfl)
theorem dX0_gathersRules_100 : decode cX0_gathersRules 100 = .ok (.goto (-62), 3) := dk_167 255 194 (dk_at dksX0_gathersRules_4 10 rfl rfl)
theorem dX0_gathersRules_103 : decode cX0_gathersRules 103 = .ok (.iinc 2 1, 3) := dk_132 2 1 (dk_at dksX0_gathersRules_4 13 rfl rfl)
theorem dX0_gathersRules_106 : decode cX0_gathersRules 106 = .ok (.goto (-92), 3) := dk_167 255 164 (dk_at dksX0_gathersRules_4 16 rfl rfl)
theorem dX0_gathersRules_109 : decode cX0_gathersRules 109 = .ok (.return_, 1) := dk_177 (dk_at dksX0_gathersRules_4 19 rfl rfl)
abbrev cX0_areNotesSo : ByteArray := prog_1_method_41_code
def yX0_areNotesSo : MethodName := ⟨RX0, "areNotesSo", "(I)Z"⟩
def dkwX0_areNotesSo_2 : List UInt8 := [180, 0, 138, 180, 1, 54, 28, 5, 96, 46, 159, 0, 5, 3, 172, 132, 2, 3, 167, 255, 192, 4, 172]
abbrev dktX0_areNotesSo_2 : List UInt8 := dkwX0_areNotesSo_2 ++ []
def dkwX0_areNotesSo_1 : List UInt8 := [27, 160, 0, 38, 42, 180, 0, 16, 180, 0, 182, 42, 180, 0, 138, 180, 1, 54, 28, 4, 96, 46, 46, 42]
abbrev dktX0_areNotesSo_1 : List UInt8 := dkwX0_areNotesSo_1 ++ dktX0_areNotesSo_2
def dkwX0_areNotesSo_0 : List UInt8 := [3, 61, 28, 6, 42, 180, 0, 138, 180, 1, 51, 104, 162, 0, 57, 42, 180, 0, 138, 180, 1, 54, 28, 46]
abbrev dktX0_areNotesSo_0 : List UInt8 := dkwX0_areNotesSo_0 ++ dktX0_areNotesSo_1
theorem dksX0_areNotesSo_0 : cX0_areNotesSo.data.toList.drop 0 = dktX0_areNotesSo_0 := by decide +kernel
theorem dksX0_areNotesSo_1 : cX0_areNotesSo.data.toList.drop 24 = dktX0_areNotesSo_1 := dk_seg dksX0_areNotesSo_0 24 rfl rfl
theorem dksX0_areNotesSo_2 : cX0_areNotesSo.data.toList.drop 48 = dktX0_areNotesSo_2 := dk_seg dksX0_areNotesSo_1 24 rfl rfl
theorem dX0_areNotesSo_0 : decode cX0_areNotesSo 0 = .ok (.iconst 0, 1) := dk_3 (dk_at dksX0_areNotesSo_0 0 rfl rfl)
theorem dX0_areNotesSo_1 : decode cX0_areNotesSo 1 = .ok (.istore_n 2, 1) := dk_61 (dk_at dksX0_areNotesSo_0 1 rfl rfl)
theorem dX0_areNotesSo_2 : decode cX0_areNotesSo 2 = .ok (.iload_n 2, 1) := dk_28 (dk_at dksX0_areNotesSo_0 2 rfl rfl)
theorem dX0_areNotesSo_3 : decode cX0_areNotesSo 3 = .ok (.iconst 3, 1) := dk_6 (dk_at dksX0_areNotesSo_0 3 rfl rfl)
theorem dX0_areNotesSo_4 : decode cX0_areNotesSo 4 = .ok (.aload_n 0, 1) := dk_42 (dk_at dksX0_areNotesSo_0 4 rfl rfl)
theorem dX0_areNotesSo_5 : decode cX0_areNotesSo 5 = .ok (.getfield 138, 3) := dk_180 0 138 (dk_at dksX0_areNotesSo_0 5 rfl rfl)
theorem dX0_areNotesSo_8 : decode cX0_areNotesSo 8 = .ok (.getfield 307, 3) := dk_180 1 51 (dk_at dksX0_areNotesSo_0 8 rfl rfl)
theorem dX0_areNotesSo_11 : decode cX0_areNotesSo 11 = .ok (.imul, 1) := dk_104 (dk_at dksX0_areNotesSo_0 11 rfl rfl)
theorem dX0_areNotesSo_12 : decode cX0_areNotesSo 12 = .ok (.if_icmp .ge 57, 3) := dk_162 0 57 (dk_at dksX0_areNotesSo_0 12 rfl rfl)
theorem dX0_areNotesSo_15 : decode cX0_areNotesSo 15 = .ok (.aload_n 0, 1) := dk_42 (dk_at dksX0_areNotesSo_0 15 rfl rfl)
theorem dX0_areNotesSo_16 : decode cX0_areNotesSo 16 = .ok (.getfield 138, 3) := dk_180 0 138 (dk_at dksX0_areNotesSo_0 16 rfl rfl)
theorem dX0_areNotesSo_19 : decode cX0_areNotesSo 19 = .ok (.getfield 310, 3) := dk_180 1 54 (dk_at dksX0_areNotesSo_0 19 rfl rfl)
theorem dX0_areNotesSo_22 : decode cX0_areNotesSo 22 = .ok (.iload_n 2, 1) := dk_28 (dk_at dksX0_areNotesSo_0 22 rfl rfl)
theorem dX0_areNotesSo_23 : decode cX0_areNotesSo 23 = .ok (.iaload, 1) := dk_46 (dk_at dksX0_areNotesSo_0 23 rfl rfl)
theorem dX0_areNotesSo_24 : decode cX0_areNotesSo 24 = .ok (.iload_n 1, 1) := dk_27 (dk_at dksX0_areNotesSo_1 0 rfl rfl)
theorem dX0_areNotesSo_25 : decode cX0_areNotesSo 25 = .ok (.if_icmp .ne 38, 3) := dk_160 0 38 (dk_at dksX0_areNotesSo_1 1 rfl rfl)
theorem dX0_areNotesSo_28 : decode cX0_areNotesSo 28 = .ok (.aload_n 0, 1) := dk_42 (dk_at dksX0_areNotesSo_1 4 rfl rfl)
theorem dX0_areNotesSo_29 : decode cX0_areNotesSo 29 = .ok (.getfield 16, 3) := dk_180 0 16 (dk_at dksX0_areNotesSo_1 5 rfl rfl)
theorem dX0_areNotesSo_32 : decode cX0_areNotesSo 32 = .ok (.getfield 182, 3) := dk_180 0 182 (dk_at dksX0_areNotesSo_1 8 rfl rfl)
theorem dX0_areNotesSo_35 : decode cX0_areNotesSo 35 = .ok (.aload_n 0, 1) := dk_42 (dk_at dksX0_areNotesSo_1 11 rfl rfl)
theorem dX0_areNotesSo_36 : decode cX0_areNotesSo 36 = .ok (.getfield 138, 3) := dk_180 0 138 (dk_at dksX0_areNotesSo_1 12 rfl rfl)
theorem dX0_areNotesSo_39 : decode cX0_areNotesSo 39 = .ok (.getfield 310, 3) := dk_180 1 54 (dk_at dksX0_areNotesSo_1 15 rfl rfl)
theorem dX0_areNotesSo_42 : decode cX0_areNotesSo 42 = .ok (.iload_n 2, 1) := dk_28 (dk_at dksX0_areNotesSo_1 18 rfl rfl)
theorem dX0_areNotesSo_43 : decode cX0_areNotesSo 43 = .ok (.iconst 1, 1) := dk_4 (dk_at dksX0_areNotesSo_1 19 rfl rfl)
theorem dX0_areNotesSo_44 : decode cX0_areNotesSo 44 = .ok (.iadd, 1) := dk_96 (dk_at dksX0_areNotesSo_1 20 rfl rfl)
theorem dX0_areNotesSo_45 : decode cX0_areNotesSo 45 = .ok (.iaload, 1) := dk_46 (dk_at dksX0_areNotesSo_1 21 rfl rfl)
theorem dX0_areNotesSo_46 : decode cX0_areNotesSo 46 = .ok (.iaload, 1) := dk_46 (dk_at dksX0_areNotesSo_1 22 rfl rfl)
theorem dX0_areNotesSo_47 : decode cX0_areNotesSo 47 = .ok (.aload_n 0, 1) := dk_42 (dk_at dksX0_areNotesSo_1 23 rfl rfl)
theorem dX0_areNotesSo_48 : decode cX0_areNotesSo 48 = .ok (.getfield 138, 3) := dk_180 0 138 (dk_at dksX0_areNotesSo_2 0 rfl rfl)
theorem dX0_areNotesSo_51 : decode cX0_areNotesSo 51 = .ok (.getfield 310, 3) := dk_180 1 54 (dk_at dksX0_areNotesSo_2 3 rfl rfl)
theorem dX0_areNotesSo_54 : decode cX0_areNotesSo 54 = .ok (.iload_n 2, 1) := dk_28 (dk_at dksX0_areNotesSo_2 6 rfl rfl)
theorem dX0_areNotesSo_55 : decode cX0_areNotesSo 55 = .ok (.iconst 2, 1) := dk_5 (dk_at dksX0_areNotesSo_2 7 rfl rfl)
theorem dX0_areNotesSo_56 : decode cX0_areNotesSo 56 = .ok (.iadd, 1) := dk_96 (dk_at dksX0_areNotesSo_2 8 rfl rfl)
theorem dX0_areNotesSo_57 : decode cX0_areNotesSo 57 = .ok (.iaload, 1) := dk_46 (dk_at dksX0_areNotesSo_2 9 rfl rfl)
theorem dX0_areNotesSo_58 : decode cX0_areNotesSo 58 = .ok (.if_icmp .eq 5, 3) := dk_159 0 5 (dk_at dksX0_areNotesSo_2 10 rfl rfl)
theorem dX0_areNotesSo_61 : decode cX0_areNotesSo 61 = .ok (.iconst 0, 1) := dk_3 (dk_at dksX0_areNotesSo_2 13 rfl rfl)
theorem dX0_areNotesSo_62 : decode cX0_areNotesSo 62 = .ok (.ireturn, 1) := dk_172 (dk_at dksX0_areNotesSo_2 14 rfl rfl)
theorem dX0_areNotesSo_63 : decode cX0_areNotesSo 63 = .ok (.iinc 2 3, 3) := dk_132 2 3 (dk_at dksX0_areNotesSo_2 15 rfl rfl)
theorem dX0_areNotesSo_66 : decode cX0_areNotesSo 66 = .ok (.goto (-64), 3) := dk_167 255 192 (dk_at dksX0_areNotesSo_2 18 rfl rfl)
theorem dX0_areNotesSo_69 : decode cX0_areNotesSo 69 = .ok (.iconst 1, 1) := dk_4 (dk_at dksX0_areNotesSo_2 21 rfl rfl)
theorem dX0_areNotesSo_70 : decode cX0_areNotesSo 70 = .ok (.ireturn, 1) := dk_172 (dk_at dksX0_areNotesSo_2 22 rfl rfl)
abbrev cX0_look : ByteArray := prog_1_method_44_code
def yX0_look : MethodName := ⟨RX0, "look", "(II)I"⟩
def dkwX0_look_1 : List UInt8 := [184, 0, 178, 154, 0, 5, 2, 172, 42, 27, 182, 1, 63, 42, 28, 182, 1, 48, 172]
abbrev dktX0_look_1 : List UInt8 := dkwX0_look_1 ++ []
def dkwX0_look_0 : List UInt8 := [42, 180, 0, 138, 198, 0, 25, 27, 133, 9, 20, 0, 244, 184, 0, 178, 153, 0, 13, 28, 133, 9, 10]
abbrev dktX0_look_0 : List UInt8 := dkwX0_look_0 ++ dktX0_look_1
theorem dksX0_look_0 : cX0_look.data.toList.drop 0 = dktX0_look_0 := by decide +kernel
theorem dksX0_look_1 : cX0_look.data.toList.drop 23 = dktX0_look_1 := dk_seg dksX0_look_0 23 rfl rfl
theorem dX0_look_0 : decode cX0_look 0 = .ok (.aload_n 0, 1) := dk_42 (dk_at dksX0_look_0 0 rfl rfl)
theorem dX0_look_1 : decode cX0_look 1 = .ok (.getfield 138, 3) := dk_180 0 138 (dk_at dksX0_look_0 1 rfl rfl)
theorem dX0_look_4 : decode cX0_look 4 = .ok (.ifnull 25, 3) := dk_198 0 25 (dk_at dksX0_look_0 4 rfl rfl)
theorem dX0_look_7 : decode cX0_look 7 = .ok (.iload_n 1, 1) := dk_27 (dk_at dksX0_look_0 7 rfl rfl)
theorem dX0_look_8 : decode cX0_look 8 = .ok (.i2l, 1) := dk_133 (dk_at dksX0_look_0 8 rfl rfl)
theorem dX0_look_9 : decode cX0_look 9 = .ok (.lconst 0, 1) := dk_9 (dk_at dksX0_look_0 9 rfl rfl)
theorem dX0_look_10 : decode cX0_look 10 = .ok (.ldc2_w 244, 3) := dk_20 0 244 (dk_at dksX0_look_0 10 rfl rfl)
theorem dX0_look_13 : decode cX0_look 13 = .ok (.invokestatic 178, 3) := dk_184 0 178 (dk_at dksX0_look_0 13 rfl rfl)
theorem dX0_look_16 : decode cX0_look 16 = .ok (.ifCond .eq 13, 3) := dk_153 0 13 (dk_at dksX0_look_0 16 rfl rfl)
theorem dX0_look_19 : decode cX0_look 19 = .ok (.iload_n 2, 1) := dk_28 (dk_at dksX0_look_0 19 rfl rfl)
theorem dX0_look_20 : decode cX0_look 20 = .ok (.i2l, 1) := dk_133 (dk_at dksX0_look_0 20 rfl rfl)
theorem dX0_look_21 : decode cX0_look 21 = .ok (.lconst 0, 1) := dk_9 (dk_at dksX0_look_0 21 rfl rfl)
theorem dX0_look_22 : decode cX0_look 22 = .ok (.lconst 1, 1) := dk_10 (dk_at dksX0_look_0 22 rfl rfl)
theorem dX0_look_23 : decode cX0_look 23 = .ok (.invokestatic 178, 3) := dk_184 0 178 (dk_at dksX0_look_1 0 rfl rfl)
theorem dX0_look_26 : decode cX0_look 26 = .ok (.ifCond .ne 5, 3) := dk_154 0 5 (dk_at dksX0_look_1 3 rfl rfl)
theorem dX0_look_29 : decode cX0_look 29 = .ok (.iconst (-1), 1) := dk_2 (dk_at dksX0_look_1 6 rfl rfl)
theorem dX0_look_30 : decode cX0_look 30 = .ok (.ireturn, 1) := dk_172 (dk_at dksX0_look_1 7 rfl rfl)
theorem dX0_look_31 : decode cX0_look 31 = .ok (.aload_n 0, 1) := dk_42 (dk_at dksX0_look_1 8 rfl rfl)
theorem dX0_look_32 : decode cX0_look 32 = .ok (.iload_n 1, 1) := dk_27 (dk_at dksX0_look_1 9 rfl rfl)
theorem dX0_look_33 : decode cX0_look 33 = .ok (.invokevirtual 319, 3) := dk_182 1 63 (dk_at dksX0_look_1 10 rfl rfl)
theorem dX0_look_36 : decode cX0_look 36 = .ok (.aload_n 0, 1) := dk_42 (dk_at dksX0_look_1 13 rfl rfl)
theorem dX0_look_37 : decode cX0_look 37 = .ok (.iload_n 2, 1) := dk_28 (dk_at dksX0_look_1 14 rfl rfl)
theorem dX0_look_38 : decode cX0_look 38 = .ok (.invokevirtual 304, 3) := dk_182 1 48 (dk_at dksX0_look_1 15 rfl rfl)
theorem dX0_look_41 : decode cX0_look 41 = .ok (.ireturn, 1) := dk_172 (dk_at dksX0_look_1 18 rfl rfl)
abbrev cX0_seed : ByteArray := prog_1_method_45_code
def yX0_seed : MethodName := ⟨RX0, "seed", "(I)I"⟩
def dkwX0_seed_0 : List UInt8 := [27, 156, 0, 5, 2, 172, 42, 180, 1, 66, 61, 42, 27, 181, 1, 66, 28, 172]
abbrev dktX0_seed_0 : List UInt8 := dkwX0_seed_0 ++ []
theorem dksX0_seed_0 : cX0_seed.data.toList.drop 0 = dktX0_seed_0 := by decide +kernel
theorem dX0_seed_0 : decode cX0_seed 0 = .ok (.iload_n 1, 1) := dk_27 (dk_at dksX0_seed_0 0 rfl rfl)
theorem dX0_seed_1 : decode cX0_seed 1 = .ok (.ifCond .ge 5, 3) := dk_156 0 5 (dk_at dksX0_seed_0 1 rfl rfl)
theorem dX0_seed_4 : decode cX0_seed 4 = .ok (.iconst (-1), 1) := dk_2 (dk_at dksX0_seed_0 4 rfl rfl)
theorem dX0_seed_5 : decode cX0_seed 5 = .ok (.ireturn, 1) := dk_172 (dk_at dksX0_seed_0 5 rfl rfl)
theorem dX0_seed_6 : decode cX0_seed 6 = .ok (.aload_n 0, 1) := dk_42 (dk_at dksX0_seed_0 6 rfl rfl)
theorem dX0_seed_7 : decode cX0_seed 7 = .ok (.getfield 322, 3) := dk_180 1 66 (dk_at dksX0_seed_0 7 rfl rfl)
theorem dX0_seed_10 : decode cX0_seed 10 = .ok (.istore_n 2, 1) := dk_61 (dk_at dksX0_seed_0 10 rfl rfl)
theorem dX0_seed_11 : decode cX0_seed 11 = .ok (.aload_n 0, 1) := dk_42 (dk_at dksX0_seed_0 11 rfl rfl)
theorem dX0_seed_12 : decode cX0_seed 12 = .ok (.iload_n 1, 1) := dk_27 (dk_at dksX0_seed_0 12 rfl rfl)
theorem dX0_seed_13 : decode cX0_seed 13 = .ok (.putfield 322, 3) := dk_181 1 66 (dk_at dksX0_seed_0 13 rfl rfl)
theorem dX0_seed_16 : decode cX0_seed 16 = .ok (.iload_n 2, 1) := dk_28 (dk_at dksX0_seed_0 16 rfl rfl)
theorem dX0_seed_17 : decode cX0_seed 17 = .ok (.ireturn, 1) := dk_172 (dk_at dksX0_seed_0 17 rfl rfl)
abbrev cX0_rains : ByteArray := prog_1_method_47_code
def yX0_rains : MethodName := ⟨RX0, "rains", "(IIII)I"⟩
def dkwX0_rains_9 : List UInt8 := [21, 6, 172]
abbrev dktX0_rains_9 : List UInt8 := dkwX0_rains_9 ++ []
def dkwX0_rains_8 : List UInt8 := [180, 1, 84, 100, 96, 54, 6, 132, 7, 1, 167, 255, 148, 21, 4, 154, 0, 8, 21, 5, 167, 0, 5]
abbrev dktX0_rains_8 : List UInt8 := dkwX0_rains_8 ++ dktX0_rains_9
def dkwX0_rains_7 : List UInt8 := [180, 0, 16, 182, 0, 237, 96, 54, 5, 21, 6, 42, 180, 0, 16, 180, 1, 84, 42, 180, 0, 138]
abbrev dktX0_rains_7 : List UInt8 := dkwX0_rains_7 ++ dktX0_rains_8
def dkwX0_rains_6 : List UInt8 := [182, 0, 223, 42, 180, 0, 16, 42, 182, 0, 214, 182, 0, 217, 87, 132, 8, 1, 167, 255, 207, 21, 5, 42]
abbrev dktX0_rains_6 : List UInt8 := dkwX0_rains_6 ++ dktX0_rains_7
def dkwX0_rains_5 : List UInt8 := [182, 1, 81, 29, 162, 0, 21, 42, 180, 0, 16, 42, 42, 180, 0, 138, 182, 0, 154, 182, 1, 81]
abbrev dktX0_rains_5 : List UInt8 := dkwX0_rains_5 ++ dktX0_rains_6
def dkwX0_rains_4 : List UInt8 := [180, 0, 16, 42, 180, 0, 138, 182, 0, 246, 87, 3, 54, 8, 21, 8, 28, 162, 0, 49, 42, 16, 100]
abbrev dktX0_rains_4 : List UInt8 := dkwX0_rains_4 ++ dktX0_rains_5
def dkwX0_rains_3 : List UInt8 := [42, 180, 0, 16, 42, 180, 0, 138, 182, 0, 134, 87, 3, 54, 7, 21, 7, 27, 162, 0, 108, 42]
abbrev dktX0_rains_3 : List UInt8 := dkwX0_rains_3 ++ dktX0_rains_4
def dkwX0_rains_2 : List UInt8 := [9, 10, 184, 0, 178, 154, 0, 5, 2, 172, 42, 42, 180, 1, 66, 181, 1, 69, 3, 54, 5, 3, 54, 6]
abbrev dktX0_rains_2 : List UInt8 := dkwX0_rains_2 ++ dktX0_rains_3
def dkwX0_rains_1 : List UInt8 := [20, 0, 244, 184, 0, 178, 153, 0, 26, 29, 133, 9, 20, 0, 226, 184, 0, 178, 153, 0, 14, 21, 4, 133]
abbrev dktX0_rains_1 : List UInt8 := dkwX0_rains_1 ++ dktX0_rains_2
def dkwX0_rains_0 : List UInt8 := [42, 180, 0, 138, 198, 0, 50, 27, 133, 10, 20, 1, 79, 184, 0, 178, 153, 0, 38, 28, 133, 10]
abbrev dktX0_rains_0 : List UInt8 := dkwX0_rains_0 ++ dktX0_rains_1
theorem dksX0_rains_0 : cX0_rains.data.toList.drop 0 = dktX0_rains_0 := by decide +kernel
theorem dksX0_rains_1 : cX0_rains.data.toList.drop 22 = dktX0_rains_1 := dk_seg dksX0_rains_0 22 rfl rfl
theorem dksX0_rains_2 : cX0_rains.data.toList.drop 46 = dktX0_rains_2 := dk_seg dksX0_rains_1 24 rfl rfl
theorem dksX0_rains_3 : cX0_rains.data.toList.drop 70 = dktX0_rains_3 := dk_seg dksX0_rains_2 24 rfl rfl
theorem dksX0_rains_4 : cX0_rains.data.toList.drop 92 = dktX0_rains_4 := dk_seg dksX0_rains_3 22 rfl rfl
theorem dksX0_rains_5 : cX0_rains.data.toList.drop 115 = dktX0_rains_5 := dk_seg dksX0_rains_4 23 rfl rfl
theorem dksX0_rains_6 : cX0_rains.data.toList.drop 137 = dktX0_rains_6 := dk_seg dksX0_rains_5 22 rfl rfl
theorem dksX0_rains_7 : cX0_rains.data.toList.drop 161 = dktX0_rains_7 := dk_seg dksX0_rains_6 24 rfl rfl
theorem dksX0_rains_8 : cX0_rains.data.toList.drop 183 = dktX0_rains_8 := dk_seg dksX0_rains_7 22 rfl rfl
theorem dksX0_rains_9 : cX0_rains.data.toList.drop 206 = dktX0_rains_9 := dk_seg dksX0_rains_8 23 rfl rfl
theorem dX0_rains_0 : decode cX0_rains 0 = .ok (.aload_n 0, 1) := dk_42 (dk_at dksX0_rains_0 0 rfl rfl)
theorem dX0_rains_1 : decode cX0_rains 1 = .ok (.getfield 138, 3) := dk_180 0 138 (dk_at dksX0_rains_0 1 rfl rfl)
theorem dX0_rains_4 : decode cX0_rains 4 = .ok (.ifnull 50, 3) := dk_198 0 50 (dk_at dksX0_rains_0 4 rfl rfl)
theorem dX0_rains_7 : decode cX0_rains 7 = .ok (.iload_n 1, 1) := dk_27 (dk_at dksX0_rains_0 7 rfl rfl)
theorem dX0_rains_8 : decode cX0_rains 8 = .ok (.i2l, 1) := dk_133 (dk_at dksX0_rains_0 8 rfl rfl)
theorem dX0_rains_9 : decode cX0_rains 9 = .ok (.lconst 1, 1) := dk_10 (dk_at dksX0_rains_0 9 rfl rfl)
theorem dX0_rains_10 : decode cX0_rains 10 = .ok (.ldc2_w 335, 3) := dk_20 1 79 (dk_at dksX0_rains_0 10 rfl rfl)
theorem dX0_rains_13 : decode cX0_rains 13 = .ok (.invokestatic 178, 3) := dk_184 0 178 (dk_at dksX0_rains_0 13 rfl rfl)
theorem dX0_rains_16 : decode cX0_rains 16 = .ok (.ifCond .eq 38, 3) := dk_153 0 38 (dk_at dksX0_rains_0 16 rfl rfl)
theorem dX0_rains_19 : decode cX0_rains 19 = .ok (.iload_n 2, 1) := dk_28 (dk_at dksX0_rains_0 19 rfl rfl)
theorem dX0_rains_20 : decode cX0_rains 20 = .ok (.i2l, 1) := dk_133 (dk_at dksX0_rains_0 20 rfl rfl)
theorem dX0_rains_21 : decode cX0_rains 21 = .ok (.lconst 1, 1) := dk_10 (dk_at dksX0_rains_0 21 rfl rfl)
theorem dX0_rains_22 : decode cX0_rains 22 = .ok (.ldc2_w 244, 3) := dk_20 0 244 (dk_at dksX0_rains_1 0 rfl rfl)
theorem dX0_rains_25 : decode cX0_rains 25 = .ok (.invokestatic 178, 3) := dk_184 0 178 (dk_at dksX0_rains_1 3 rfl rfl)
theorem dX0_rains_28 : decode cX0_rains 28 = .ok (.ifCond .eq 26, 3) := dk_153 0 26 (dk_at dksX0_rains_1 6 rfl rfl)
theorem dX0_rains_31 : decode cX0_rains 31 = .ok (.iload_n 3, 1) := dk_29 (dk_at dksX0_rains_1 9 rfl rfl)
theorem dX0_rains_32 : decode cX0_rains 32 = .ok (.i2l, 1) := dk_133 (dk_at dksX0_rains_1 10 rfl rfl)
theorem dX0_rains_33 : decode cX0_rains 33 = .ok (.lconst 0, 1) := dk_9 (dk_at dksX0_rains_1 11 rfl rfl)
theorem dX0_rains_34 : decode cX0_rains 34 = .ok (.ldc2_w 226, 3) := dk_20 0 226 (dk_at dksX0_rains_1 12 rfl rfl)
theorem dX0_rains_37 : decode cX0_rains 37 = .ok (.invokestatic 178, 3) := dk_184 0 178 (dk_at dksX0_rains_1 15 rfl rfl)
theorem dX0_rains_40 : decode cX0_rains 40 = .ok (.ifCond .eq 14, 3) := dk_153 0 14 (dk_at dksX0_rains_1 18 rfl rfl)
theorem dX0_rains_43 : decode cX0_rains 43 = .ok (.iload 4, 2) := dk_21 4 (dk_at dksX0_rains_1 21 rfl rfl)
theorem dX0_rains_45 : decode cX0_rains 45 = .ok (.i2l, 1) := dk_133 (dk_at dksX0_rains_1 23 rfl rfl)
theorem dX0_rains_46 : decode cX0_rains 46 = .ok (.lconst 0, 1) := dk_9 (dk_at dksX0_rains_2 0 rfl rfl)
theorem dX0_rains_47 : decode cX0_rains 47 = .ok (.lconst 1, 1) := dk_10 (dk_at dksX0_rains_2 1 rfl rfl)
theorem dX0_rains_48 : decode cX0_rains 48 = .ok (.invokestatic 178, 3) := dk_184 0 178 (dk_at dksX0_rains_2 2 rfl rfl)
theorem dX0_rains_51 : decode cX0_rains 51 = .ok (.ifCond .ne 5, 3) := dk_154 0 5 (dk_at dksX0_rains_2 5 rfl rfl)
theorem dX0_rains_54 : decode cX0_rains 54 = .ok (.iconst (-1), 1) := dk_2 (dk_at dksX0_rains_2 8 rfl rfl)
theorem dX0_rains_55 : decode cX0_rains 55 = .ok (.ireturn, 1) := dk_172 (dk_at dksX0_rains_2 9 rfl rfl)
theorem dX0_rains_56 : decode cX0_rains 56 = .ok (.aload_n 0, 1) := dk_42 (dk_at dksX0_rains_2 10 rfl rfl)
theorem dX0_rains_57 : decode cX0_rains 57 = .ok (.aload_n 0, 1) := dk_42 (dk_at dksX0_rains_2 11 rfl rfl)
theorem dX0_rains_58 : decode cX0_rains 58 = .ok (.getfield 322, 3) := dk_180 1 66 (dk_at dksX0_rains_2 12 rfl rfl)
theorem dX0_rains_61 : decode cX0_rains 61 = .ok (.putfield 325, 3) := dk_181 1 69 (dk_at dksX0_rains_2 15 rfl rfl)
theorem dX0_rains_64 : decode cX0_rains 64 = .ok (.iconst 0, 1) := dk_3 (dk_at dksX0_rains_2 18 rfl rfl)
theorem dX0_rains_65 : decode cX0_rains 65 = .ok (.istore 5, 2) := dk_54 5 (dk_at dksX0_rains_2 19 rfl rfl)
theorem dX0_rains_67 : decode cX0_rains 67 = .ok (.iconst 0, 1) := dk_3 (dk_at dksX0_rains_2 21 rfl rfl)
theorem dX0_rains_68 : decode cX0_rains 68 = .ok (.istore 6, 2) := dk_54 6 (dk_at dksX0_rains_2 22 rfl rfl)
theorem dX0_rains_70 : decode cX0_rains 70 = .ok (.aload_n 0, 1) := dk_42 (dk_at dksX0_rains_3 0 rfl rfl)
theorem dX0_rains_71 : decode cX0_rains 71 = .ok (.getfield 16, 3) := dk_180 0 16 (dk_at dksX0_rains_3 1 rfl rfl)
theorem dX0_rains_74 : decode cX0_rains 74 = .ok (.aload_n 0, 1) := dk_42 (dk_at dksX0_rains_3 4 rfl rfl)
theorem dX0_rains_75 : decode cX0_rains 75 = .ok (.getfield 138, 3) := dk_180 0 138 (dk_at dksX0_rains_3 5 rfl rfl)
theorem dX0_rains_78 : decode cX0_rains 78 = .ok (.invokevirtual 134, 3) := dk_182 0 134 (dk_at dksX0_rains_3 8 rfl rfl)
theorem dX0_rains_81 : decode cX0_rains 81 = .ok (.pop, 1) := dk_87 (dk_at dksX0_rains_3 11 rfl rfl)
theorem dX0_rains_82 : decode cX0_rains 82 = .ok (.iconst 0, 1) := dk_3 (dk_at dksX0_rains_3 12 rfl rfl)
theorem dX0_rains_83 : decode cX0_rains 83 = .ok (.istore 7, 2) := dk_54 7 (dk_at dksX0_rains_3 13 rfl rfl)
theorem dX0_rains_85 : decode cX0_rains 85 = .ok (.iload 7, 2) := dk_21 7 (dk_at dksX0_rains_3 15 rfl rfl)
theorem dX0_rains_87 : decode cX0_rains 87 = .ok (.iload_n 1, 1) := dk_27 (dk_at dksX0_rains_3 17 rfl rfl)
theorem dX0_rains_88 : decode cX0_rains 88 = .ok (.if_icmp .ge 108, 3) := dk_162 0 108 (dk_at dksX0_rains_3 18 rfl rfl)
theorem dX0_rains_91 : decode cX0_rains 91 = .ok (.aload_n 0, 1) := dk_42 (dk_at dksX0_rains_3 21 rfl rfl)
theorem dX0_rains_92 : decode cX0_rains 92 = .ok (.getfield 16, 3) := dk_180 0 16 (dk_at dksX0_rains_4 0 rfl rfl)
theorem dX0_rains_95 : decode cX0_rains 95 = .ok (.aload_n 0, 1) := dk_42 (dk_at dksX0_rains_4 3 rfl rfl)
theorem dX0_rains_96 : decode cX0_rains 96 = .ok (.getfield 138, 3) := dk_180 0 138 (dk_at dksX0_rains_4 4 rfl rfl)
theorem dX0_rains_99 : decode cX0_rains 99 = .ok (.invokevirtual 246, 3) := dk_182 0 246 (dk_at dksX0_rains_4 7 rfl rfl)
theorem dX0_rains_102 : decode cX0_rains 102 = .ok (.pop, 1) := dk_87 (dk_at dksX0_rains_4 10 rfl rfl)
theorem dX0_rains_103 : decode cX0_rains 103 = .ok (.iconst 0, 1) := dk_3 (dk_at dksX0_rains_4 11 rfl rfl)
theorem dX0_rains_104 : decode cX0_rains 104 = .ok (.istore 8, 2) := dk_54 8 (dk_at dksX0_rains_4 12 rfl rfl)
theorem dX0_rains_106 : decode cX0_rains 106 = .ok (.iload 8, 2) := dk_21 8 (dk_at dksX0_rains_4 14 rfl rfl)
theorem dX0_rains_108 : decode cX0_rains 108 = .ok (.iload_n 2, 1) := dk_28 (dk_at dksX0_rains_4 16 rfl rfl)
theorem dX0_rains_109 : decode cX0_rains 109 = .ok (.if_icmp .ge 49, 3) := dk_162 0 49 (dk_at dksX0_rains_4 17 rfl rfl)
theorem dX0_rains_112 : decode cX0_rains 112 = .ok (.aload_n 0, 1) := dk_42 (dk_at dksX0_rains_4 20 rfl rfl)
theorem dX0_rains_113 : decode cX0_rains 113 = .ok (.bipush 100, 2) := dk_16 100 (dk_at dksX0_rains_4 21 rfl rfl)
theorem dX0_rains_115 : decode cX0_rains 115 = .ok (.invokevirtual 337, 3) := dk_182 1 81 (dk_at dksX0_rains_5 0 rfl rfl)
theorem dX0_rains_118 : decode cX0_rains 118 = .ok (.iload_n 3, 1) := dk_29 (dk_at dksX0_rains_5 3 rfl rfl)
theorem dX0_rains_119 : decode cX0_rains 119 = .ok (.if_icmp .ge 21, 3) := dk_162 0 21 (dk_at dksX0_rains_5 4 rfl rfl)
theorem dX0_rains_122 : decode cX0_rains 122 = .ok (.aload_n 0, 1) := dk_42 (dk_at dksX0_rains_5 7 rfl rfl)
theorem dX0_rains_123 : decode cX0_rains 123 = .ok (.getfield 16, 3) := dk_180 0 16 (dk_at dksX0_rains_5 8 rfl rfl)
theorem dX0_rains_126 : decode cX0_rains 126 = .ok (.aload_n 0, 1) := dk_42 (dk_at dksX0_rains_5 11 rfl rfl)
theorem dX0_rains_127 : decode cX0_rains 127 = .ok (.aload_n 0, 1) := dk_42 (dk_at dksX0_rains_5 12 rfl rfl)
theorem dX0_rains_128 : decode cX0_rains 128 = .ok (.getfield 138, 3) := dk_180 0 138 (dk_at dksX0_rains_5 13 rfl rfl)
theorem dX0_rains_131 : decode cX0_rains 131 = .ok (.invokevirtual 154, 3) := dk_182 0 154 (dk_at dksX0_rains_5 16 rfl rfl)
theorem dX0_rains_134 : decode cX0_rains 134 = .ok (.invokevirtual 337, 3) := dk_182 1 81 (dk_at dksX0_rains_5 19 rfl rfl)
theorem dX0_rains_137 : decode cX0_rains 137 = .ok (.invokevirtual 223, 3) := dk_182 0 223 (dk_at dksX0_rains_6 0 rfl rfl)
theorem dX0_rains_140 : decode cX0_rains 140 = .ok (.aload_n 0, 1) := dk_42 (dk_at dksX0_rains_6 3 rfl rfl)
theorem dX0_rains_141 : decode cX0_rains 141 = .ok (.getfield 16, 3) := dk_180 0 16 (dk_at dksX0_rains_6 4 rfl rfl)
theorem dX0_rains_144 : decode cX0_rains 144 = .ok (.aload_n 0, 1) := dk_42 (dk_at dksX0_rains_6 7 rfl rfl)
theorem dX0_rains_145 : decode cX0_rains 145 = .ok (.invokevirtual 214, 3) := dk_182 0 214 (dk_at dksX0_rains_6 8 rfl rfl)
theorem dX0_rains_148 : decode cX0_rains 148 = .ok (.invokevirtual 217, 3) := dk_182 0 217 (dk_at dksX0_rains_6 11 rfl rfl)
theorem dX0_rains_151 : decode cX0_rains 151 = .ok (.pop, 1) := dk_87 (dk_at dksX0_rains_6 14 rfl rfl)
theorem dX0_rains_152 : decode cX0_rains 152 = .ok (.iinc 8 1, 3) := dk_132 8 1 (dk_at dksX0_rains_6 15 rfl rfl)
theorem dX0_rains_155 : decode cX0_rains 155 = .ok (.goto (-49), 3) := dk_167 255 207 (dk_at dksX0_rains_6 18 rfl rfl)
theorem dX0_rains_158 : decode cX0_rains 158 = .ok (.iload 5, 2) := dk_21 5 (dk_at dksX0_rains_6 21 rfl rfl)
theorem dX0_rains_160 : decode cX0_rains 160 = .ok (.aload_n 0, 1) := dk_42 (dk_at dksX0_rains_6 23 rfl rfl)
theorem dX0_rains_161 : decode cX0_rains 161 = .ok (.getfield 16, 3) := dk_180 0 16 (dk_at dksX0_rains_7 0 rfl rfl)
theorem dX0_rains_164 : decode cX0_rains 164 = .ok (.invokevirtual 237, 3) := dk_182 0 237 (dk_at dksX0_rains_7 3 rfl rfl)
theorem dX0_rains_167 : decode cX0_rains 167 = .ok (.iadd, 1) := dk_96 (dk_at dksX0_rains_7 6 rfl rfl)
theorem dX0_rains_168 : decode cX0_rains 168 = .ok (.istore 5, 2) := dk_54 5 (dk_at dksX0_rains_7 7 rfl rfl)
theorem dX0_rains_170 : decode cX0_rains 170 = .ok (.iload 6, 2) := dk_21 6 (dk_at dksX0_rains_7 9 rfl rfl)
theorem dX0_rains_172 : decode cX0_rains 172 = .ok (.aload_n 0, 1) := dk_42 (dk_at dksX0_rains_7 11 rfl rfl)
theorem dX0_rains_173 : decode cX0_rains 173 = .ok (.getfield 16, 3) := dk_180 0 16 (dk_at dksX0_rains_7 12 rfl rfl)
theorem dX0_rains_176 : decode cX0_rains 176 = .ok (.getfield 340, 3) := dk_180 1 84 (dk_at dksX0_rains_7 15 rfl rfl)
theorem dX0_rains_179 : decode cX0_rains 179 = .ok (.aload_n 0, 1) := dk_42 (dk_at dksX0_rains_7 18 rfl rfl)
theorem dX0_rains_180 : decode cX0_rains 180 = .ok (.getfield 138, 3) := dk_180 0 138 (dk_at dksX0_rains_7 19 rfl rfl)
theorem dX0_rains_183 : decode cX0_rains 183 = .ok (.getfield 340, 3) := dk_180 1 84 (dk_at dksX0_rains_8 0 rfl rfl)
theorem dX0_rains_186 : decode cX0_rains 186 = .ok (.isub, 1) := dk_100 (dk_at dksX0_rains_8 3 rfl rfl)
theorem dX0_rains_187 : decode cX0_rains 187 = .ok (.iadd, 1) := dk_96 (dk_at dksX0_rains_8 4 rfl rfl)
theorem dX0_rains_188 : decode cX0_rains 188 = .ok (.istore 6, 2) := dk_54 6 (dk_at dksX0_rains_8 5 rfl rfl)
theorem dX0_rains_190 : decode cX0_rains 190 = .ok (.iinc 7 1, 3) := dk_132 7 1 (dk_at dksX0_rains_8 7 rfl rfl)
theorem dX0_rains_193 : decode cX0_rains 193 = .ok (.goto (-108), 3) := dk_167 255 148 (dk_at dksX0_rains_8 10 rfl rfl)
theorem dX0_rains_196 : decode cX0_rains 196 = .ok (.iload 4, 2) := dk_21 4 (dk_at dksX0_rains_8 13 rfl rfl)
theorem dX0_rains_198 : decode cX0_rains 198 = .ok (.ifCond .ne 8, 3) := dk_154 0 8 (dk_at dksX0_rains_8 15 rfl rfl)
theorem dX0_rains_201 : decode cX0_rains 201 = .ok (.iload 5, 2) := dk_21 5 (dk_at dksX0_rains_8 18 rfl rfl)
theorem dX0_rains_203 : decode cX0_rains 203 = .ok (.goto 5, 3) := dk_167 0 5 (dk_at dksX0_rains_8 20 rfl rfl)
theorem dX0_rains_206 : decode cX0_rains 206 = .ok (.iload 6, 2) := dk_21 6 (dk_at dksX0_rains_9 0 rfl rfl)
theorem dX0_rains_208 : decode cX0_rains 208 = .ok (.ireturn, 1) := dk_172 (dk_at dksX0_rains_9 2 rfl rfl)
abbrev cX0_draw : ByteArray := prog_1_method_46_code
def yX0_draw : MethodName := ⟨RX0, "draw", "(I)I"⟩
def dkwX0_draw_1 : List UInt8 := [180, 1, 69, 19, 1, 78, 108, 27, 112, 172]
abbrev dktX0_draw_1 : List UInt8 := dkwX0_draw_1 ++ []
def dkwX0_draw_0 : List UInt8 := [42, 42, 180, 1, 69, 133, 20, 1, 72, 105, 20, 1, 74, 97, 20, 1, 76, 113, 136, 181, 1, 69, 42]
abbrev dktX0_draw_0 : List UInt8 := dkwX0_draw_0 ++ dktX0_draw_1
theorem dksX0_draw_0 : cX0_draw.data.toList.drop 0 = dktX0_draw_0 := by decide +kernel
theorem dksX0_draw_1 : cX0_draw.data.toList.drop 23 = dktX0_draw_1 := dk_seg dksX0_draw_0 23 rfl rfl
theorem dX0_draw_0 : decode cX0_draw 0 = .ok (.aload_n 0, 1) := dk_42 (dk_at dksX0_draw_0 0 rfl rfl)
theorem dX0_draw_1 : decode cX0_draw 1 = .ok (.aload_n 0, 1) := dk_42 (dk_at dksX0_draw_0 1 rfl rfl)
theorem dX0_draw_2 : decode cX0_draw 2 = .ok (.getfield 325, 3) := dk_180 1 69 (dk_at dksX0_draw_0 2 rfl rfl)
theorem dX0_draw_5 : decode cX0_draw 5 = .ok (.i2l, 1) := dk_133 (dk_at dksX0_draw_0 5 rfl rfl)
theorem dX0_draw_6 : decode cX0_draw 6 = .ok (.ldc2_w 328, 3) := dk_20 1 72 (dk_at dksX0_draw_0 6 rfl rfl)
theorem dX0_draw_9 : decode cX0_draw 9 = .ok (.lmul, 1) := dk_105 (dk_at dksX0_draw_0 9 rfl rfl)
theorem dX0_draw_10 : decode cX0_draw 10 = .ok (.ldc2_w 330, 3) := dk_20 1 74 (dk_at dksX0_draw_0 10 rfl rfl)
theorem dX0_draw_13 : decode cX0_draw 13 = .ok (.ladd, 1) := dk_97 (dk_at dksX0_draw_0 13 rfl rfl)
theorem dX0_draw_14 : decode cX0_draw 14 = .ok (.ldc2_w 332, 3) := dk_20 1 76 (dk_at dksX0_draw_0 14 rfl rfl)
theorem dX0_draw_17 : decode cX0_draw 17 = .ok (.lrem, 1) := dk_113 (dk_at dksX0_draw_0 17 rfl rfl)
theorem dX0_draw_18 : decode cX0_draw 18 = .ok (.l2i, 1) := dk_136 (dk_at dksX0_draw_0 18 rfl rfl)
theorem dX0_draw_19 : decode cX0_draw 19 = .ok (.putfield 325, 3) := dk_181 1 69 (dk_at dksX0_draw_0 19 rfl rfl)
theorem dX0_draw_22 : decode cX0_draw 22 = .ok (.aload_n 0, 1) := dk_42 (dk_at dksX0_draw_0 22 rfl rfl)
theorem dX0_draw_23 : decode cX0_draw 23 = .ok (.getfield 325, 3) := dk_180 1 69 (dk_at dksX0_draw_1 0 rfl rfl)
theorem dX0_draw_26 : decode cX0_draw 26 = .ok (.ldc_w 334, 3) := dk_19 1 78 (dk_at dksX0_draw_1 3 rfl rfl)
theorem dX0_draw_29 : decode cX0_draw 29 = .ok (.idiv, 1) := dk_108 (dk_at dksX0_draw_1 6 rfl rfl)
theorem dX0_draw_30 : decode cX0_draw 30 = .ok (.iload_n 1, 1) := dk_27 (dk_at dksX0_draw_1 7 rfl rfl)
theorem dX0_draw_31 : decode cX0_draw 31 = .ok (.irem, 1) := dk_112 (dk_at dksX0_draw_1 8 rfl rfl)
theorem dX0_draw_32 : decode cX0_draw 32 = .ok (.ireturn, 1) := dk_172 (dk_at dksX0_draw_1 9 rfl rfl)
abbrev cX0_count : ByteArray := prog_1_method_48_code
def yX0_count : MethodName := ⟨RX0, "count", "(I)I"⟩
def dkwX0_count_8 : List UInt8 := [42, 180, 0, 138, 180, 1, 51, 172, 42, 180, 0, 138, 180, 0, 190, 172]
abbrev dktX0_count_8 : List UInt8 := dkwX0_count_8 ++ []
def dkwX0_count_7 : List UInt8 := [42, 180, 0, 138, 182, 0, 237, 172, 42, 180, 0, 138, 180, 1, 84, 172, 42, 180, 0, 138, 180, 0, 166, 172]
abbrev dktX0_count_7 : List UInt8 := dkwX0_count_7 ++ dktX0_count_8
def dkwX0_count_6 : List UInt8 := [42, 180, 0, 138, 180, 1, 6, 172, 42, 180, 0, 138, 180, 0, 208, 172, 42, 180, 0, 138, 182, 0, 234, 172]
abbrev dktX0_count_6 : List UInt8 := dkwX0_count_6 ++ dktX0_count_7
def dkwX0_count_5 : List UInt8 := [42, 180, 0, 138, 180, 1, 89, 172, 42, 180, 0, 138, 180, 1, 92, 172, 42, 180, 0, 138, 180, 0, 140, 172]
abbrev dktX0_count_5 : List UInt8 := dkwX0_count_5 ++ dktX0_count_6
def dkwX0_count_4 : List UInt8 := [170, 0, 0, 0, 0, 0, 0, 144, 0, 0, 0, 0, 0, 0, 0, 11, 0, 0, 0, 64, 0, 0, 0, 72, 0, 0, 0, 80, 0, 0, 0, 88, 0, 0, 0, 144, 0, 0, 0, 144, 0, 0, 0, 96, 0, 0, 0, 104, 0, 0, 0, 112, 0, 0, 0, 120, 0, 0, 0, 128, 0, 0, 0, 136]
abbrev dktX0_count_4 : List UInt8 := dkwX0_count_4 ++ dktX0_count_5
def dkwX0_count_3 : List UInt8 := [20, 1, 87, 184, 0, 178, 154, 0, 5, 2, 172, 42, 180, 0, 138, 199, 0, 5, 3, 172, 27]
abbrev dktX0_count_3 : List UInt8 := dkwX0_count_3 ++ dktX0_count_4
def dkwX0_count_2 : List UInt8 := [42, 180, 0, 147, 172, 42, 180, 0, 29, 172, 42, 180, 1, 66, 172, 42, 180, 0, 112, 172, 27, 133, 9]
abbrev dktX0_count_2 : List UInt8 := dkwX0_count_2 ++ dktX0_count_3
def dkwX0_count_1 : List UInt8 := [171, 0, 0, 0, 0, 0, 63, 0, 0, 0, 4, 0, 0, 0, 4, 0, 0, 0, 43, 0, 0, 0, 5, 0, 0, 0, 48, 0, 0, 0, 13, 0, 0, 0, 53, 0, 0, 0, 14, 0, 0, 0, 58]
abbrev dktX0_count_1 : List UInt8 := dkwX0_count_1 ++ dktX0_count_2
def dkwX0_count_0 : List UInt8 := [27]
abbrev dktX0_count_0 : List UInt8 := dkwX0_count_0 ++ dktX0_count_1
theorem dksX0_count_0 : cX0_count.data.toList.drop 0 = dktX0_count_0 := by decide +kernel
theorem dksX0_count_1 : cX0_count.data.toList.drop 1 = dktX0_count_1 := dk_seg dksX0_count_0 1 rfl rfl
theorem dksX0_count_2 : cX0_count.data.toList.drop 44 = dktX0_count_2 := dk_seg dksX0_count_1 43 rfl rfl
theorem dksX0_count_3 : cX0_count.data.toList.drop 67 = dktX0_count_3 := dk_seg dksX0_count_2 23 rfl rfl
theorem dksX0_count_4 : cX0_count.data.toList.drop 88 = dktX0_count_4 := dk_seg dksX0_count_3 21 rfl rfl
theorem dksX0_count_5 : cX0_count.data.toList.drop 152 = dktX0_count_5 := dk_seg dksX0_count_4 64 rfl rfl
theorem dksX0_count_6 : cX0_count.data.toList.drop 176 = dktX0_count_6 := dk_seg dksX0_count_5 24 rfl rfl
theorem dksX0_count_7 : cX0_count.data.toList.drop 200 = dktX0_count_7 := dk_seg dksX0_count_6 24 rfl rfl
theorem dksX0_count_8 : cX0_count.data.toList.drop 224 = dktX0_count_8 := dk_seg dksX0_count_7 24 rfl rfl
theorem dX0_count_0 : decode cX0_count 0 = .ok (.iload_n 1, 1) := dk_27 (dk_at dksX0_count_0 0 rfl rfl)
theorem dX0_count_1 : decode cX0_count 1 = .ok (.lookupswitch 63 #[(4, 43), (5, 48), (13, 53), (14, 58)], 43) := by decide +kernel
theorem dX0_count_44 : decode cX0_count 44 = .ok (.aload_n 0, 1) := dk_42 (dk_at dksX0_count_2 0 rfl rfl)
theorem dX0_count_45 : decode cX0_count 45 = .ok (.getfield 147, 3) := dk_180 0 147 (dk_at dksX0_count_2 1 rfl rfl)
theorem dX0_count_48 : decode cX0_count 48 = .ok (.ireturn, 1) := dk_172 (dk_at dksX0_count_2 4 rfl rfl)
theorem dX0_count_49 : decode cX0_count 49 = .ok (.aload_n 0, 1) := dk_42 (dk_at dksX0_count_2 5 rfl rfl)
theorem dX0_count_50 : decode cX0_count 50 = .ok (.getfield 29, 3) := dk_180 0 29 (dk_at dksX0_count_2 6 rfl rfl)
theorem dX0_count_53 : decode cX0_count 53 = .ok (.ireturn, 1) := dk_172 (dk_at dksX0_count_2 9 rfl rfl)
theorem dX0_count_54 : decode cX0_count 54 = .ok (.aload_n 0, 1) := dk_42 (dk_at dksX0_count_2 10 rfl rfl)
theorem dX0_count_55 : decode cX0_count 55 = .ok (.getfield 322, 3) := dk_180 1 66 (dk_at dksX0_count_2 11 rfl rfl)
theorem dX0_count_58 : decode cX0_count 58 = .ok (.ireturn, 1) := dk_172 (dk_at dksX0_count_2 14 rfl rfl)
theorem dX0_count_59 : decode cX0_count 59 = .ok (.aload_n 0, 1) := dk_42 (dk_at dksX0_count_2 15 rfl rfl)
theorem dX0_count_60 : decode cX0_count 60 = .ok (.getfield 112, 3) := dk_180 0 112 (dk_at dksX0_count_2 16 rfl rfl)
theorem dX0_count_63 : decode cX0_count 63 = .ok (.ireturn, 1) := dk_172 (dk_at dksX0_count_2 19 rfl rfl)
theorem dX0_count_64 : decode cX0_count 64 = .ok (.iload_n 1, 1) := dk_27 (dk_at dksX0_count_2 20 rfl rfl)
theorem dX0_count_65 : decode cX0_count 65 = .ok (.i2l, 1) := dk_133 (dk_at dksX0_count_2 21 rfl rfl)
theorem dX0_count_66 : decode cX0_count 66 = .ok (.lconst 0, 1) := dk_9 (dk_at dksX0_count_2 22 rfl rfl)
theorem dX0_count_67 : decode cX0_count 67 = .ok (.ldc2_w 343, 3) := dk_20 1 87 (dk_at dksX0_count_3 0 rfl rfl)
theorem dX0_count_70 : decode cX0_count 70 = .ok (.invokestatic 178, 3) := dk_184 0 178 (dk_at dksX0_count_3 3 rfl rfl)
theorem dX0_count_73 : decode cX0_count 73 = .ok (.ifCond .ne 5, 3) := dk_154 0 5 (dk_at dksX0_count_3 6 rfl rfl)
theorem dX0_count_76 : decode cX0_count 76 = .ok (.iconst (-1), 1) := dk_2 (dk_at dksX0_count_3 9 rfl rfl)
theorem dX0_count_77 : decode cX0_count 77 = .ok (.ireturn, 1) := dk_172 (dk_at dksX0_count_3 10 rfl rfl)
theorem dX0_count_78 : decode cX0_count 78 = .ok (.aload_n 0, 1) := dk_42 (dk_at dksX0_count_3 11 rfl rfl)
theorem dX0_count_79 : decode cX0_count 79 = .ok (.getfield 138, 3) := dk_180 0 138 (dk_at dksX0_count_3 12 rfl rfl)
theorem dX0_count_82 : decode cX0_count 82 = .ok (.ifnonnull 5, 3) := dk_199 0 5 (dk_at dksX0_count_3 15 rfl rfl)
theorem dX0_count_85 : decode cX0_count 85 = .ok (.iconst 0, 1) := dk_3 (dk_at dksX0_count_3 18 rfl rfl)
theorem dX0_count_86 : decode cX0_count 86 = .ok (.ireturn, 1) := dk_172 (dk_at dksX0_count_3 19 rfl rfl)
theorem dX0_count_87 : decode cX0_count 87 = .ok (.iload_n 1, 1) := dk_27 (dk_at dksX0_count_3 20 rfl rfl)
theorem dX0_count_88 : decode cX0_count 88 = .ok (.tableswitch 144 0 11 #[64, 72, 80, 88, 144, 144, 96, 104, 112, 120, 128, 136], 64) := by decide +kernel
theorem dX0_count_152 : decode cX0_count 152 = .ok (.aload_n 0, 1) := dk_42 (dk_at dksX0_count_5 0 rfl rfl)
theorem dX0_count_153 : decode cX0_count 153 = .ok (.getfield 138, 3) := dk_180 0 138 (dk_at dksX0_count_5 1 rfl rfl)
theorem dX0_count_156 : decode cX0_count 156 = .ok (.getfield 345, 3) := dk_180 1 89 (dk_at dksX0_count_5 4 rfl rfl)
theorem dX0_count_159 : decode cX0_count 159 = .ok (.ireturn, 1) := dk_172 (dk_at dksX0_count_5 7 rfl rfl)
theorem dX0_count_160 : decode cX0_count 160 = .ok (.aload_n 0, 1) := dk_42 (dk_at dksX0_count_5 8 rfl rfl)
theorem dX0_count_161 : decode cX0_count 161 = .ok (.getfield 138, 3) := dk_180 0 138 (dk_at dksX0_count_5 9 rfl rfl)
theorem dX0_count_164 : decode cX0_count 164 = .ok (.getfield 348, 3) := dk_180 1 92 (dk_at dksX0_count_5 12 rfl rfl)
theorem dX0_count_167 : decode cX0_count 167 = .ok (.ireturn, 1) := dk_172 (dk_at dksX0_count_5 15 rfl rfl)
theorem dX0_count_168 : decode cX0_count 168 = .ok (.aload_n 0, 1) := dk_42 (dk_at dksX0_count_5 16 rfl rfl)
theorem dX0_count_169 : decode cX0_count 169 = .ok (.getfield 138, 3) := dk_180 0 138 (dk_at dksX0_count_5 17 rfl rfl)
theorem dX0_count_172 : decode cX0_count 172 = .ok (.getfield 140, 3) := dk_180 0 140 (dk_at dksX0_count_5 20 rfl rfl)
theorem dX0_count_175 : decode cX0_count 175 = .ok (.ireturn, 1) := dk_172 (dk_at dksX0_count_5 23 rfl rfl)
theorem dX0_count_176 : decode cX0_count 176 = .ok (.aload_n 0, 1) := dk_42 (dk_at dksX0_count_6 0 rfl rfl)
theorem dX0_count_177 : decode cX0_count 177 = .ok (.getfield 138, 3) := dk_180 0 138 (dk_at dksX0_count_6 1 rfl rfl)
theorem dX0_count_180 : decode cX0_count 180 = .ok (.getfield 262, 3) := dk_180 1 6 (dk_at dksX0_count_6 4 rfl rfl)
theorem dX0_count_183 : decode cX0_count 183 = .ok (.ireturn, 1) := dk_172 (dk_at dksX0_count_6 7 rfl rfl)
theorem dX0_count_184 : decode cX0_count 184 = .ok (.aload_n 0, 1) := dk_42 (dk_at dksX0_count_6 8 rfl rfl)
theorem dX0_count_185 : decode cX0_count 185 = .ok (.getfield 138, 3) := dk_180 0 138 (dk_at dksX0_count_6 9 rfl rfl)
theorem dX0_count_188 : decode cX0_count 188 = .ok (.getfield 208, 3) := dk_180 0 208 (dk_at dksX0_count_6 12 rfl rfl)
theorem dX0_count_191 : decode cX0_count 191 = .ok (.ireturn, 1) := dk_172 (dk_at dksX0_count_6 15 rfl rfl)
theorem dX0_count_192 : decode cX0_count 192 = .ok (.aload_n 0, 1) := dk_42 (dk_at dksX0_count_6 16 rfl rfl)
theorem dX0_count_193 : decode cX0_count 193 = .ok (.getfield 138, 3) := dk_180 0 138 (dk_at dksX0_count_6 17 rfl rfl)
theorem dX0_count_196 : decode cX0_count 196 = .ok (.invokevirtual 234, 3) := dk_182 0 234 (dk_at dksX0_count_6 20 rfl rfl)
theorem dX0_count_199 : decode cX0_count 199 = .ok (.ireturn, 1) := dk_172 (dk_at dksX0_count_6 23 rfl rfl)
theorem dX0_count_200 : decode cX0_count 200 = .ok (.aload_n 0, 1) := dk_42 (dk_at dksX0_count_7 0 rfl rfl)
theorem dX0_count_201 : decode cX0_count 201 = .ok (.getfield 138, 3) := dk_180 0 138 (dk_at dksX0_count_7 1 rfl rfl)
theorem dX0_count_204 : decode cX0_count 204 = .ok (.invokevirtual 237, 3) := dk_182 0 237 (dk_at dksX0_count_7 4 rfl rfl)
theorem dX0_count_207 : decode cX0_count 207 = .ok (.ireturn, 1) := dk_172 (dk_at dksX0_count_7 7 rfl rfl)
theorem dX0_count_208 : decode cX0_count 208 = .ok (.aload_n 0, 1) := dk_42 (dk_at dksX0_count_7 8 rfl rfl)
theorem dX0_count_209 : decode cX0_count 209 = .ok (.getfield 138, 3) := dk_180 0 138 (dk_at dksX0_count_7 9 rfl rfl)
theorem dX0_count_212 : decode cX0_count 212 = .ok (.getfield 340, 3) := dk_180 1 84 (dk_at dksX0_count_7 12 rfl rfl)
theorem dX0_count_215 : decode cX0_count 215 = .ok (.ireturn, 1) := dk_172 (dk_at dksX0_count_7 15 rfl rfl)
theorem dX0_count_216 : decode cX0_count 216 = .ok (.aload_n 0, 1) := dk_42 (dk_at dksX0_count_7 16 rfl rfl)
theorem dX0_count_217 : decode cX0_count 217 = .ok (.getfield 138, 3) := dk_180 0 138 (dk_at dksX0_count_7 17 rfl rfl)
theorem dX0_count_220 : decode cX0_count 220 = .ok (.getfield 166, 3) := dk_180 0 166 (dk_at dksX0_count_7 20 rfl rfl)
theorem dX0_count_223 : decode cX0_count 223 = .ok (.ireturn, 1) := dk_172 (dk_at dksX0_count_7 23 rfl rfl)
theorem dX0_count_224 : decode cX0_count 224 = .ok (.aload_n 0, 1) := dk_42 (dk_at dksX0_count_8 0 rfl rfl)
theorem dX0_count_225 : decode cX0_count 225 = .ok (.getfield 138, 3) := dk_180 0 138 (dk_at dksX0_count_8 1 rfl rfl)
theorem dX0_count_228 : decode cX0_count 228 = .ok (.getfield 307, 3) := dk_180 1 51 (dk_at dksX0_count_8 4 rfl rfl)
theorem dX0_count_231 : decode cX0_count 231 = .ok (.ireturn, 1) := dk_172 (dk_at dksX0_count_8 7 rfl rfl)
theorem dX0_count_232 : decode cX0_count 232 = .ok (.aload_n 0, 1) := dk_42 (dk_at dksX0_count_8 8 rfl rfl)
theorem dX0_count_233 : decode cX0_count 233 = .ok (.getfield 138, 3) := dk_180 0 138 (dk_at dksX0_count_8 9 rfl rfl)
theorem dX0_count_236 : decode cX0_count 236 = .ok (.getfield 190, 3) := dk_180 0 190 (dk_at dksX0_count_8 12 rfl rfl)
theorem dX0_count_239 : decode cX0_count 239 = .ok (.ireturn, 1) := dk_172 (dk_at dksX0_count_8 15 rfl rfl)
abbrev cX0_image : ByteArray := prog_1_method_49_code
def yX0_image : MethodName := ⟨RX0, "image", "(I)I"⟩
def dkwX0_image_4 : List UInt8 := [42, 180, 0, 138, 180, 0, 208, 172]
abbrev dktX0_image_4 : List UInt8 := dkwX0_image_4 ++ []
def dkwX0_image_3 : List UInt8 := [181, 1, 101, 42, 180, 0, 138, 199, 0, 5, 3, 172, 44, 180, 1, 102, 42, 180, 0, 138, 182, 0, 134, 87]
abbrev dktX0_image_3 : List UInt8 := dkwX0_image_3 ++ dktX0_image_4
def dkwX0_image_2 : List UInt8 := [198, 0, 7, 4, 167, 0, 4, 3, 181, 1, 96, 44, 42, 180, 1, 66, 181, 1, 100, 44, 42, 180, 0, 29]
abbrev dktX0_image_2 : List UInt8 := dkwX0_image_2 ++ dktX0_image_3
def dkwX0_image_1 : List UInt8 := [180, 0, 108, 27, 187, 0, 106, 89, 183, 1, 95, 83, 42, 180, 0, 108, 27, 50, 77, 44, 42, 180, 0, 138]
abbrev dktX0_image_1 : List UInt8 := dkwX0_image_1 ++ dktX0_image_2
def dkwX0_image_0 : List UInt8 := [27, 133, 9, 20, 0, 228, 184, 0, 178, 154, 0, 5, 2, 172, 42, 180, 0, 108, 27, 50, 199, 0, 16, 42]
abbrev dktX0_image_0 : List UInt8 := dkwX0_image_0 ++ dktX0_image_1
theorem dksX0_image_0 : cX0_image.data.toList.drop 0 = dktX0_image_0 := by decide +kernel
theorem dksX0_image_1 : cX0_image.data.toList.drop 24 = dktX0_image_1 := dk_seg dksX0_image_0 24 rfl rfl
theorem dksX0_image_2 : cX0_image.data.toList.drop 48 = dktX0_image_2 := dk_seg dksX0_image_1 24 rfl rfl
theorem dksX0_image_3 : cX0_image.data.toList.drop 72 = dktX0_image_3 := dk_seg dksX0_image_2 24 rfl rfl
theorem dksX0_image_4 : cX0_image.data.toList.drop 96 = dktX0_image_4 := dk_seg dksX0_image_3 24 rfl rfl
theorem dX0_image_0 : decode cX0_image 0 = .ok (.iload_n 1, 1) := dk_27 (dk_at dksX0_image_0 0 rfl rfl)
theorem dX0_image_1 : decode cX0_image 1 = .ok (.i2l, 1) := dk_133 (dk_at dksX0_image_0 1 rfl rfl)
theorem dX0_image_2 : decode cX0_image 2 = .ok (.lconst 0, 1) := dk_9 (dk_at dksX0_image_0 2 rfl rfl)
theorem dX0_image_3 : decode cX0_image 3 = .ok (.ldc2_w 228, 3) := dk_20 0 228 (dk_at dksX0_image_0 3 rfl rfl)
theorem dX0_image_6 : decode cX0_image 6 = .ok (.invokestatic 178, 3) := dk_184 0 178 (dk_at dksX0_image_0 6 rfl rfl)
theorem dX0_image_9 : decode cX0_image 9 = .ok (.ifCond .ne 5, 3) := dk_154 0 5 (dk_at dksX0_image_0 9 rfl rfl)
theorem dX0_image_12 : decode cX0_image 12 = .ok (.iconst (-1), 1) := dk_2 (dk_at dksX0_image_0 12 rfl rfl)
theorem dX0_image_13 : decode cX0_image 13 = .ok (.ireturn, 1) := dk_172 (dk_at dksX0_image_0 13 rfl rfl)
theorem dX0_image_14 : decode cX0_image 14 = .ok (.aload_n 0, 1) := dk_42 (dk_at dksX0_image_0 14 rfl rfl)
theorem dX0_image_15 : decode cX0_image 15 = .ok (.getfield 108, 3) := dk_180 0 108 (dk_at dksX0_image_0 15 rfl rfl)
theorem dX0_image_18 : decode cX0_image 18 = .ok (.iload_n 1, 1) := dk_27 (dk_at dksX0_image_0 18 rfl rfl)
theorem dX0_image_19 : decode cX0_image 19 = .ok (.aaload, 1) := dk_50 (dk_at dksX0_image_0 19 rfl rfl)
theorem dX0_image_20 : decode cX0_image 20 = .ok (.ifnonnull 16, 3) := dk_199 0 16 (dk_at dksX0_image_0 20 rfl rfl)
theorem dX0_image_23 : decode cX0_image 23 = .ok (.aload_n 0, 1) := dk_42 (dk_at dksX0_image_0 23 rfl rfl)
theorem dX0_image_24 : decode cX0_image 24 = .ok (.getfield 108, 3) := dk_180 0 108 (dk_at dksX0_image_1 0 rfl rfl)
theorem dX0_image_27 : decode cX0_image 27 = .ok (.iload_n 1, 1) := dk_27 (dk_at dksX0_image_1 3 rfl rfl)
theorem dX0_image_28 : decode cX0_image 28 = .ok (.new 106, 3) := dk_187 0 106 (dk_at dksX0_image_1 4 rfl rfl)
theorem dX0_image_31 : decode cX0_image 31 = .ok (.dup, 1) := dk_89 (dk_at dksX0_image_1 7 rfl rfl)
theorem dX0_image_32 : decode cX0_image 32 = .ok (.invokespecial 351, 3) := dk_183 1 95 (dk_at dksX0_image_1 8 rfl rfl)
theorem dX0_image_35 : decode cX0_image 35 = .ok (.aastore, 1) := dk_83 (dk_at dksX0_image_1 11 rfl rfl)
theorem dX0_image_36 : decode cX0_image 36 = .ok (.aload_n 0, 1) := dk_42 (dk_at dksX0_image_1 12 rfl rfl)
theorem dX0_image_37 : decode cX0_image 37 = .ok (.getfield 108, 3) := dk_180 0 108 (dk_at dksX0_image_1 13 rfl rfl)
theorem dX0_image_40 : decode cX0_image 40 = .ok (.iload_n 1, 1) := dk_27 (dk_at dksX0_image_1 16 rfl rfl)
theorem dX0_image_41 : decode cX0_image 41 = .ok (.aaload, 1) := dk_50 (dk_at dksX0_image_1 17 rfl rfl)
theorem dX0_image_42 : decode cX0_image 42 = .ok (.astore_n 2, 1) := dk_77 (dk_at dksX0_image_1 18 rfl rfl)
theorem dX0_image_43 : decode cX0_image 43 = .ok (.aload_n 2, 1) := dk_44 (dk_at dksX0_image_1 19 rfl rfl)
theorem dX0_image_44 : decode cX0_image 44 = .ok (.aload_n 0, 1) := dk_42 (dk_at dksX0_image_1 20 rfl rfl)
theorem dX0_image_45 : decode cX0_image 45 = .ok (.getfield 138, 3) := dk_180 0 138 (dk_at dksX0_image_1 21 rfl rfl)
theorem dX0_image_48 : decode cX0_image 48 = .ok (.ifnull 7, 3) := dk_198 0 7 (dk_at dksX0_image_2 0 rfl rfl)
theorem dX0_image_51 : decode cX0_image 51 = .ok (.iconst 1, 1) := dk_4 (dk_at dksX0_image_2 3 rfl rfl)
theorem dX0_image_52 : decode cX0_image 52 = .ok (.goto 4, 3) := dk_167 0 4 (dk_at dksX0_image_2 4 rfl rfl)
theorem dX0_image_55 : decode cX0_image 55 = .ok (.iconst 0, 1) := dk_3 (dk_at dksX0_image_2 7 rfl rfl)
theorem dX0_image_56 : decode cX0_image 56 = .ok (.putfield 352, 3) := dk_181 1 96 (dk_at dksX0_image_2 8 rfl rfl)
theorem dX0_image_59 : decode cX0_image 59 = .ok (.aload_n 2, 1) := dk_44 (dk_at dksX0_image_2 11 rfl rfl)
theorem dX0_image_60 : decode cX0_image 60 = .ok (.aload_n 0, 1) := dk_42 (dk_at dksX0_image_2 12 rfl rfl)
theorem dX0_image_61 : decode cX0_image 61 = .ok (.getfield 322, 3) := dk_180 1 66 (dk_at dksX0_image_2 13 rfl rfl)
theorem dX0_image_64 : decode cX0_image 64 = .ok (.putfield 356, 3) := dk_181 1 100 (dk_at dksX0_image_2 16 rfl rfl)
theorem dX0_image_67 : decode cX0_image 67 = .ok (.aload_n 2, 1) := dk_44 (dk_at dksX0_image_2 19 rfl rfl)
theorem dX0_image_68 : decode cX0_image 68 = .ok (.aload_n 0, 1) := dk_42 (dk_at dksX0_image_2 20 rfl rfl)
theorem dX0_image_69 : decode cX0_image 69 = .ok (.getfield 29, 3) := dk_180 0 29 (dk_at dksX0_image_2 21 rfl rfl)
theorem dX0_image_72 : decode cX0_image 72 = .ok (.putfield 357, 3) := dk_181 1 101 (dk_at dksX0_image_3 0 rfl rfl)
theorem dX0_image_75 : decode cX0_image 75 = .ok (.aload_n 0, 1) := dk_42 (dk_at dksX0_image_3 3 rfl rfl)
theorem dX0_image_76 : decode cX0_image 76 = .ok (.getfield 138, 3) := dk_180 0 138 (dk_at dksX0_image_3 4 rfl rfl)
theorem dX0_image_79 : decode cX0_image 79 = .ok (.ifnonnull 5, 3) := dk_199 0 5 (dk_at dksX0_image_3 7 rfl rfl)
theorem dX0_image_82 : decode cX0_image 82 = .ok (.iconst 0, 1) := dk_3 (dk_at dksX0_image_3 10 rfl rfl)
theorem dX0_image_83 : decode cX0_image 83 = .ok (.ireturn, 1) := dk_172 (dk_at dksX0_image_3 11 rfl rfl)
theorem dX0_image_84 : decode cX0_image 84 = .ok (.aload_n 2, 1) := dk_44 (dk_at dksX0_image_3 12 rfl rfl)
theorem dX0_image_85 : decode cX0_image 85 = .ok (.getfield 358, 3) := dk_180 1 102 (dk_at dksX0_image_3 13 rfl rfl)
theorem dX0_image_88 : decode cX0_image 88 = .ok (.aload_n 0, 1) := dk_42 (dk_at dksX0_image_3 16 rfl rfl)
theorem dX0_image_89 : decode cX0_image 89 = .ok (.getfield 138, 3) := dk_180 0 138 (dk_at dksX0_image_3 17 rfl rfl)
theorem dX0_image_92 : decode cX0_image 92 = .ok (.invokevirtual 134, 3) := dk_182 0 134 (dk_at dksX0_image_3 20 rfl rfl)
theorem dX0_image_95 : decode cX0_image 95 = .ok (.pop, 1) := dk_87 (dk_at dksX0_image_3 23 rfl rfl)
theorem dX0_image_96 : decode cX0_image 96 = .ok (.aload_n 0, 1) := dk_42 (dk_at dksX0_image_4 0 rfl rfl)
theorem dX0_image_97 : decode cX0_image 97 = .ok (.getfield 138, 3) := dk_180 0 138 (dk_at dksX0_image_4 1 rfl rfl)
theorem dX0_image_100 : decode cX0_image 100 = .ok (.getfield 208, 3) := dk_180 0 208 (dk_at dksX0_image_4 4 rfl rfl)
theorem dX0_image_103 : decode cX0_image 103 = .ok (.ireturn, 1) := dk_172 (dk_at dksX0_image_4 7 rfl rfl)
abbrev cX0_back : ByteArray := prog_1_method_50_code
def yX0_back : MethodName := ⟨RX0, "back", "(I)I"⟩
def dkwX0_back_4 : List UInt8 := [167, 0, 10, 42, 180, 0, 138, 180, 0, 208, 172]
abbrev dktX0_back_4 : List UInt8 := dkwX0_back_4 ++ []
def dkwX0_back_3 : List UInt8 := [181, 1, 66, 42, 42, 180, 0, 108, 27, 50, 180, 1, 101, 181, 0, 29, 42, 180, 0, 138, 199, 0, 7, 3]
abbrev dktX0_back_3 : List UInt8 := dkwX0_back_3 ++ dktX0_back_4
def dkwX0_back_2 : List UInt8 := [180, 1, 102, 182, 0, 134, 167, 0, 4, 1, 181, 0, 138, 42, 42, 180, 0, 108, 27, 50, 180, 1, 100]
abbrev dktX0_back_2 : List UInt8 := dkwX0_back_2 ++ dktX0_back_3
def dkwX0_back_1 : List UInt8 := [42, 180, 0, 108, 27, 50, 180, 1, 96, 153, 0, 22, 42, 180, 0, 10, 42, 180, 0, 108, 27, 50]
abbrev dktX0_back_1 : List UInt8 := dkwX0_back_1 ++ dktX0_back_2
def dkwX0_back_0 : List UInt8 := [27, 133, 9, 20, 0, 228, 184, 0, 178, 153, 0, 12, 42, 180, 0, 108, 27, 50, 199, 0, 5, 2, 172, 42]
abbrev dktX0_back_0 : List UInt8 := dkwX0_back_0 ++ dktX0_back_1
theorem dksX0_back_0 : cX0_back.data.toList.drop 0 = dktX0_back_0 := by decide +kernel
theorem dksX0_back_1 : cX0_back.data.toList.drop 24 = dktX0_back_1 := dk_seg dksX0_back_0 24 rfl rfl
theorem dksX0_back_2 : cX0_back.data.toList.drop 46 = dktX0_back_2 := dk_seg dksX0_back_1 22 rfl rfl
theorem dksX0_back_3 : cX0_back.data.toList.drop 69 = dktX0_back_3 := dk_seg dksX0_back_2 23 rfl rfl
theorem dksX0_back_4 : cX0_back.data.toList.drop 93 = dktX0_back_4 := dk_seg dksX0_back_3 24 rfl rfl
theorem dX0_back_0 : decode cX0_back 0 = .ok (.iload_n 1, 1) := dk_27 (dk_at dksX0_back_0 0 rfl rfl)
theorem dX0_back_1 : decode cX0_back 1 = .ok (.i2l, 1) := dk_133 (dk_at dksX0_back_0 1 rfl rfl)
theorem dX0_back_2 : decode cX0_back 2 = .ok (.lconst 0, 1) := dk_9 (dk_at dksX0_back_0 2 rfl rfl)
theorem dX0_back_3 : decode cX0_back 3 = .ok (.ldc2_w 228, 3) := dk_20 0 228 (dk_at dksX0_back_0 3 rfl rfl)
theorem dX0_back_6 : decode cX0_back 6 = .ok (.invokestatic 178, 3) := dk_184 0 178 (dk_at dksX0_back_0 6 rfl rfl)
theorem dX0_back_9 : decode cX0_back 9 = .ok (.ifCond .eq 12, 3) := dk_153 0 12 (dk_at dksX0_back_0 9 rfl rfl)
theorem dX0_back_12 : decode cX0_back 12 = .ok (.aload_n 0, 1) := dk_42 (dk_at dksX0_back_0 12 rfl rfl)
theorem dX0_back_13 : decode cX0_back 13 = .ok (.getfield 108, 3) := dk_180 0 108 (dk_at dksX0_back_0 13 rfl rfl)
theorem dX0_back_16 : decode cX0_back 16 = .ok (.iload_n 1, 1) := dk_27 (dk_at dksX0_back_0 16 rfl rfl)
theorem dX0_back_17 : decode cX0_back 17 = .ok (.aaload, 1) := dk_50 (dk_at dksX0_back_0 17 rfl rfl)
theorem dX0_back_18 : decode cX0_back 18 = .ok (.ifnonnull 5, 3) := dk_199 0 5 (dk_at dksX0_back_0 18 rfl rfl)
theorem dX0_back_21 : decode cX0_back 21 = .ok (.iconst (-1), 1) := dk_2 (dk_at dksX0_back_0 21 rfl rfl)
theorem dX0_back_22 : decode cX0_back 22 = .ok (.ireturn, 1) := dk_172 (dk_at dksX0_back_0 22 rfl rfl)
theorem dX0_back_23 : decode cX0_back 23 = .ok (.aload_n 0, 1) := dk_42 (dk_at dksX0_back_0 23 rfl rfl)
theorem dX0_back_24 : decode cX0_back 24 = .ok (.aload_n 0, 1) := dk_42 (dk_at dksX0_back_1 0 rfl rfl)
theorem dX0_back_25 : decode cX0_back 25 = .ok (.getfield 108, 3) := dk_180 0 108 (dk_at dksX0_back_1 1 rfl rfl)
theorem dX0_back_28 : decode cX0_back 28 = .ok (.iload_n 1, 1) := dk_27 (dk_at dksX0_back_1 4 rfl rfl)
theorem dX0_back_29 : decode cX0_back 29 = .ok (.aaload, 1) := dk_50 (dk_at dksX0_back_1 5 rfl rfl)
theorem dX0_back_30 : decode cX0_back 30 = .ok (.getfield 352, 3) := dk_180 1 96 (dk_at dksX0_back_1 6 rfl rfl)
theorem dX0_back_33 : decode cX0_back 33 = .ok (.ifCond .eq 22, 3) := dk_153 0 22 (dk_at dksX0_back_1 9 rfl rfl)
theorem dX0_back_36 : decode cX0_back 36 = .ok (.aload_n 0, 1) := dk_42 (dk_at dksX0_back_1 12 rfl rfl)
theorem dX0_back_37 : decode cX0_back 37 = .ok (.getfield 10, 3) := dk_180 0 10 (dk_at dksX0_back_1 13 rfl rfl)
theorem dX0_back_40 : decode cX0_back 40 = .ok (.aload_n 0, 1) := dk_42 (dk_at dksX0_back_1 16 rfl rfl)
theorem dX0_back_41 : decode cX0_back 41 = .ok (.getfield 108, 3) := dk_180 0 108 (dk_at dksX0_back_1 17 rfl rfl)
theorem dX0_back_44 : decode cX0_back 44 = .ok (.iload_n 1, 1) := dk_27 (dk_at dksX0_back_1 20 rfl rfl)
theorem dX0_back_45 : decode cX0_back 45 = .ok (.aaload, 1) := dk_50 (dk_at dksX0_back_1 21 rfl rfl)
theorem dX0_back_46 : decode cX0_back 46 = .ok (.getfield 358, 3) := dk_180 1 102 (dk_at dksX0_back_2 0 rfl rfl)
theorem dX0_back_49 : decode cX0_back 49 = .ok (.invokevirtual 134, 3) := dk_182 0 134 (dk_at dksX0_back_2 3 rfl rfl)
theorem dX0_back_52 : decode cX0_back 52 = .ok (.goto 4, 3) := dk_167 0 4 (dk_at dksX0_back_2 6 rfl rfl)
theorem dX0_back_55 : decode cX0_back 55 = .ok (.aconst_null, 1) := dk_1 (dk_at dksX0_back_2 9 rfl rfl)
theorem dX0_back_56 : decode cX0_back 56 = .ok (.putfield 138, 3) := dk_181 0 138 (dk_at dksX0_back_2 10 rfl rfl)
theorem dX0_back_59 : decode cX0_back 59 = .ok (.aload_n 0, 1) := dk_42 (dk_at dksX0_back_2 13 rfl rfl)
theorem dX0_back_60 : decode cX0_back 60 = .ok (.aload_n 0, 1) := dk_42 (dk_at dksX0_back_2 14 rfl rfl)
theorem dX0_back_61 : decode cX0_back 61 = .ok (.getfield 108, 3) := dk_180 0 108 (dk_at dksX0_back_2 15 rfl rfl)
theorem dX0_back_64 : decode cX0_back 64 = .ok (.iload_n 1, 1) := dk_27 (dk_at dksX0_back_2 18 rfl rfl)
theorem dX0_back_65 : decode cX0_back 65 = .ok (.aaload, 1) := dk_50 (dk_at dksX0_back_2 19 rfl rfl)
theorem dX0_back_66 : decode cX0_back 66 = .ok (.getfield 356, 3) := dk_180 1 100 (dk_at dksX0_back_2 20 rfl rfl)
theorem dX0_back_69 : decode cX0_back 69 = .ok (.putfield 322, 3) := dk_181 1 66 (dk_at dksX0_back_3 0 rfl rfl)
theorem dX0_back_72 : decode cX0_back 72 = .ok (.aload_n 0, 1) := dk_42 (dk_at dksX0_back_3 3 rfl rfl)
theorem dX0_back_73 : decode cX0_back 73 = .ok (.aload_n 0, 1) := dk_42 (dk_at dksX0_back_3 4 rfl rfl)
theorem dX0_back_74 : decode cX0_back 74 = .ok (.getfield 108, 3) := dk_180 0 108 (dk_at dksX0_back_3 5 rfl rfl)
theorem dX0_back_77 : decode cX0_back 77 = .ok (.iload_n 1, 1) := dk_27 (dk_at dksX0_back_3 8 rfl rfl)
theorem dX0_back_78 : decode cX0_back 78 = .ok (.aaload, 1) := dk_50 (dk_at dksX0_back_3 9 rfl rfl)
theorem dX0_back_79 : decode cX0_back 79 = .ok (.getfield 357, 3) := dk_180 1 101 (dk_at dksX0_back_3 10 rfl rfl)
theorem dX0_back_82 : decode cX0_back 82 = .ok (.putfield 29, 3) := dk_181 0 29 (dk_at dksX0_back_3 13 rfl rfl)
theorem dX0_back_85 : decode cX0_back 85 = .ok (.aload_n 0, 1) := dk_42 (dk_at dksX0_back_3 16 rfl rfl)
theorem dX0_back_86 : decode cX0_back 86 = .ok (.getfield 138, 3) := dk_180 0 138 (dk_at dksX0_back_3 17 rfl rfl)
theorem dX0_back_89 : decode cX0_back 89 = .ok (.ifnonnull 7, 3) := dk_199 0 7 (dk_at dksX0_back_3 20 rfl rfl)
theorem dX0_back_92 : decode cX0_back 92 = .ok (.iconst 0, 1) := dk_3 (dk_at dksX0_back_3 23 rfl rfl)
theorem dX0_back_93 : decode cX0_back 93 = .ok (.goto 10, 3) := dk_167 0 10 (dk_at dksX0_back_4 0 rfl rfl)
theorem dX0_back_96 : decode cX0_back 96 = .ok (.aload_n 0, 1) := dk_42 (dk_at dksX0_back_4 3 rfl rfl)
theorem dX0_back_97 : decode cX0_back 97 = .ok (.getfield 138, 3) := dk_180 0 138 (dk_at dksX0_back_4 4 rfl rfl)
theorem dX0_back_100 : decode cX0_back 100 = .ok (.getfield 208, 3) := dk_180 0 208 (dk_at dksX0_back_4 7 rfl rfl)
theorem dX0_back_103 : decode cX0_back 103 = .ok (.ireturn, 1) := dk_172 (dk_at dksX0_back_4 10 rfl rfl)
theorem q116 : (Jvm.Cond.initialized "SkySpire") ∈ lw_all := lw_g (lw_at lw_m1 1 rfl) rfl
theorem q143 : (Jvm.Cond.instantiable "SkySpire" (23 : Nat)) ∈ lw_all := lw_g (lw_at lw_m1 28 rfl) rfl
theorem q145 : (Jvm.Cond.instanceMethod ({ cls := "SkySpire", name := "<init>", desc := "()V" } : Jvm.MethodName)) ∈ lw_all := lw_g (lw_at lw_m1 30 rfl) rfl
theorem q146 : (Jvm.Cond.code ({ cls := "SkySpire", name := "<init>", desc := "()V" } : Jvm.MethodName) prog_1_method_3_code (1 : Nat) (Option.none : Option Jvm.ClassFile.FieldType)) ∈ lw_all := lw_g (lw_at lw_m1 31 rfl) rfl
theorem q147 : (Jvm.Cond.methodLink "SkySpire" (1 : Nat) ({ cls := "java/lang/Object", name := "<init>", desc := "()V" } : Jvm.MethodName)) ∈ lw_all := lw_g (lw_at lw_m1 32 rfl) rfl
theorem q150 : (Jvm.Cond.classLink "SkySpire" (7 : Nat) "SkySpire$Sky") ∈ lw_all := lw_g (lw_at lw_m1 35 rfl) rfl
theorem q152 : (Jvm.Cond.methodLinkNest "SkySpire" (9 : Nat) ({ cls := "SkySpire$Sky", name := "<init>", desc := "()V" } : Jvm.MethodName) "SkySpire") ∈ lw_tbl := lw_at lw_m1 37 rfl
theorem q158 : (Jvm.Cond.fieldLinkNest "SkySpire" (345 : Nat) "SkySpire$Sky" "side" "I" "SkySpire") ∈ lw_tbl := lw_at lw_m1 43 rfl
theorem q161 : (Jvm.Cond.fieldLinkNest "SkySpire" (348 : Nat) "SkySpire$Sky" "fades" "I" "SkySpire") ∈ lw_tbl := lw_at lw_m1 46 rfl
theorem q163 : (Jvm.Cond.fieldLinkNest "SkySpire" (140 : Nat) "SkySpire$Sky" "penMany" "I" "SkySpire") ∈ lw_tbl := lw_at lw_m1 48 rfl
theorem q167 : (Jvm.Cond.fieldLinkNest "SkySpire" (262 : Nat) "SkySpire$Sky" "windMany" "I" "SkySpire") ∈ lw_tbl := lw_at lw_m1 52 rfl
theorem q169 : (Jvm.Cond.fieldLinkNest "SkySpire" (307 : Nat) "SkySpire$Sky" "noteMany" "I" "SkySpire") ∈ lw_tbl := lw_at lw_m1 54 rfl
theorem q171 : (Jvm.Cond.fieldLinkNest "SkySpire" (190 : Nat) "SkySpire$Sky" "undoMany" "I" "SkySpire") ∈ lw_tbl := lw_at lw_m1 56 rfl
theorem q175 : (Jvm.Cond.fieldLinkNest "SkySpire" (208 : Nat) "SkySpire$Sky" "now" "I" "SkySpire") ∈ lw_tbl := lw_at lw_m1 60 rfl
theorem q177 : (Jvm.Cond.fieldLinkNest "SkySpire" (340 : Nat) "SkySpire$Sky" "claps" "I" "SkySpire") ∈ lw_tbl := lw_at lw_m1 62 rfl
theorem q179 : (Jvm.Cond.fieldLinkNest "SkySpire" (166 : Nat) "SkySpire$Sky" "stayed" "I" "SkySpire") ∈ lw_tbl := lw_at lw_m1 64 rfl
theorem q187 : (Jvm.Cond.fieldLinkNest "SkySpire" (188 : Nat) "SkySpire$Sky" "mark" "[Z" "SkySpire") ∈ lw_tbl := lw_at lw_m1 72 rfl
theorem q190 : (Jvm.Cond.fieldLinkNest "SkySpire" (310 : Nat) "SkySpire$Sky" "notes" "[I" "SkySpire") ∈ lw_tbl := lw_at lw_m1 75 rfl
theorem q192 : (Jvm.Cond.fieldLinkNest "SkySpire" (161 : Nat) "SkySpire$Sky" "cell" "[I" "SkySpire") ∈ lw_tbl := lw_at lw_m1 77 rfl
theorem q194 : (Jvm.Cond.fieldLinkNest "SkySpire" (164 : Nat) "SkySpire$Sky" "stiff" "[I" "SkySpire") ∈ lw_tbl := lw_at lw_m1 79 rfl
theorem q196 : (Jvm.Cond.fieldLinkNest "SkySpire" (182 : Nat) "SkySpire$Sky" "whose" "[I" "SkySpire") ∈ lw_tbl := lw_at lw_m1 81 rfl
theorem q198 : (Jvm.Cond.fieldLinkNest "SkySpire" (185 : Nat) "SkySpire$Sky" "when" "[I" "SkySpire") ∈ lw_tbl := lw_at lw_m1 83 rfl
theorem q200 : (Jvm.Cond.fieldLinkNest "SkySpire" (193 : Nat) "SkySpire$Sky" "undo" "[I" "SkySpire") ∈ lw_tbl := lw_at lw_m1 85 rfl
theorem q249 : (Jvm.Cond.classLink "SkySpire" (33 : Nat) "SkySpire$Fault") ∈ lw_all := lw_g (lw_at lw_m1 134 rfl) rfl
theorem q288 : (Jvm.Cond.methodLink "SkySpire" (35 : Nat) ({ cls := "SkySpire$Fault", name := "<init>", desc := "()V" } : Jvm.MethodName)) ∈ lw_all := lw_g (lw_at lw_m1 173 rfl) rfl
theorem q302 : (Jvm.Cond.fieldLinkNest "SkySpire" (122 : Nat) "SkySpire$Fault" "kind" "I" "SkySpire") ∈ lw_tbl := lw_at lw_m1 187 rfl
theorem q304 : (Jvm.Cond.fieldLinkNest "SkySpire" (119 : Nat) "SkySpire$Fault" "place" "I" "SkySpire") ∈ lw_tbl := lw_at lw_m1 189 rfl
theorem q323 : (Jvm.Cond.classLink "SkySpire" (44 : Nat) "java/lang/String") ∈ lw_all := lw_g (lw_at lw_m1 208 rfl) rfl
theorem q325 : (Jvm.Cond.stringRef "SkySpire" (46 : Nat) "sky") ∈ lw_tbl := lw_at lw_m1 210 rfl
theorem q326 : (Jvm.Cond.stringRef "SkySpire" (48 : Nat) "pen") ∈ lw_tbl := lw_at lw_m1 211 rfl
theorem q327 : (Jvm.Cond.stringRef "SkySpire" (50 : Nat) "wind") ∈ lw_tbl := lw_at lw_m1 212 rfl
theorem q328 : (Jvm.Cond.stringRef "SkySpire" (52 : Nat) "mark") ∈ lw_tbl := lw_at lw_m1 213 rfl
theorem q329 : (Jvm.Cond.stringRef "SkySpire" (58 : Nat) "write") ∈ lw_tbl := lw_at lw_m1 214 rfl
theorem q330 : (Jvm.Cond.stringRef "SkySpire" (63 : Nat) "row") ∈ lw_tbl := lw_at lw_m1 215 rfl
theorem q331 : (Jvm.Cond.stringRef "SkySpire" (65 : Nat) "column") ∈ lw_tbl := lw_at lw_m1 216 rfl
theorem q332 : (Jvm.Cond.stringRef "SkySpire" (67 : Nat) "stiff") ∈ lw_tbl := lw_at lw_m1 217 rfl
theorem q333 : (Jvm.Cond.stringRef "SkySpire" (69 : Nat) "way") ∈ lw_tbl := lw_at lw_m1 218 rfl
theorem q334 : (Jvm.Cond.stringRef "SkySpire" (71 : Nat) "force") ∈ lw_tbl := lw_at lw_m1 219 rfl
theorem q335 : (Jvm.Cond.stringRef "SkySpire" (73 : Nat) "ink") ∈ lw_tbl := lw_at lw_m1 220 rfl
theorem q336 : (Jvm.Cond.stringRef "SkySpire" (75 : Nat) "here") ∈ lw_tbl := lw_at lw_m1 221 rfl
theorem q337 : (Jvm.Cond.stringRef "SkySpire" (77 : Nat) "mine") ∈ lw_tbl := lw_at lw_m1 222 rfl
theorem q338 : (Jvm.Cond.stringRef "SkySpire" (79 : Nat) "next") ∈ lw_tbl := lw_at lw_m1 223 rfl
theorem q339 : (Jvm.Cond.stringRef "SkySpire" (81 : Nat) "day") ∈ lw_tbl := lw_at lw_m1 224 rfl
theorem q340 : (Jvm.Cond.classLink "SkySpire" (86 : Nat) "SkySpire$Rule") ∈ lw_all := lw_g (lw_at lw_m1 225 rfl) rfl
theorem q342 : (Jvm.Cond.classLink "SkySpire" (106 : Nat) "SkySpire$Image") ∈ lw_all := lw_g (lw_at lw_m1 227 rfl) rfl
theorem q344 : (Jvm.Cond.fieldLink "SkySpire" (138 : Nat) "SkySpire" "sky" "LSkySpire$Sky;") ∈ lw_all := lw_g (lw_at lw_m1 229 rfl) rfl
theorem q345 : (Jvm.Cond.fieldLink "SkySpire" (10 : Nat) "SkySpire" "own" "LSkySpire$Sky;") ∈ lw_all := lw_g (lw_at lw_m1 230 rfl) rfl
theorem q346 : (Jvm.Cond.fieldLink "SkySpire" (16 : Nat) "SkySpire" "spare" "LSkySpire$Sky;") ∈ lw_all := lw_g (lw_at lw_m1 231 rfl) rfl
theorem q347 : (Jvm.Cond.fieldLink "SkySpire" (19 : Nat) "SkySpire" "steps" "[LSkySpire$Sky;") ∈ lw_all := lw_g (lw_at lw_m1 232 rfl) rfl
theorem q349 : (Jvm.Cond.fieldLink "SkySpire" (23 : Nat) "SkySpire" "reading" "LSkySpire$Sky;") ∈ lw_all := lw_g (lw_at lw_m1 234 rfl) rfl
theorem q350 : (Jvm.Cond.fieldLink "SkySpire" (26 : Nat) "SkySpire" "blank" "LSkySpire$Sky;") ∈ lw_all := lw_g (lw_at lw_m1 235 rfl) rfl
theorem q352 : (Jvm.Cond.fieldLink "SkySpire" (322 : Nat) "SkySpire" "x" "I") ∈ lw_all := lw_g (lw_at lw_m1 237 rfl) rfl
theorem q353 : (Jvm.Cond.fieldLink "SkySpire" (29 : Nat) "SkySpire" "inForce" "I") ∈ lw_all := lw_g (lw_at lw_m1 238 rfl) rfl
theorem q355 : (Jvm.Cond.fieldLink "SkySpire" (36 : Nat) "SkySpire" "fault" "LSkySpire$Fault;") ∈ lw_all := lw_g (lw_at lw_m2 0 rfl) rfl
theorem q357 : (Jvm.Cond.fieldLink "SkySpire" (40 : Nat) "SkySpire" "tape" "[B") ∈ lw_all := lw_g (lw_at lw_m2 2 rfl) rfl
theorem q359 : (Jvm.Cond.fieldLink "SkySpire" (112 : Nat) "SkySpire" "taped" "I") ∈ lw_all := lw_g (lw_at lw_m2 4 rfl) rfl
theorem q360 : (Jvm.Cond.fieldLink "SkySpire" (54 : Nat) "SkySpire" "lineWords" "[Ljava/lang/String;") ∈ lw_all := lw_g (lw_at lw_m2 5 rfl) rfl
theorem q362 : (Jvm.Cond.fieldLink "SkySpire" (60 : Nat) "SkySpire" "clauseWords" "[Ljava/lang/String;") ∈ lw_all := lw_g (lw_at lw_m2 7 rfl) rfl
theorem q365 : (Jvm.Cond.fieldLink "SkySpire" (83 : Nat) "SkySpire" "wordNames" "[Ljava/lang/String;") ∈ lw_all := lw_g (lw_at lw_m2 10 rfl) rfl
theorem q366 : (Jvm.Cond.fieldLink "SkySpire" (88 : Nat) "SkySpire" "rules" "[LSkySpire$Rule;") ∈ lw_all := lw_g (lw_at lw_m2 11 rfl) rfl
theorem q367 : (Jvm.Cond.fieldLink "SkySpire" (147 : Nat) "SkySpire" "ruleMany" "I") ∈ lw_all := lw_g (lw_at lw_m2 12 rfl) rfl
theorem q368 : (Jvm.Cond.fieldLink "SkySpire" (280 : Nat) "SkySpire" "firstWay" "I") ∈ lw_all := lw_g (lw_at lw_m2 13 rfl) rfl
theorem q369 : (Jvm.Cond.fieldLink "SkySpire" (92 : Nat) "SkySpire" "strokesOne" "[I") ∈ lw_all := lw_g (lw_at lw_m2 14 rfl) rfl
theorem q370 : (Jvm.Cond.fieldLink "SkySpire" (96 : Nat) "SkySpire" "strokesOther" "[I") ∈ lw_all := lw_g (lw_at lw_m2 15 rfl) rfl
theorem q371 : (Jvm.Cond.fieldLink "SkySpire" (99 : Nat) "SkySpire" "isFit" "[Z") ∈ lw_all := lw_g (lw_at lw_m2 16 rfl) rfl
theorem q372 : (Jvm.Cond.fieldLink "SkySpire" (103 : Nat) "SkySpire" "whoseThen" "[I") ∈ lw_all := lw_g (lw_at lw_m2 17 rfl) rfl
theorem q373 : (Jvm.Cond.fieldLink "SkySpire" (325 : Nat) "SkySpire" "drawX" "I") ∈ lw_all := lw_g (lw_at lw_m2 18 rfl) rfl
theorem q374 : (Jvm.Cond.fieldLink "SkySpire" (108 : Nat) "SkySpire" "images" "[LSkySpire$Image;") ∈ lw_all := lw_g (lw_at lw_m2 19 rfl) rfl
theorem q375 : (Jvm.Cond.lays "SkySpire" "SkySpire" "sky" "LSkySpire$Sky;") ∈ lw_all := lw_g (lw_at lw_m2 20 rfl) rfl
theorem q376 : (Jvm.Cond.soleField "SkySpire" "sky") ∈ lw_all := lw_g (lw_at lw_m2 21 rfl) rfl
theorem q377 : (Jvm.Cond.laysFinal "SkySpire" "SkySpire" "own" "LSkySpire$Sky;") ∈ lw_all := lw_g (lw_at lw_m2 22 rfl) rfl
theorem q378 : (Jvm.Cond.soleField "SkySpire" "own") ∈ lw_all := lw_g (lw_at lw_m2 23 rfl) rfl
theorem q379 : (Jvm.Cond.laysFinal "SkySpire" "SkySpire" "spare" "LSkySpire$Sky;") ∈ lw_all := lw_g (lw_at lw_m2 24 rfl) rfl
theorem q380 : (Jvm.Cond.soleField "SkySpire" "spare") ∈ lw_all := lw_g (lw_at lw_m2 25 rfl) rfl
theorem q381 : (Jvm.Cond.laysFinal "SkySpire" "SkySpire" "steps" "[LSkySpire$Sky;") ∈ lw_all := lw_g (lw_at lw_m2 26 rfl) rfl
theorem q382 : (Jvm.Cond.soleField "SkySpire" "steps") ∈ lw_all := lw_g (lw_at lw_m2 27 rfl) rfl
theorem q383 : (Jvm.Cond.laysFinal "SkySpire" "SkySpire" "reading" "LSkySpire$Sky;") ∈ lw_all := lw_g (lw_at lw_m2 28 rfl) rfl
theorem q384 : (Jvm.Cond.soleField "SkySpire" "reading") ∈ lw_all := lw_g (lw_at lw_m2 29 rfl) rfl
theorem q385 : (Jvm.Cond.laysFinal "SkySpire" "SkySpire" "blank" "LSkySpire$Sky;") ∈ lw_all := lw_g (lw_at lw_m2 30 rfl) rfl
theorem q386 : (Jvm.Cond.soleField "SkySpire" "blank") ∈ lw_all := lw_g (lw_at lw_m2 31 rfl) rfl
theorem q387 : (Jvm.Cond.lays "SkySpire" "SkySpire" "x" "I") ∈ lw_all := lw_g (lw_at lw_m2 32 rfl) rfl
theorem q388 : (Jvm.Cond.soleField "SkySpire" "x") ∈ lw_all := lw_g (lw_at lw_m2 33 rfl) rfl
theorem q389 : (Jvm.Cond.lays "SkySpire" "SkySpire" "inForce" "I") ∈ lw_all := lw_g (lw_at lw_m2 34 rfl) rfl
theorem q390 : (Jvm.Cond.soleField "SkySpire" "inForce") ∈ lw_all := lw_g (lw_at lw_m2 35 rfl) rfl
theorem q391 : (Jvm.Cond.laysFinal "SkySpire" "SkySpire" "fault" "LSkySpire$Fault;") ∈ lw_all := lw_g (lw_at lw_m2 36 rfl) rfl
theorem q392 : (Jvm.Cond.soleField "SkySpire" "fault") ∈ lw_all := lw_g (lw_at lw_m2 37 rfl) rfl
theorem q393 : (Jvm.Cond.laysFinal "SkySpire" "SkySpire" "tape" "[B") ∈ lw_all := lw_g (lw_at lw_m2 38 rfl) rfl
theorem q394 : (Jvm.Cond.soleField "SkySpire" "tape") ∈ lw_all := lw_g (lw_at lw_m2 39 rfl) rfl
theorem q395 : (Jvm.Cond.lays "SkySpire" "SkySpire" "taped" "I") ∈ lw_all := lw_g (lw_at lw_m2 40 rfl) rfl
theorem q396 : (Jvm.Cond.soleField "SkySpire" "taped") ∈ lw_all := lw_g (lw_at lw_m2 41 rfl) rfl
theorem q397 : (Jvm.Cond.laysFinal "SkySpire" "SkySpire" "lineWords" "[Ljava/lang/String;") ∈ lw_all := lw_g (lw_at lw_m2 42 rfl) rfl
theorem q398 : (Jvm.Cond.soleField "SkySpire" "lineWords") ∈ lw_all := lw_g (lw_at lw_m2 43 rfl) rfl
theorem q399 : (Jvm.Cond.laysFinal "SkySpire" "SkySpire" "clauseWords" "[Ljava/lang/String;") ∈ lw_all := lw_g (lw_at lw_m2 44 rfl) rfl
theorem q400 : (Jvm.Cond.soleField "SkySpire" "clauseWords") ∈ lw_all := lw_g (lw_at lw_m2 45 rfl) rfl
theorem q401 : (Jvm.Cond.laysFinal "SkySpire" "SkySpire" "wordNames" "[Ljava/lang/String;") ∈ lw_all := lw_g (lw_at lw_m2 46 rfl) rfl
theorem q402 : (Jvm.Cond.soleField "SkySpire" "wordNames") ∈ lw_all := lw_g (lw_at lw_m2 47 rfl) rfl
theorem q403 : (Jvm.Cond.laysFinal "SkySpire" "SkySpire" "rules" "[LSkySpire$Rule;") ∈ lw_all := lw_g (lw_at lw_m2 48 rfl) rfl
theorem q404 : (Jvm.Cond.soleField "SkySpire" "rules") ∈ lw_all := lw_g (lw_at lw_m2 49 rfl) rfl
theorem q405 : (Jvm.Cond.lays "SkySpire" "SkySpire" "ruleMany" "I") ∈ lw_all := lw_g (lw_at lw_m2 50 rfl) rfl
theorem q406 : (Jvm.Cond.soleField "SkySpire" "ruleMany") ∈ lw_all := lw_g (lw_at lw_m2 51 rfl) rfl
theorem q407 : (Jvm.Cond.lays "SkySpire" "SkySpire" "firstWay" "I") ∈ lw_all := lw_g (lw_at lw_m2 52 rfl) rfl
theorem q408 : (Jvm.Cond.soleField "SkySpire" "firstWay") ∈ lw_all := lw_g (lw_at lw_m2 53 rfl) rfl
theorem q409 : (Jvm.Cond.laysFinal "SkySpire" "SkySpire" "strokesOne" "[I") ∈ lw_all := lw_g (lw_at lw_m2 54 rfl) rfl
theorem q410 : (Jvm.Cond.soleField "SkySpire" "strokesOne") ∈ lw_all := lw_g (lw_at lw_m2 55 rfl) rfl
theorem q411 : (Jvm.Cond.laysFinal "SkySpire" "SkySpire" "strokesOther" "[I") ∈ lw_all := lw_g (lw_at lw_m2 56 rfl) rfl
theorem q412 : (Jvm.Cond.soleField "SkySpire" "strokesOther") ∈ lw_all := lw_g (lw_at lw_m2 57 rfl) rfl
theorem q413 : (Jvm.Cond.laysFinal "SkySpire" "SkySpire" "isFit" "[Z") ∈ lw_all := lw_g (lw_at lw_m2 58 rfl) rfl
theorem q414 : (Jvm.Cond.soleField "SkySpire" "isFit") ∈ lw_all := lw_g (lw_at lw_m2 59 rfl) rfl
theorem q415 : (Jvm.Cond.laysFinal "SkySpire" "SkySpire" "whoseThen" "[I") ∈ lw_all := lw_g (lw_at lw_m2 60 rfl) rfl
theorem q416 : (Jvm.Cond.soleField "SkySpire" "whoseThen") ∈ lw_all := lw_g (lw_at lw_m2 61 rfl) rfl
theorem q417 : (Jvm.Cond.lays "SkySpire" "SkySpire" "drawX" "I") ∈ lw_all := lw_g (lw_at lw_m2 62 rfl) rfl
theorem q418 : (Jvm.Cond.soleField "SkySpire" "drawX") ∈ lw_all := lw_g (lw_at lw_m2 63 rfl) rfl
theorem q419 : (Jvm.Cond.laysFinal "SkySpire" "SkySpire" "images" "[LSkySpire$Image;") ∈ lw_all := lw_g (lw_at lw_m2 64 rfl) rfl
theorem q420 : (Jvm.Cond.soleField "SkySpire" "images") ∈ lw_all := lw_g (lw_at lw_m2 65 rfl) rfl
theorem q421 : (Jvm.Cond.superclass "SkySpire" "java/lang/Object") ∈ lw_all := lw_g (lw_at lw_m2 66 rfl) rfl
theorem q423 : (Jvm.Cond.instanceMethod ({ cls := "SkySpire", name := "feed", desc := "(IIIII)I" } : Jvm.MethodName)) ∈ lw_all := lw_g (lw_at lw_m2 68 rfl) rfl
theorem q424 : (Jvm.Cond.selects "SkySpire" ({ cls := "SkySpire", name := "feed", desc := "(IIIII)I" } : Jvm.MethodName) ({ cls := "SkySpire", name := "feed", desc := "(IIIII)I" } : Jvm.MethodName)) ∈ lw_all := lw_g (lw_at lw_m2 69 rfl) rfl
theorem q425 : (Jvm.Cond.code ({ cls := "SkySpire", name := "feed", desc := "(IIIII)I" } : Jvm.MethodName) prog_1_method_4_code (6 : Nat) (Option.some Jvm.ClassFile.FieldType.int)) ∈ lw_all := lw_g (lw_at lw_m2 70 rfl) rfl
theorem q426 : (Jvm.Cond.methodLink "SkySpire" (115 : Nat) ({ cls := "SkySpire", name := "four", desc := "(I)V" } : Jvm.MethodName)) ∈ lw_all := lw_g (lw_at lw_m2 71 rfl) rfl
theorem q427 : (Jvm.Cond.privateMethod ({ cls := "SkySpire", name := "four", desc := "(I)V" } : Jvm.MethodName)) ∈ lw_tbl := lw_at lw_m2 72 rfl
theorem q428 : (Jvm.Cond.instanceMethod ({ cls := "SkySpire", name := "four", desc := "(I)V" } : Jvm.MethodName)) ∈ lw_all := lw_g (lw_at lw_m2 73 rfl) rfl
theorem q429 : (Jvm.Cond.code ({ cls := "SkySpire", name := "four", desc := "(I)V" } : Jvm.MethodName) prog_1_method_5_code (3 : Nat) (Option.none : Option Jvm.ClassFile.FieldType)) ∈ lw_all := lw_g (lw_at lw_m2 74 rfl) rfl
theorem q431 : (Jvm.Cond.instanceMethod ({ cls := "SkySpire", name := "end", desc := "(I)I" } : Jvm.MethodName)) ∈ lw_all := lw_g (lw_at lw_m2 76 rfl) rfl
theorem q432 : (Jvm.Cond.selects "SkySpire" ({ cls := "SkySpire", name := "end", desc := "(I)I" } : Jvm.MethodName) ({ cls := "SkySpire", name := "end", desc := "(I)I" } : Jvm.MethodName)) ∈ lw_all := lw_g (lw_at lw_m2 77 rfl) rfl
theorem q433 : (Jvm.Cond.code ({ cls := "SkySpire", name := "end", desc := "(I)I" } : Jvm.MethodName) prog_1_method_6_code (2 : Nat) (Option.some Jvm.ClassFile.FieldType.int)) ∈ lw_all := lw_g (lw_at lw_m2 78 rfl) rfl
theorem q435 : (Jvm.Cond.instanceMethod ({ cls := "SkySpire", name := "sky", desc := "()I" } : Jvm.MethodName)) ∈ lw_all := lw_g (lw_at lw_m2 80 rfl) rfl
theorem q436 : (Jvm.Cond.selects "SkySpire" ({ cls := "SkySpire", name := "sky", desc := "()I" } : Jvm.MethodName) ({ cls := "SkySpire", name := "sky", desc := "()I" } : Jvm.MethodName)) ∈ lw_all := lw_g (lw_at lw_m2 81 rfl) rfl
theorem q437 : (Jvm.Cond.codeWith ({ cls := "SkySpire", name := "sky", desc := "()I" } : Jvm.MethodName) prog_1_method_8_code (3 : Nat) (Option.some Jvm.ClassFile.FieldType.int) [((0 : Nat), (30 : Nat), (33 : Nat), (33 : Nat))]) ∈ lw_all := lw_g (lw_at lw_m2 82 rfl) rfl
theorem q438 : (Jvm.Cond.classLink "SkySpire" (125 : Nat) "SkySpire$Text") ∈ lw_all := lw_g (lw_at lw_m2 83 rfl) rfl
theorem q440 : (Jvm.Cond.methodLinkNest "SkySpire" (127 : Nat) ({ cls := "SkySpire$Text", name := "<init>", desc := "(LSkySpire;)V" } : Jvm.MethodName) "SkySpire") ∈ lw_tbl := lw_at lw_m2 85 rfl
theorem q466 : (Jvm.Cond.methodLink "SkySpire" (130 : Nat) ({ cls := "SkySpire$Text", name := "skyTold", desc := "()LSkySpire$Sky;" } : Jvm.MethodName)) ∈ lw_all := lw_g (lw_at lw_m2 111 rfl) rfl
theorem q570 : (Jvm.Cond.static ({ cls := "SkySpire", name := "in", desc := "(JJJ)Z" } : Jvm.MethodName)) ∈ lw_all := lw_g (lw_at lw_m2 215 rfl) rfl
theorem q571 : (Jvm.Cond.code ({ cls := "SkySpire", name := "in", desc := "(JJJ)Z" } : Jvm.MethodName) prog_1_method_1_code (6 : Nat) (Option.some Jvm.ClassFile.FieldType.boolean)) ∈ lw_all := lw_g (lw_at lw_m2 216 rfl) rfl
theorem q604 : (Jvm.Cond.methodLink "SkySpire" (134 : Nat) ({ cls := "SkySpire$Sky", name := "copies", desc := "(LSkySpire$Sky;)LSkySpire$Sky;" } : Jvm.MethodName)) ∈ lw_all := lw_g (lw_at lw_m3 9 rfl) rfl
theorem q605 : (Jvm.Cond.methodLink "SkySpire" (143 : Nat) ({ cls := "SkySpire", name := "faulted", desc := "()I" } : Jvm.MethodName)) ∈ lw_all := lw_g (lw_at lw_m3 10 rfl) rfl
theorem q606 : (Jvm.Cond.privateMethod ({ cls := "SkySpire", name := "faulted", desc := "()I" } : Jvm.MethodName)) ∈ lw_tbl := lw_at lw_m3 11 rfl
theorem q607 : (Jvm.Cond.instanceMethod ({ cls := "SkySpire", name := "faulted", desc := "()I" } : Jvm.MethodName)) ∈ lw_all := lw_g (lw_at lw_m3 12 rfl) rfl
theorem q608 : (Jvm.Cond.code ({ cls := "SkySpire", name := "faulted", desc := "()I" } : Jvm.MethodName) prog_1_method_7_code (1 : Nat) (Option.some Jvm.ClassFile.FieldType.int)) ∈ lw_all := lw_g (lw_at lw_m3 13 rfl) rfl
theorem q610 : (Jvm.Cond.instanceMethod ({ cls := "SkySpire", name := "rule", desc := "()I" } : Jvm.MethodName)) ∈ lw_all := lw_g (lw_at lw_m3 15 rfl) rfl
theorem q611 : (Jvm.Cond.selects "SkySpire" ({ cls := "SkySpire", name := "rule", desc := "()I" } : Jvm.MethodName) ({ cls := "SkySpire", name := "rule", desc := "()I" } : Jvm.MethodName)) ∈ lw_all := lw_g (lw_at lw_m3 16 rfl) rfl
theorem q612 : (Jvm.Cond.codeWith ({ cls := "SkySpire", name := "rule", desc := "()I" } : Jvm.MethodName) prog_1_method_9_code (3 : Nat) (Option.some Jvm.ClassFile.FieldType.int) [((16 : Nat), (46 : Nat), (49 : Nat), (33 : Nat))]) ∈ lw_all := lw_g (lw_at lw_m3 17 rfl) rfl
theorem q613 : (Jvm.Cond.methodLink "SkySpire" (150 : Nat) ({ cls := "SkySpire$Text", name := "ruleTold", desc := "()LSkySpire$Rule;" } : Jvm.MethodName)) ∈ lw_all := lw_g (lw_at lw_m3 18 rfl) rfl
theorem q783 : (Jvm.Cond.instanceMethod ({ cls := "SkySpire", name := "force", desc := "(I)I" } : Jvm.MethodName)) ∈ lw_all := lw_g (lw_at lw_m3 188 rfl) rfl
theorem q784 : (Jvm.Cond.selects "SkySpire" ({ cls := "SkySpire", name := "force", desc := "(I)I" } : Jvm.MethodName) ({ cls := "SkySpire", name := "force", desc := "(I)I" } : Jvm.MethodName)) ∈ lw_all := lw_g (lw_at lw_m3 189 rfl) rfl
theorem q785 : (Jvm.Cond.code ({ cls := "SkySpire", name := "force", desc := "(I)I" } : Jvm.MethodName) prog_1_method_10_code (3 : Nat) (Option.some Jvm.ClassFile.FieldType.int)) ∈ lw_all := lw_g (lw_at lw_m3 190 rfl) rfl
theorem q787 : (Jvm.Cond.instanceMethod ({ cls := "SkySpire", name := "pen", desc := "(II)I" } : Jvm.MethodName)) ∈ lw_all := lw_g (lw_at lw_m3 192 rfl) rfl
theorem q788 : (Jvm.Cond.selects "SkySpire" ({ cls := "SkySpire", name := "pen", desc := "(II)I" } : Jvm.MethodName) ({ cls := "SkySpire", name := "pen", desc := "(II)I" } : Jvm.MethodName)) ∈ lw_all := lw_g (lw_at lw_m3 193 rfl) rfl
theorem q789 : (Jvm.Cond.code ({ cls := "SkySpire", name := "pen", desc := "(II)I" } : Jvm.MethodName) prog_1_method_14_code (3 : Nat) (Option.some Jvm.ClassFile.FieldType.int)) ∈ lw_all := lw_g (lw_at lw_m3 194 rfl) rfl
theorem q790 : (Jvm.Cond.methodLink "SkySpire" (157 : Nat) ({ cls := "SkySpire", name := "isPen", desc := "(I)Z" } : Jvm.MethodName)) ∈ lw_all := lw_g (lw_at lw_m3 195 rfl) rfl
theorem q791 : (Jvm.Cond.privateMethod ({ cls := "SkySpire", name := "isPen", desc := "(I)Z" } : Jvm.MethodName)) ∈ lw_tbl := lw_at lw_m3 196 rfl
theorem q792 : (Jvm.Cond.instanceMethod ({ cls := "SkySpire", name := "isPen", desc := "(I)Z" } : Jvm.MethodName)) ∈ lw_all := lw_g (lw_at lw_m3 197 rfl) rfl
theorem q793 : (Jvm.Cond.code ({ cls := "SkySpire", name := "isPen", desc := "(I)Z" } : Jvm.MethodName) prog_1_method_13_code (2 : Nat) (Option.some Jvm.ClassFile.FieldType.boolean)) ∈ lw_all := lw_g (lw_at lw_m3 198 rfl) rfl
theorem q794 : (Jvm.Cond.methodLink "SkySpire" (169 : Nat) ({ cls := "SkySpire$Sky", name := "strokesOf", desc := "(I)I" } : Jvm.MethodName)) ∈ lw_all := lw_g (lw_at lw_m3 199 rfl) rfl
theorem q800 : (Jvm.Cond.instanceMethod ({ cls := "SkySpire", name := "cell", desc := "(II)I" } : Jvm.MethodName)) ∈ lw_all := lw_g (lw_at lw_m3 205 rfl) rfl
theorem q801 : (Jvm.Cond.selects "SkySpire" ({ cls := "SkySpire", name := "cell", desc := "(II)I" } : Jvm.MethodName) ({ cls := "SkySpire", name := "cell", desc := "(II)I" } : Jvm.MethodName)) ∈ lw_all := lw_g (lw_at lw_m3 206 rfl) rfl
theorem q802 : (Jvm.Cond.code ({ cls := "SkySpire", name := "cell", desc := "(II)I" } : Jvm.MethodName) prog_1_method_15_code (3 : Nat) (Option.some Jvm.ClassFile.FieldType.int)) ∈ lw_all := lw_g (lw_at lw_m3 207 rfl) rfl
theorem q803 : (Jvm.Cond.methodLink "SkySpire" (173 : Nat) ({ cls := "SkySpire", name := "isCell", desc := "(I)Z" } : Jvm.MethodName)) ∈ lw_all := lw_g (lw_at lw_m3 208 rfl) rfl
theorem q804 : (Jvm.Cond.privateMethod ({ cls := "SkySpire", name := "isCell", desc := "(I)Z" } : Jvm.MethodName)) ∈ lw_tbl := lw_at lw_m3 209 rfl
theorem q805 : (Jvm.Cond.instanceMethod ({ cls := "SkySpire", name := "isCell", desc := "(I)Z" } : Jvm.MethodName)) ∈ lw_all := lw_g (lw_at lw_m3 210 rfl) rfl
theorem q806 : (Jvm.Cond.code ({ cls := "SkySpire", name := "isCell", desc := "(I)Z" } : Jvm.MethodName) prog_1_method_12_code (2 : Nat) (Option.some Jvm.ClassFile.FieldType.boolean)) ∈ lw_all := lw_g (lw_at lw_m3 211 rfl) rfl
theorem q807 : (Jvm.Cond.methodLink "SkySpire" (154 : Nat) ({ cls := "SkySpire$Sky", name := "cells", desc := "()I" } : Jvm.MethodName)) ∈ lw_all := lw_g (lw_at lw_m3 212 rfl) rfl
theorem q808 : (Jvm.Cond.constantLong "SkySpire" (176 : Nat) (2 : Int64)) ∈ lw_all := lw_g (lw_at lw_m3 213 rfl) rfl
theorem q809 : (Jvm.Cond.methodLink "SkySpire" (178 : Nat) ({ cls := "SkySpire", name := "in", desc := "(JJJ)Z" } : Jvm.MethodName)) ∈ lw_all := lw_g (lw_at lw_m3 214 rfl) rfl
theorem q811 : (Jvm.Cond.instanceMethod ({ cls := "SkySpire", name := "undo", desc := "()I" } : Jvm.MethodName)) ∈ lw_all := lw_g (lw_at lw_m3 216 rfl) rfl
theorem q812 : (Jvm.Cond.selects "SkySpire" ({ cls := "SkySpire", name := "undo", desc := "()I" } : Jvm.MethodName) ({ cls := "SkySpire", name := "undo", desc := "()I" } : Jvm.MethodName)) ∈ lw_all := lw_g (lw_at lw_m3 217 rfl) rfl
theorem q813 : (Jvm.Cond.code ({ cls := "SkySpire", name := "undo", desc := "()I" } : Jvm.MethodName) prog_1_method_17_code (1 : Nat) (Option.some Jvm.ClassFile.FieldType.int)) ∈ lw_all := lw_g (lw_at lw_m3 218 rfl) rfl
theorem q814 : (Jvm.Cond.methodLink "SkySpire" (205 : Nat) ({ cls := "SkySpire$Sky", name := "takes", desc := "(I)V" } : Jvm.MethodName)) ∈ lw_all := lw_g (lw_at lw_m3 219 rfl) rfl
theorem q819 : (Jvm.Cond.instanceMethod ({ cls := "SkySpire", name := "day", desc := "()I" } : Jvm.MethodName)) ∈ lw_all := lw_g (lw_at lw_m3 224 rfl) rfl
theorem q820 : (Jvm.Cond.selects "SkySpire" ({ cls := "SkySpire", name := "day", desc := "()I" } : Jvm.MethodName) ({ cls := "SkySpire", name := "day", desc := "()I" } : Jvm.MethodName)) ∈ lw_all := lw_g (lw_at lw_m3 225 rfl) rfl
theorem q821 : (Jvm.Cond.code ({ cls := "SkySpire", name := "day", desc := "()I" } : Jvm.MethodName) prog_1_method_18_code (1 : Nat) (Option.some Jvm.ClassFile.FieldType.int)) ∈ lw_all := lw_g (lw_at lw_m3 226 rfl) rfl
theorem q822 : (Jvm.Cond.methodLink "SkySpire" (211 : Nat) ({ cls := "SkySpire", name := "keepsAct", desc := "()V" } : Jvm.MethodName)) ∈ lw_all := lw_g (lw_at lw_m3 227 rfl) rfl
theorem q823 : (Jvm.Cond.privateMethod ({ cls := "SkySpire", name := "keepsAct", desc := "()V" } : Jvm.MethodName)) ∈ lw_tbl := lw_at lw_m3 228 rfl
theorem q824 : (Jvm.Cond.instanceMethod ({ cls := "SkySpire", name := "keepsAct", desc := "()V" } : Jvm.MethodName)) ∈ lw_all := lw_g (lw_at lw_m3 229 rfl) rfl
theorem q825 : (Jvm.Cond.code ({ cls := "SkySpire", name := "keepsAct", desc := "()V" } : Jvm.MethodName) prog_1_method_16_code (1 : Nat) (Option.none : Option Jvm.ClassFile.FieldType)) ∈ lw_all := lw_g (lw_at lw_m3 230 rfl) rfl
theorem q826 : (Jvm.Cond.methodLink "SkySpire" (196 : Nat) ({ cls := "java/lang/System", name := "arraycopy", desc := "(Ljava/lang/Object;ILjava/lang/Object;II)V" } : Jvm.MethodName)) ∈ lw_all := lw_g (lw_at lw_m3 231 rfl) rfl
theorem q827 : (Jvm.Cond.methodLink "SkySpire" (202 : Nat) ({ cls := "SkySpire$Sky", name := "lays", desc := "(I)V" } : Jvm.MethodName)) ∈ lw_all := lw_g (lw_at lw_m3 232 rfl) rfl
theorem q831 : (Jvm.Cond.methodLink "SkySpire" (214 : Nat) ({ cls := "SkySpire", name := "law", desc := "()LSkySpire$Rule;" } : Jvm.MethodName)) ∈ lw_all := lw_g (lw_at lw_m3 236 rfl) rfl
theorem q832 : (Jvm.Cond.privateMethod ({ cls := "SkySpire", name := "law", desc := "()LSkySpire$Rule;" } : Jvm.MethodName)) ∈ lw_tbl := lw_at lw_m3 237 rfl
theorem q833 : (Jvm.Cond.instanceMethod ({ cls := "SkySpire", name := "law", desc := "()LSkySpire$Rule;" } : Jvm.MethodName)) ∈ lw_all := lw_g (lw_at lw_m3 238 rfl) rfl
theorem q834 : (Jvm.Cond.code ({ cls := "SkySpire", name := "law", desc := "()LSkySpire$Rule;" } : Jvm.MethodName) prog_1_method_11_code (1 : Nat) (Option.some (Jvm.ClassFile.FieldType.object "SkySpire$Rule"))) ∈ lw_all := lw_g (lw_at lw_m3 239 rfl) rfl
theorem q835 : (Jvm.Cond.methodLink "SkySpire" (217 : Nat) ({ cls := "SkySpire$Sky", name := "passes", desc := "(LSkySpire$Rule;)I" } : Jvm.MethodName)) ∈ lw_all := lw_g (lw_at lw_m4 0 rfl) rfl
theorem q844 : (Jvm.Cond.static ({ cls := "SkySpire", name := "has", desc := "(II)Z" } : Jvm.MethodName)) ∈ lw_all := lw_g (lw_at lw_m4 9 rfl) rfl
theorem q845 : (Jvm.Cond.code ({ cls := "SkySpire", name := "has", desc := "(II)Z" } : Jvm.MethodName) prog_1_method_2_code (2 : Nat) (Option.some Jvm.ClassFile.FieldType.boolean)) ∈ lw_all := lw_g (lw_at lw_m4 10 rfl) rfl
theorem q908 : (Jvm.Cond.instanceMethod ({ cls := "SkySpire", name := "stay", desc := "(I)I" } : Jvm.MethodName)) ∈ lw_all := lw_g (lw_at lw_m4 73 rfl) rfl
theorem q909 : (Jvm.Cond.selects "SkySpire" ({ cls := "SkySpire", name := "stay", desc := "(I)I" } : Jvm.MethodName) ({ cls := "SkySpire", name := "stay", desc := "(I)I" } : Jvm.MethodName)) ∈ lw_all := lw_g (lw_at lw_m4 74 rfl) rfl
theorem q910 : (Jvm.Cond.code ({ cls := "SkySpire", name := "stay", desc := "(I)I" } : Jvm.MethodName) prog_1_method_19_code (2 : Nat) (Option.some Jvm.ClassFile.FieldType.int)) ∈ lw_all := lw_g (lw_at lw_m4 75 rfl) rfl
theorem q912 : (Jvm.Cond.instanceMethod ({ cls := "SkySpire", name := "set", desc := "(II)I" } : Jvm.MethodName)) ∈ lw_all := lw_g (lw_at lw_m4 77 rfl) rfl
theorem q913 : (Jvm.Cond.selects "SkySpire" ({ cls := "SkySpire", name := "set", desc := "(II)I" } : Jvm.MethodName) ({ cls := "SkySpire", name := "set", desc := "(II)I" } : Jvm.MethodName)) ∈ lw_all := lw_g (lw_at lw_m4 78 rfl) rfl
theorem q914 : (Jvm.Cond.code ({ cls := "SkySpire", name := "set", desc := "(II)I" } : Jvm.MethodName) prog_1_method_20_code (4 : Nat) (Option.some Jvm.ClassFile.FieldType.int)) ∈ lw_all := lw_g (lw_at lw_m4 79 rfl) rfl
theorem q916 : (Jvm.Cond.instanceMethod ({ cls := "SkySpire", name := "bend", desc := "(II)I" } : Jvm.MethodName)) ∈ lw_all := lw_g (lw_at lw_m4 81 rfl) rfl
theorem q917 : (Jvm.Cond.selects "SkySpire" ({ cls := "SkySpire", name := "bend", desc := "(II)I" } : Jvm.MethodName) ({ cls := "SkySpire", name := "bend", desc := "(II)I" } : Jvm.MethodName)) ∈ lw_all := lw_g (lw_at lw_m4 82 rfl) rfl
theorem q918 : (Jvm.Cond.code ({ cls := "SkySpire", name := "bend", desc := "(II)I" } : Jvm.MethodName) prog_1_method_21_code (4 : Nat) (Option.some Jvm.ClassFile.FieldType.int)) ∈ lw_all := lw_g (lw_at lw_m4 83 rfl) rfl
theorem q919 : (Jvm.Cond.constantLong "SkySpire" (221 : Nat) (9 : Int64)) ∈ lw_all := lw_g (lw_at lw_m4 84 rfl) rfl
theorem q921 : (Jvm.Cond.instanceMethod ({ cls := "SkySpire", name := "blot", desc := "(I)I" } : Jvm.MethodName)) ∈ lw_all := lw_g (lw_at lw_m4 86 rfl) rfl
theorem q922 : (Jvm.Cond.selects "SkySpire" ({ cls := "SkySpire", name := "blot", desc := "(I)I" } : Jvm.MethodName) ({ cls := "SkySpire", name := "blot", desc := "(I)I" } : Jvm.MethodName)) ∈ lw_all := lw_g (lw_at lw_m4 87 rfl) rfl
theorem q923 : (Jvm.Cond.code ({ cls := "SkySpire", name := "blot", desc := "(I)I" } : Jvm.MethodName) prog_1_method_22_code (3 : Nat) (Option.some Jvm.ClassFile.FieldType.int)) ∈ lw_all := lw_g (lw_at lw_m4 88 rfl) rfl
theorem q924 : (Jvm.Cond.methodLink "SkySpire" (223 : Nat) ({ cls := "SkySpire$Sky", name := "blots", desc := "(I)V" } : Jvm.MethodName)) ∈ lw_all := lw_g (lw_at lw_m4 89 rfl) rfl
theorem q926 : (Jvm.Cond.instanceMethod ({ cls := "SkySpire", name := "ahead", desc := "(III)I" } : Jvm.MethodName)) ∈ lw_all := lw_g (lw_at lw_m4 91 rfl) rfl
theorem q927 : (Jvm.Cond.selects "SkySpire" ({ cls := "SkySpire", name := "ahead", desc := "(III)I" } : Jvm.MethodName) ({ cls := "SkySpire", name := "ahead", desc := "(III)I" } : Jvm.MethodName)) ∈ lw_all := lw_g (lw_at lw_m4 92 rfl) rfl
theorem q928 : (Jvm.Cond.code ({ cls := "SkySpire", name := "ahead", desc := "(III)I" } : Jvm.MethodName) prog_1_method_23_code (4 : Nat) (Option.some Jvm.ClassFile.FieldType.int)) ∈ lw_all := lw_g (lw_at lw_m4 93 rfl) rfl
theorem q929 : (Jvm.Cond.constantLong "SkySpire" (226 : Nat) (100 : Int64)) ∈ lw_all := lw_g (lw_at lw_m4 94 rfl) rfl
theorem q930 : (Jvm.Cond.constantLong "SkySpire" (228 : Nat) (3 : Int64)) ∈ lw_all := lw_g (lw_at lw_m4 95 rfl) rfl
theorem q931 : (Jvm.Cond.methodLink "SkySpire" (230 : Nat) ({ cls := "SkySpire$Sky", name := "goesOn", desc := "(ILSkySpire$Rule;)LSkySpire$Sky;" } : Jvm.MethodName)) ∈ lw_all := lw_g (lw_at lw_m4 96 rfl) rfl
theorem q936 : (Jvm.Cond.methodLink "SkySpire" (234 : Nat) ({ cls := "SkySpire$Sky", name := "strokes", desc := "()I" } : Jvm.MethodName)) ∈ lw_all := lw_g (lw_at lw_m4 101 rfl) rfl
theorem q940 : (Jvm.Cond.methodLink "SkySpire" (237 : Nat) ({ cls := "SkySpire$Sky", name := "like", desc := "()I" } : Jvm.MethodName)) ∈ lw_all := lw_g (lw_at lw_m4 105 rfl) rfl
theorem q945 : (Jvm.Cond.instanceMethod ({ cls := "SkySpire", name := "sign", desc := "()I" } : Jvm.MethodName)) ∈ lw_all := lw_g (lw_at lw_m4 110 rfl) rfl
theorem q946 : (Jvm.Cond.selects "SkySpire" ({ cls := "SkySpire", name := "sign", desc := "()I" } : Jvm.MethodName) ({ cls := "SkySpire", name := "sign", desc := "()I" } : Jvm.MethodName)) ∈ lw_all := lw_g (lw_at lw_m4 111 rfl) rfl
theorem q947 : (Jvm.Cond.code ({ cls := "SkySpire", name := "sign", desc := "()I" } : Jvm.MethodName) prog_1_method_24_code (2 : Nat) (Option.some Jvm.ClassFile.FieldType.int)) ∈ lw_all := lw_g (lw_at lw_m4 112 rfl) rfl
theorem q948 : (Jvm.Cond.methodLink "SkySpire" (240 : Nat) ({ cls := "SkySpire$Sky", name := "isSigned", desc := "()Z" } : Jvm.MethodName)) ∈ lw_all := lw_g (lw_at lw_m4 113 rfl) rfl
theorem q953 : (Jvm.Cond.instanceMethod ({ cls := "SkySpire", name := "clean", desc := "()I" } : Jvm.MethodName)) ∈ lw_all := lw_g (lw_at lw_m4 118 rfl) rfl
theorem q954 : (Jvm.Cond.selects "SkySpire" ({ cls := "SkySpire", name := "clean", desc := "()I" } : Jvm.MethodName) ({ cls := "SkySpire", name := "clean", desc := "()I" } : Jvm.MethodName)) ∈ lw_all := lw_g (lw_at lw_m4 119 rfl) rfl
theorem q955 : (Jvm.Cond.code ({ cls := "SkySpire", name := "clean", desc := "()I" } : Jvm.MethodName) prog_1_method_25_code (2 : Nat) (Option.some Jvm.ClassFile.FieldType.int)) ∈ lw_all := lw_g (lw_at lw_m4 120 rfl) rfl
theorem q957 : (Jvm.Cond.instanceMethod ({ cls := "SkySpire", name := "hold", desc := "(II)I" } : Jvm.MethodName)) ∈ lw_all := lw_g (lw_at lw_m4 122 rfl) rfl
theorem q958 : (Jvm.Cond.selects "SkySpire" ({ cls := "SkySpire", name := "hold", desc := "(II)I" } : Jvm.MethodName) ({ cls := "SkySpire", name := "hold", desc := "(II)I" } : Jvm.MethodName)) ∈ lw_all := lw_g (lw_at lw_m4 123 rfl) rfl
theorem q959 : (Jvm.Cond.code ({ cls := "SkySpire", name := "hold", desc := "(II)I" } : Jvm.MethodName) prog_1_method_26_code (7 : Nat) (Option.some Jvm.ClassFile.FieldType.int)) ∈ lw_all := lw_g (lw_at lw_m4 124 rfl) rfl
theorem q960 : (Jvm.Cond.constantLong "SkySpire" (244 : Nat) (60 : Int64)) ∈ lw_all := lw_g (lw_at lw_m4 125 rfl) rfl
theorem q961 : (Jvm.Cond.methodLink "SkySpire" (246 : Nat) ({ cls := "SkySpire$Sky", name := "standsAs", desc := "(LSkySpire$Sky;)LSkySpire$Sky;" } : Jvm.MethodName)) ∈ lw_all := lw_g (lw_at lw_m4 126 rfl) rfl
theorem q962 : (Jvm.Cond.methodLink "SkySpire" (249 : Nat) ({ cls := "java/lang/Integer", name := "bitCount", desc := "(I)I" } : Jvm.MethodName)) ∈ lw_all := lw_g (lw_at lw_m4 127 rfl) rfl
theorem q969 : (Jvm.Cond.instanceMethod ({ cls := "SkySpire", name := "wrote", desc := "(II)I" } : Jvm.MethodName)) ∈ lw_all := lw_g (lw_at lw_m4 134 rfl) rfl
theorem q970 : (Jvm.Cond.selects "SkySpire" ({ cls := "SkySpire", name := "wrote", desc := "(II)I" } : Jvm.MethodName) ({ cls := "SkySpire", name := "wrote", desc := "(II)I" } : Jvm.MethodName)) ∈ lw_all := lw_g (lw_at lw_m4 135 rfl) rfl
theorem q971 : (Jvm.Cond.code ({ cls := "SkySpire", name := "wrote", desc := "(II)I" } : Jvm.MethodName) prog_1_method_28_code (5 : Nat) (Option.some Jvm.ClassFile.FieldType.int)) ∈ lw_all := lw_g (lw_at lw_m4 136 rfl) rfl
theorem q972 : (Jvm.Cond.methodLink "SkySpire" (258 : Nat) ({ cls := "SkySpire", name := "writesAlone", desc := "(III)Z" } : Jvm.MethodName)) ∈ lw_all := lw_g (lw_at lw_m4 137 rfl) rfl
theorem q973 : (Jvm.Cond.privateMethod ({ cls := "SkySpire", name := "writesAlone", desc := "(III)Z" } : Jvm.MethodName)) ∈ lw_tbl := lw_at lw_m4 138 rfl
theorem q974 : (Jvm.Cond.instanceMethod ({ cls := "SkySpire", name := "writesAlone", desc := "(III)Z" } : Jvm.MethodName)) ∈ lw_all := lw_g (lw_at lw_m4 139 rfl) rfl
theorem q975 : (Jvm.Cond.code ({ cls := "SkySpire", name := "writesAlone", desc := "(III)Z" } : Jvm.MethodName) prog_1_method_27_code (6 : Nat) (Option.some Jvm.ClassFile.FieldType.boolean)) ∈ lw_all := lw_g (lw_at lw_m4 140 rfl) rfl
theorem q976 : (Jvm.Cond.methodLink "SkySpire" (254 : Nat) ({ cls := "SkySpire", name := "has", desc := "(II)Z" } : Jvm.MethodName)) ∈ lw_all := lw_g (lw_at lw_m4 141 rfl) rfl
theorem q978 : (Jvm.Cond.instanceMethod ({ cls := "SkySpire", name := "came", desc := "(IIII)I" } : Jvm.MethodName)) ∈ lw_all := lw_g (lw_at lw_m4 143 rfl) rfl
theorem q979 : (Jvm.Cond.selects "SkySpire" ({ cls := "SkySpire", name := "came", desc := "(IIII)I" } : Jvm.MethodName) ({ cls := "SkySpire", name := "came", desc := "(IIII)I" } : Jvm.MethodName)) ∈ lw_all := lw_g (lw_at lw_m4 144 rfl) rfl
theorem q980 : (Jvm.Cond.code ({ cls := "SkySpire", name := "came", desc := "(IIII)I" } : Jvm.MethodName) prog_1_method_29_code (8 : Nat) (Option.some Jvm.ClassFile.FieldType.int)) ∈ lw_all := lw_g (lw_at lw_m4 145 rfl) rfl
theorem q982 : (Jvm.Cond.instanceMethod ({ cls := "SkySpire", name := "change", desc := "(II)I" } : Jvm.MethodName)) ∈ lw_all := lw_g (lw_at lw_m4 147 rfl) rfl
theorem q983 : (Jvm.Cond.selects "SkySpire" ({ cls := "SkySpire", name := "change", desc := "(II)I" } : Jvm.MethodName) ({ cls := "SkySpire", name := "change", desc := "(II)I" } : Jvm.MethodName)) ∈ lw_all := lw_g (lw_at lw_m4 148 rfl) rfl
theorem q984 : (Jvm.Cond.code ({ cls := "SkySpire", name := "change", desc := "(II)I" } : Jvm.MethodName) prog_1_method_30_code (9 : Nat) (Option.some Jvm.ClassFile.FieldType.int)) ∈ lw_all := lw_g (lw_at lw_m4 149 rfl) rfl
theorem q985 : (Jvm.Cond.methodLink "SkySpire" (265 : Nat) ({ cls := "SkySpire$Sky", name := "swapsWinds", desc := "(II)V" } : Jvm.MethodName)) ∈ lw_all := lw_g (lw_at lw_m4 150 rfl) rfl
theorem q990 : (Jvm.Cond.instanceMethod ({ cls := "SkySpire", name := "game", desc := "(IIII)I" } : Jvm.MethodName)) ∈ lw_all := lw_g (lw_at lw_m4 155 rfl) rfl
theorem q991 : (Jvm.Cond.selects "SkySpire" ({ cls := "SkySpire", name := "game", desc := "(IIII)I" } : Jvm.MethodName) ({ cls := "SkySpire", name := "game", desc := "(IIII)I" } : Jvm.MethodName)) ∈ lw_all := lw_g (lw_at lw_m4 156 rfl) rfl
theorem q992 : (Jvm.Cond.code ({ cls := "SkySpire", name := "game", desc := "(IIII)I" } : Jvm.MethodName) prog_1_method_32_code (6 : Nat) (Option.some Jvm.ClassFile.FieldType.int)) ∈ lw_all := lw_g (lw_at lw_m4 157 rfl) rfl
theorem q993 : (Jvm.Cond.constantLong "SkySpire" (283 : Nat) (4 : Int64)) ∈ lw_all := lw_g (lw_at lw_m4 158 rfl) rfl
theorem q994 : (Jvm.Cond.methodLink "SkySpire" (276 : Nat) ({ cls := "SkySpire", name := "plays", desc := "(IIII)I" } : Jvm.MethodName)) ∈ lw_all := lw_g (lw_at lw_m4 159 rfl) rfl
theorem q995 : (Jvm.Cond.privateMethod ({ cls := "SkySpire", name := "plays", desc := "(IIII)I" } : Jvm.MethodName)) ∈ lw_tbl := lw_at lw_m4 160 rfl
theorem q996 : (Jvm.Cond.instanceMethod ({ cls := "SkySpire", name := "plays", desc := "(IIII)I" } : Jvm.MethodName)) ∈ lw_all := lw_g (lw_at lw_m4 161 rfl) rfl
theorem q997 : (Jvm.Cond.code ({ cls := "SkySpire", name := "plays", desc := "(IIII)I" } : Jvm.MethodName) prog_1_method_31_code (12 : Nat) (Option.some Jvm.ClassFile.FieldType.int)) ∈ lw_all := lw_g (lw_at lw_m4 162 rfl) rfl
theorem q998 : (Jvm.Cond.methodLink "SkySpire" (269 : Nat) ({ cls := "SkySpire$Sky", name := "beside", desc := "(II)I" } : Jvm.MethodName)) ∈ lw_all := lw_g (lw_at lw_m4 163 rfl) rfl
theorem q999 : (Jvm.Cond.methodLink "SkySpire" (273 : Nat) ({ cls := "SkySpire$Sky", name := "draws", desc := "(II)V" } : Jvm.MethodName)) ∈ lw_all := lw_g (lw_at lw_m4 164 rfl) rfl
theorem q1001 : (Jvm.Cond.instanceMethod ({ cls := "SkySpire", name := "rests", desc := "(IIII)I" } : Jvm.MethodName)) ∈ lw_all := lw_g (lw_at lw_m4 166 rfl) rfl
theorem q1002 : (Jvm.Cond.selects "SkySpire" ({ cls := "SkySpire", name := "rests", desc := "(IIII)I" } : Jvm.MethodName) ({ cls := "SkySpire", name := "rests", desc := "(IIII)I" } : Jvm.MethodName)) ∈ lw_all := lw_g (lw_at lw_m4 167 rfl) rfl
theorem q1003 : (Jvm.Cond.code ({ cls := "SkySpire", name := "rests", desc := "(IIII)I" } : Jvm.MethodName) prog_1_method_34_code (8 : Nat) (Option.some Jvm.ClassFile.FieldType.int)) ∈ lw_all := lw_g (lw_at lw_m4 168 rfl) rfl
theorem q1004 : (Jvm.Cond.constantLong "SkySpire" (285 : Nat) (20 : Int64)) ∈ lw_all := lw_g (lw_at lw_m4 169 rfl) rfl
theorem q1005 : (Jvm.Cond.methodLink "SkySpire" (287 : Nat) ({ cls := "SkySpire", name := "isRest", desc := "(II)Z" } : Jvm.MethodName)) ∈ lw_all := lw_g (lw_at lw_m4 170 rfl) rfl
theorem q1006 : (Jvm.Cond.privateMethod ({ cls := "SkySpire", name := "isRest", desc := "(II)Z" } : Jvm.MethodName)) ∈ lw_tbl := lw_at lw_m4 171 rfl
theorem q1007 : (Jvm.Cond.instanceMethod ({ cls := "SkySpire", name := "isRest", desc := "(II)Z" } : Jvm.MethodName)) ∈ lw_all := lw_g (lw_at lw_m4 172 rfl) rfl
theorem q1008 : (Jvm.Cond.code ({ cls := "SkySpire", name := "isRest", desc := "(II)Z" } : Jvm.MethodName) prog_1_method_33_code (4 : Nat) (Option.some Jvm.ClassFile.FieldType.boolean)) ∈ lw_all := lw_g (lw_at lw_m4 173 rfl) rfl
theorem q1010 : (Jvm.Cond.instanceMethod ({ cls := "SkySpire", name := "pence", desc := "(II)I" } : Jvm.MethodName)) ∈ lw_all := lw_g (lw_at lw_m4 175 rfl) rfl
theorem q1011 : (Jvm.Cond.selects "SkySpire" ({ cls := "SkySpire", name := "pence", desc := "(II)I" } : Jvm.MethodName) ({ cls := "SkySpire", name := "pence", desc := "(II)I" } : Jvm.MethodName)) ∈ lw_all := lw_g (lw_at lw_m4 176 rfl) rfl
theorem q1012 : (Jvm.Cond.code ({ cls := "SkySpire", name := "pence", desc := "(II)I" } : Jvm.MethodName) prog_1_method_35_code (9 : Nat) (Option.some Jvm.ClassFile.FieldType.int)) ∈ lw_all := lw_g (lw_at lw_m4 177 rfl) rfl
theorem q1013 : (Jvm.Cond.constantLong "SkySpire" (290 : Nat) (9999 : Int64)) ∈ lw_all := lw_g (lw_at lw_m4 178 rfl) rfl
theorem q1015 : (Jvm.Cond.instanceMethod ({ cls := "SkySpire", name := "read", desc := "(II)I" } : Jvm.MethodName)) ∈ lw_all := lw_g (lw_at lw_m4 180 rfl) rfl
theorem q1016 : (Jvm.Cond.selects "SkySpire" ({ cls := "SkySpire", name := "read", desc := "(II)I" } : Jvm.MethodName) ({ cls := "SkySpire", name := "read", desc := "(II)I" } : Jvm.MethodName)) ∈ lw_all := lw_g (lw_at lw_m4 181 rfl) rfl
theorem q1017 : (Jvm.Cond.code ({ cls := "SkySpire", name := "read", desc := "(II)I" } : Jvm.MethodName) prog_1_method_39_code (4 : Nat) (Option.some Jvm.ClassFile.FieldType.int)) ∈ lw_all := lw_g (lw_at lw_m4 182 rfl) rfl
theorem q1018 : (Jvm.Cond.methodLink "SkySpire" (300 : Nat) ({ cls := "SkySpire", name := "ruleOf", desc := "(I)LSkySpire$Rule;" } : Jvm.MethodName)) ∈ lw_all := lw_g (lw_at lw_m4 183 rfl) rfl
theorem q1019 : (Jvm.Cond.privateMethod ({ cls := "SkySpire", name := "ruleOf", desc := "(I)LSkySpire$Rule;" } : Jvm.MethodName)) ∈ lw_tbl := lw_at lw_m4 184 rfl
theorem q1020 : (Jvm.Cond.instanceMethod ({ cls := "SkySpire", name := "ruleOf", desc := "(I)LSkySpire$Rule;" } : Jvm.MethodName)) ∈ lw_all := lw_g (lw_at lw_m4 185 rfl) rfl
theorem q1021 : (Jvm.Cond.code ({ cls := "SkySpire", name := "ruleOf", desc := "(I)LSkySpire$Rule;" } : Jvm.MethodName) prog_1_method_38_code (2 : Nat) (Option.some (Jvm.ClassFile.FieldType.object "SkySpire$Rule"))) ∈ lw_all := lw_g (lw_at lw_m4 186 rfl) rfl
theorem q1022 : (Jvm.Cond.methodLink "SkySpire" (304 : Nat) ({ cls := "SkySpire", name := "parts", desc := "(I)I" } : Jvm.MethodName)) ∈ lw_all := lw_g (lw_at lw_m4 187 rfl) rfl
theorem q1023 : (Jvm.Cond.privateMethod ({ cls := "SkySpire", name := "parts", desc := "(I)I" } : Jvm.MethodName)) ∈ lw_tbl := lw_at lw_m4 188 rfl
theorem q1024 : (Jvm.Cond.instanceMethod ({ cls := "SkySpire", name := "parts", desc := "(I)I" } : Jvm.MethodName)) ∈ lw_all := lw_g (lw_at lw_m4 189 rfl) rfl
theorem q1025 : (Jvm.Cond.code ({ cls := "SkySpire", name := "parts", desc := "(I)I" } : Jvm.MethodName) prog_1_method_37_code (6 : Nat) (Option.some Jvm.ClassFile.FieldType.int)) ∈ lw_all := lw_g (lw_at lw_m4 190 rfl) rfl
theorem q1026 : (Jvm.Cond.methodLink "SkySpire" (297 : Nat) ({ cls := "SkySpire", name := "alikeOf", desc := "(I)I" } : Jvm.MethodName)) ∈ lw_all := lw_g (lw_at lw_m4 191 rfl) rfl
theorem q1027 : (Jvm.Cond.privateMethod ({ cls := "SkySpire", name := "alikeOf", desc := "(I)I" } : Jvm.MethodName)) ∈ lw_tbl := lw_at lw_m4 192 rfl
theorem q1028 : (Jvm.Cond.instanceMethod ({ cls := "SkySpire", name := "alikeOf", desc := "(I)I" } : Jvm.MethodName)) ∈ lw_all := lw_g (lw_at lw_m4 193 rfl) rfl
theorem q1029 : (Jvm.Cond.code ({ cls := "SkySpire", name := "alikeOf", desc := "(I)I" } : Jvm.MethodName) prog_1_method_36_code (6 : Nat) (Option.some Jvm.ClassFile.FieldType.int)) ∈ lw_all := lw_g (lw_at lw_m4 194 rfl) rfl
theorem q1030 : (Jvm.Cond.methodLink "SkySpire" (292 : Nat) ({ cls := "java/lang/Math", name := "max", desc := "(II)I" } : Jvm.MethodName)) ∈ lw_all := lw_g (lw_at lw_m4 195 rfl) rfl
theorem q1034 : (Jvm.Cond.instanceMethod ({ cls := "SkySpire", name := "note", desc := "(III)I" } : Jvm.MethodName)) ∈ lw_all := lw_g (lw_at lw_m4 199 rfl) rfl
theorem q1035 : (Jvm.Cond.selects "SkySpire" ({ cls := "SkySpire", name := "note", desc := "(III)I" } : Jvm.MethodName) ({ cls := "SkySpire", name := "note", desc := "(III)I" } : Jvm.MethodName)) ∈ lw_all := lw_g (lw_at lw_m4 200 rfl) rfl
theorem q1036 : (Jvm.Cond.code ({ cls := "SkySpire", name := "note", desc := "(III)I" } : Jvm.MethodName) prog_1_method_40_code (5 : Nat) (Option.some Jvm.ClassFile.FieldType.int)) ∈ lw_all := lw_g (lw_at lw_m4 201 rfl) rfl
theorem q1038 : (Jvm.Cond.instanceMethod ({ cls := "SkySpire", name := "ruled", desc := "(I)I" } : Jvm.MethodName)) ∈ lw_all := lw_g (lw_at lw_m4 203 rfl) rfl
theorem q1039 : (Jvm.Cond.selects "SkySpire" ({ cls := "SkySpire", name := "ruled", desc := "(I)I" } : Jvm.MethodName) ({ cls := "SkySpire", name := "ruled", desc := "(I)I" } : Jvm.MethodName)) ∈ lw_all := lw_g (lw_at lw_m4 204 rfl) rfl
theorem q1040 : (Jvm.Cond.code ({ cls := "SkySpire", name := "ruled", desc := "(I)I" } : Jvm.MethodName) prog_1_method_43_code (5 : Nat) (Option.some Jvm.ClassFile.FieldType.int)) ∈ lw_all := lw_g (lw_at lw_m4 205 rfl) rfl
theorem q1041 : (Jvm.Cond.methodLink "SkySpire" (319 : Nat) ({ cls := "SkySpire", name := "gathersRules", desc := "(I)V" } : Jvm.MethodName)) ∈ lw_all := lw_g (lw_at lw_m4 206 rfl) rfl
theorem q1042 : (Jvm.Cond.privateMethod ({ cls := "SkySpire", name := "gathersRules", desc := "(I)V" } : Jvm.MethodName)) ∈ lw_tbl := lw_at lw_m4 207 rfl
theorem q1043 : (Jvm.Cond.instanceMethod ({ cls := "SkySpire", name := "gathersRules", desc := "(I)V" } : Jvm.MethodName)) ∈ lw_all := lw_g (lw_at lw_m4 208 rfl) rfl
theorem q1044 : (Jvm.Cond.code ({ cls := "SkySpire", name := "gathersRules", desc := "(I)V" } : Jvm.MethodName) prog_1_method_42_code (4 : Nat) (Option.none : Option Jvm.ClassFile.FieldType)) ∈ lw_all := lw_g (lw_at lw_m4 209 rfl) rfl
theorem q1045 : (Jvm.Cond.methodLink "SkySpire" (313 : Nat) ({ cls := "SkySpire$Sky", name := "begins", desc := "()V" } : Jvm.MethodName)) ∈ lw_all := lw_g (lw_at lw_m4 210 rfl) rfl
theorem q1046 : (Jvm.Cond.methodLink "SkySpire" (316 : Nat) ({ cls := "SkySpire", name := "areNotesSo", desc := "(I)Z" } : Jvm.MethodName)) ∈ lw_all := lw_g (lw_at lw_m4 211 rfl) rfl
theorem q1047 : (Jvm.Cond.privateMethod ({ cls := "SkySpire", name := "areNotesSo", desc := "(I)Z" } : Jvm.MethodName)) ∈ lw_tbl := lw_at lw_m4 212 rfl
theorem q1048 : (Jvm.Cond.instanceMethod ({ cls := "SkySpire", name := "areNotesSo", desc := "(I)Z" } : Jvm.MethodName)) ∈ lw_all := lw_g (lw_at lw_m4 213 rfl) rfl
theorem q1049 : (Jvm.Cond.code ({ cls := "SkySpire", name := "areNotesSo", desc := "(I)Z" } : Jvm.MethodName) prog_1_method_41_code (3 : Nat) (Option.some Jvm.ClassFile.FieldType.boolean)) ∈ lw_all := lw_g (lw_at lw_m4 214 rfl) rfl
theorem q1051 : (Jvm.Cond.instanceMethod ({ cls := "SkySpire", name := "look", desc := "(II)I" } : Jvm.MethodName)) ∈ lw_all := lw_g (lw_at lw_m4 216 rfl) rfl
theorem q1052 : (Jvm.Cond.selects "SkySpire" ({ cls := "SkySpire", name := "look", desc := "(II)I" } : Jvm.MethodName) ({ cls := "SkySpire", name := "look", desc := "(II)I" } : Jvm.MethodName)) ∈ lw_all := lw_g (lw_at lw_m4 217 rfl) rfl
theorem q1053 : (Jvm.Cond.code ({ cls := "SkySpire", name := "look", desc := "(II)I" } : Jvm.MethodName) prog_1_method_44_code (3 : Nat) (Option.some Jvm.ClassFile.FieldType.int)) ∈ lw_all := lw_g (lw_at lw_m4 218 rfl) rfl
theorem q1055 : (Jvm.Cond.instanceMethod ({ cls := "SkySpire", name := "seed", desc := "(I)I" } : Jvm.MethodName)) ∈ lw_all := lw_g (lw_at lw_m4 220 rfl) rfl
theorem q1056 : (Jvm.Cond.selects "SkySpire" ({ cls := "SkySpire", name := "seed", desc := "(I)I" } : Jvm.MethodName) ({ cls := "SkySpire", name := "seed", desc := "(I)I" } : Jvm.MethodName)) ∈ lw_all := lw_g (lw_at lw_m4 221 rfl) rfl
theorem q1057 : (Jvm.Cond.code ({ cls := "SkySpire", name := "seed", desc := "(I)I" } : Jvm.MethodName) prog_1_method_45_code (3 : Nat) (Option.some Jvm.ClassFile.FieldType.int)) ∈ lw_all := lw_g (lw_at lw_m4 222 rfl) rfl
theorem q1059 : (Jvm.Cond.instanceMethod ({ cls := "SkySpire", name := "rains", desc := "(IIII)I" } : Jvm.MethodName)) ∈ lw_all := lw_g (lw_at lw_m4 224 rfl) rfl
theorem q1060 : (Jvm.Cond.selects "SkySpire" ({ cls := "SkySpire", name := "rains", desc := "(IIII)I" } : Jvm.MethodName) ({ cls := "SkySpire", name := "rains", desc := "(IIII)I" } : Jvm.MethodName)) ∈ lw_all := lw_g (lw_at lw_m4 225 rfl) rfl
theorem q1061 : (Jvm.Cond.code ({ cls := "SkySpire", name := "rains", desc := "(IIII)I" } : Jvm.MethodName) prog_1_method_47_code (9 : Nat) (Option.some Jvm.ClassFile.FieldType.int)) ∈ lw_all := lw_g (lw_at lw_m4 226 rfl) rfl
theorem q1062 : (Jvm.Cond.constantLong "SkySpire" (335 : Nat) (10 : Int64)) ∈ lw_all := lw_g (lw_at lw_m4 227 rfl) rfl
theorem q1063 : (Jvm.Cond.methodLink "SkySpire" (337 : Nat) ({ cls := "SkySpire", name := "draw", desc := "(I)I" } : Jvm.MethodName)) ∈ lw_all := lw_g (lw_at lw_m4 228 rfl) rfl
theorem q1064 : (Jvm.Cond.privateMethod ({ cls := "SkySpire", name := "draw", desc := "(I)I" } : Jvm.MethodName)) ∈ lw_tbl := lw_at lw_m4 229 rfl
theorem q1065 : (Jvm.Cond.instanceMethod ({ cls := "SkySpire", name := "draw", desc := "(I)I" } : Jvm.MethodName)) ∈ lw_all := lw_g (lw_at lw_m4 230 rfl) rfl
theorem q1066 : (Jvm.Cond.code ({ cls := "SkySpire", name := "draw", desc := "(I)I" } : Jvm.MethodName) prog_1_method_46_code (2 : Nat) (Option.some Jvm.ClassFile.FieldType.int)) ∈ lw_all := lw_g (lw_at lw_m4 231 rfl) rfl
theorem q1067 : (Jvm.Cond.constantLong "SkySpire" (328 : Nat) (1103515245 : Int64)) ∈ lw_all := lw_g (lw_at lw_m4 232 rfl) rfl
theorem q1068 : (Jvm.Cond.constantLong "SkySpire" (330 : Nat) (12345 : Int64)) ∈ lw_all := lw_g (lw_at lw_m4 233 rfl) rfl
theorem q1069 : (Jvm.Cond.constantLong "SkySpire" (332 : Nat) (2147483648 : Int64)) ∈ lw_all := lw_g (lw_at lw_m4 234 rfl) rfl
theorem q1070 : (Jvm.Cond.constant "SkySpire" (334 : Nat) (65536 : Int32)) ∈ lw_all := lw_g (lw_at lw_m4 235 rfl) rfl
theorem q1072 : (Jvm.Cond.instanceMethod ({ cls := "SkySpire", name := "count", desc := "(I)I" } : Jvm.MethodName)) ∈ lw_all := lw_g (lw_at lw_m4 237 rfl) rfl
theorem q1073 : (Jvm.Cond.selects "SkySpire" ({ cls := "SkySpire", name := "count", desc := "(I)I" } : Jvm.MethodName) ({ cls := "SkySpire", name := "count", desc := "(I)I" } : Jvm.MethodName)) ∈ lw_all := lw_g (lw_at lw_m4 238 rfl) rfl
theorem q1074 : (Jvm.Cond.code ({ cls := "SkySpire", name := "count", desc := "(I)I" } : Jvm.MethodName) prog_1_method_48_code (2 : Nat) (Option.some Jvm.ClassFile.FieldType.int)) ∈ lw_all := lw_g (lw_at lw_m4 239 rfl) rfl
theorem q1075 : (Jvm.Cond.constantLong "SkySpire" (343 : Nat) (14 : Int64)) ∈ lw_all := lw_g (lw_at lw_m5 0 rfl) rfl
theorem q1077 : (Jvm.Cond.instanceMethod ({ cls := "SkySpire", name := "image", desc := "(I)I" } : Jvm.MethodName)) ∈ lw_all := lw_g (lw_at lw_m5 2 rfl) rfl
theorem q1078 : (Jvm.Cond.selects "SkySpire" ({ cls := "SkySpire", name := "image", desc := "(I)I" } : Jvm.MethodName) ({ cls := "SkySpire", name := "image", desc := "(I)I" } : Jvm.MethodName)) ∈ lw_all := lw_g (lw_at lw_m5 3 rfl) rfl
theorem q1079 : (Jvm.Cond.code ({ cls := "SkySpire", name := "image", desc := "(I)I" } : Jvm.MethodName) prog_1_method_49_code (3 : Nat) (Option.some Jvm.ClassFile.FieldType.int)) ∈ lw_all := lw_g (lw_at lw_m5 4 rfl) rfl
theorem q1081 : (Jvm.Cond.methodLinkNest "SkySpire" (351 : Nat) ({ cls := "SkySpire$Image", name := "<init>", desc := "()V" } : Jvm.MethodName) "SkySpire") ∈ lw_tbl := lw_at lw_m5 6 rfl
theorem q1088 : (Jvm.Cond.fieldLinkNest "SkySpire" (358 : Nat) "SkySpire$Image" "sky" "LSkySpire$Sky;" "SkySpire") ∈ lw_tbl := lw_at lw_m5 13 rfl
theorem q1089 : (Jvm.Cond.fieldLinkNest "SkySpire" (352 : Nat) "SkySpire$Image" "isTold" "Z" "SkySpire") ∈ lw_tbl := lw_at lw_m5 14 rfl
theorem q1090 : (Jvm.Cond.fieldLinkNest "SkySpire" (356 : Nat) "SkySpire$Image" "x" "I" "SkySpire") ∈ lw_tbl := lw_at lw_m5 15 rfl
theorem q1091 : (Jvm.Cond.fieldLinkNest "SkySpire" (357 : Nat) "SkySpire$Image" "inForce" "I" "SkySpire") ∈ lw_tbl := lw_at lw_m5 16 rfl
theorem q1102 : (Jvm.Cond.instanceMethod ({ cls := "SkySpire", name := "back", desc := "(I)I" } : Jvm.MethodName)) ∈ lw_all := lw_g (lw_at lw_m5 27 rfl) rfl
theorem q1103 : (Jvm.Cond.selects "SkySpire" ({ cls := "SkySpire", name := "back", desc := "(I)I" } : Jvm.MethodName) ({ cls := "SkySpire", name := "back", desc := "(I)I" } : Jvm.MethodName)) ∈ lw_all := lw_g (lw_at lw_m5 28 rfl) rfl
theorem q1104 : (Jvm.Cond.code ({ cls := "SkySpire", name := "back", desc := "(I)I" } : Jvm.MethodName) prog_1_method_50_code (2 : Nat) (Option.some Jvm.ClassFile.FieldType.int)) ∈ lw_all := lw_g (lw_at lw_m5 29 rfl) rfl
theorem in_X0 : ∀ w ∈ wsX00, w ∈ lw_all := lw_in wsX00 [375, 377, 379, 381, 383, 385, 387, 389, 391, 393, 395, 397, 399, 401, 403, 405, 407, 409, 411, 413, 415, 417, 419] (by decide +kernel) (by decide +kernel)
