/-! SkySpire$Sky -/
set_option maxRecDepth 100000
def RX1 : String := "SkySpire$Sky"
def TX1 : u_T := fun k => match k with
  | 0 => ("SkySpire$Sky", "side", "I", false)
  | 1 => ("SkySpire$Sky", "fades", "I", false)
  | 2 => ("SkySpire$Sky", "penMany", "I", false)
  | 3 => ("SkySpire$Sky", "windMany", "I", false)
  | 4 => ("SkySpire$Sky", "noteMany", "I", false)
  | 5 => ("SkySpire$Sky", "undoMany", "I", false)
  | 6 => ("SkySpire$Sky", "isTold", "I", false)
  | 7 => ("SkySpire$Sky", "now", "I", false)
  | 8 => ("SkySpire$Sky", "claps", "I", false)
  | 9 => ("SkySpire$Sky", "stayed", "I", false)
  | 10 => ("SkySpire$Sky", "toldCell", "[I", true)
  | 11 => ("SkySpire$Sky", "toldStiff", "[I", true)
  | 12 => ("SkySpire$Sky", "winds", "[I", true)
  | 13 => ("SkySpire$Sky", "mark", "[Z", true)
  | 14 => ("SkySpire$Sky", "notes", "[I", true)
  | 15 => ("SkySpire$Sky", "cell", "[I", true)
  | 16 => ("SkySpire$Sky", "stiff", "[I", true)
  | 17 => ("SkySpire$Sky", "whose", "[I", true)
  | 18 => ("SkySpire$Sky", "when", "[I", true)
  | 19 => ("SkySpire$Sky", "undo", "[I", true)
  | _ => ("SkySpire$Sky", "words", "[J", true)
def tyX1 : Nat → FieldType := fun k => match k with
  | 0 => .int
  | 1 => .int
  | 2 => .int
  | 3 => .int
  | 4 => .int
  | 5 => .int
  | 6 => .int
  | 7 => .int
  | 8 => .int
  | 9 => .int
  | 10 => .array .int
  | 11 => .array .int
  | 12 => .array .int
  | 13 => .array .boolean
  | 14 => .array .int
  | 15 => .array .int
  | 16 => .array .int
  | 17 => .array .int
  | 18 => .array .int
  | 19 => .array .int
  | _ => .array .long
abbrev wsX10 : List Cond := u_ws RX1 TX1 21
set_option maxRecDepth 100000 in
theorem nmX1 : ∀ a, a < 21 → ∀ b, b < 21 → a ≠ b → (TX1 a).2.1 ≠ (TX1 b).2.1 := by decide +kernel
set_option maxRecDepth 100000 in
theorem tyX1_ok : ∀ k, k < 21 → parseFieldDescriptor (TX1 k).2.2.1 = some (tyX1 k) := by decide +kernel
abbrev cX1_init : ByteArray := prog_11_method_1_code
def yX1_init : MethodName := ⟨RX1, "<init>", "()V"⟩
def dkwX1_init_3 : List UInt8 := [181, 0, 37, 42, 17, 6, 164, 188, 10, 181, 0, 40, 42, 16, 12, 188, 11, 181, 0, 43, 177]
abbrev dktX1_init_3 : List UInt8 := dkwX1_init_3 ++ []
def dkwX1_init_2 : List UInt8 := [181, 0, 28, 42, 8, 188, 10, 181, 0, 31, 42, 16, 36, 188, 10, 181, 0, 34, 42, 16, 36, 188, 10]
abbrev dktX1_init_2 : List UInt8 := dkwX1_init_2 ++ dktX1_init_3
def dkwX1_init_1 : List UInt8 := [181, 0, 18, 42, 16, 36, 188, 4, 181, 0, 21, 42, 16, 30, 188, 10, 181, 0, 25, 42, 8, 188, 10]
abbrev dktX1_init_1 : List UInt8 := dkwX1_init_1 ++ dktX1_init_2
def dkwX1_init_0 : List UInt8 := [42, 183, 0, 3, 42, 8, 188, 10, 181, 0, 9, 42, 8, 188, 10, 181, 0, 15, 42, 16, 24, 188, 10]
abbrev dktX1_init_0 : List UInt8 := dkwX1_init_0 ++ dktX1_init_1
theorem dksX1_init_0 : cX1_init.data.toList.drop 0 = dktX1_init_0 := by decide +kernel
theorem dksX1_init_1 : cX1_init.data.toList.drop 23 = dktX1_init_1 := dk_seg dksX1_init_0 23 rfl rfl
theorem dksX1_init_2 : cX1_init.data.toList.drop 46 = dktX1_init_2 := dk_seg dksX1_init_1 23 rfl rfl
theorem dksX1_init_3 : cX1_init.data.toList.drop 69 = dktX1_init_3 := dk_seg dksX1_init_2 23 rfl rfl
theorem dX1_init_0 : decode cX1_init 0 = .ok (.aload_n 0, 1) := dk_42 (dk_at dksX1_init_0 0 rfl rfl)
theorem dX1_init_1 : decode cX1_init 1 = .ok (.invokespecial 3, 3) := dk_183 0 3 (dk_at dksX1_init_0 1 rfl rfl)
theorem dX1_init_4 : decode cX1_init 4 = .ok (.aload_n 0, 1) := dk_42 (dk_at dksX1_init_0 4 rfl rfl)
theorem dX1_init_5 : decode cX1_init 5 = .ok (.iconst 5, 1) := dk_8 (dk_at dksX1_init_0 5 rfl rfl)
theorem dX1_init_6 : decode cX1_init 6 = .ok (.newarray .int, 2) := dk_188_10 (dk_at dksX1_init_0 6 rfl rfl)
theorem dX1_init_8 : decode cX1_init 8 = .ok (.putfield 9, 3) := dk_181 0 9 (dk_at dksX1_init_0 8 rfl rfl)
theorem dX1_init_11 : decode cX1_init 11 = .ok (.aload_n 0, 1) := dk_42 (dk_at dksX1_init_0 11 rfl rfl)
theorem dX1_init_12 : decode cX1_init 12 = .ok (.iconst 5, 1) := dk_8 (dk_at dksX1_init_0 12 rfl rfl)
theorem dX1_init_13 : decode cX1_init 13 = .ok (.newarray .int, 2) := dk_188_10 (dk_at dksX1_init_0 13 rfl rfl)
theorem dX1_init_15 : decode cX1_init 15 = .ok (.putfield 15, 3) := dk_181 0 15 (dk_at dksX1_init_0 15 rfl rfl)
theorem dX1_init_18 : decode cX1_init 18 = .ok (.aload_n 0, 1) := dk_42 (dk_at dksX1_init_0 18 rfl rfl)
theorem dX1_init_19 : decode cX1_init 19 = .ok (.bipush 24, 2) := dk_16 24 (dk_at dksX1_init_0 19 rfl rfl)
theorem dX1_init_21 : decode cX1_init 21 = .ok (.newarray .int, 2) := dk_188_10 (dk_at dksX1_init_0 21 rfl rfl)
theorem dX1_init_23 : decode cX1_init 23 = .ok (.putfield 18, 3) := dk_181 0 18 (dk_at dksX1_init_1 0 rfl rfl)
theorem dX1_init_26 : decode cX1_init 26 = .ok (.aload_n 0, 1) := dk_42 (dk_at dksX1_init_1 3 rfl rfl)
theorem dX1_init_27 : decode cX1_init 27 = .ok (.bipush 36, 2) := dk_16 36 (dk_at dksX1_init_1 4 rfl rfl)
theorem dX1_init_29 : decode cX1_init 29 = .ok (.newarray .boolean, 2) := dk_188_4 (dk_at dksX1_init_1 6 rfl rfl)
theorem dX1_init_31 : decode cX1_init 31 = .ok (.putfield 21, 3) := dk_181 0 21 (dk_at dksX1_init_1 8 rfl rfl)
theorem dX1_init_34 : decode cX1_init 34 = .ok (.aload_n 0, 1) := dk_42 (dk_at dksX1_init_1 11 rfl rfl)
theorem dX1_init_35 : decode cX1_init 35 = .ok (.bipush 30, 2) := dk_16 30 (dk_at dksX1_init_1 12 rfl rfl)
theorem dX1_init_37 : decode cX1_init 37 = .ok (.newarray .int, 2) := dk_188_10 (dk_at dksX1_init_1 14 rfl rfl)
theorem dX1_init_39 : decode cX1_init 39 = .ok (.putfield 25, 3) := dk_181 0 25 (dk_at dksX1_init_1 16 rfl rfl)
theorem dX1_init_42 : decode cX1_init 42 = .ok (.aload_n 0, 1) := dk_42 (dk_at dksX1_init_1 19 rfl rfl)
theorem dX1_init_43 : decode cX1_init 43 = .ok (.iconst 5, 1) := dk_8 (dk_at dksX1_init_1 20 rfl rfl)
theorem dX1_init_44 : decode cX1_init 44 = .ok (.newarray .int, 2) := dk_188_10 (dk_at dksX1_init_1 21 rfl rfl)
theorem dX1_init_46 : decode cX1_init 46 = .ok (.putfield 28, 3) := dk_181 0 28 (dk_at dksX1_init_2 0 rfl rfl)
theorem dX1_init_49 : decode cX1_init 49 = .ok (.aload_n 0, 1) := dk_42 (dk_at dksX1_init_2 3 rfl rfl)
theorem dX1_init_50 : decode cX1_init 50 = .ok (.iconst 5, 1) := dk_8 (dk_at dksX1_init_2 4 rfl rfl)
theorem dX1_init_51 : decode cX1_init 51 = .ok (.newarray .int, 2) := dk_188_10 (dk_at dksX1_init_2 5 rfl rfl)
theorem dX1_init_53 : decode cX1_init 53 = .ok (.putfield 31, 3) := dk_181 0 31 (dk_at dksX1_init_2 7 rfl rfl)
theorem dX1_init_56 : decode cX1_init 56 = .ok (.aload_n 0, 1) := dk_42 (dk_at dksX1_init_2 10 rfl rfl)
theorem dX1_init_57 : decode cX1_init 57 = .ok (.bipush 36, 2) := dk_16 36 (dk_at dksX1_init_2 11 rfl rfl)
theorem dX1_init_59 : decode cX1_init 59 = .ok (.newarray .int, 2) := dk_188_10 (dk_at dksX1_init_2 13 rfl rfl)
theorem dX1_init_61 : decode cX1_init 61 = .ok (.putfield 34, 3) := dk_181 0 34 (dk_at dksX1_init_2 15 rfl rfl)
theorem dX1_init_64 : decode cX1_init 64 = .ok (.aload_n 0, 1) := dk_42 (dk_at dksX1_init_2 18 rfl rfl)
theorem dX1_init_65 : decode cX1_init 65 = .ok (.bipush 36, 2) := dk_16 36 (dk_at dksX1_init_2 19 rfl rfl)
theorem dX1_init_67 : decode cX1_init 67 = .ok (.newarray .int, 2) := dk_188_10 (dk_at dksX1_init_2 21 rfl rfl)
theorem dX1_init_69 : decode cX1_init 69 = .ok (.putfield 37, 3) := dk_181 0 37 (dk_at dksX1_init_3 0 rfl rfl)
theorem dX1_init_72 : decode cX1_init 72 = .ok (.aload_n 0, 1) := dk_42 (dk_at dksX1_init_3 3 rfl rfl)
theorem dX1_init_73 : decode cX1_init 73 = .ok (.sipush 1700, 3) := dk_17 6 164 (dk_at dksX1_init_3 4 rfl rfl)
theorem dX1_init_76 : decode cX1_init 76 = .ok (.newarray .int, 2) := dk_188_10 (dk_at dksX1_init_3 7 rfl rfl)
theorem dX1_init_78 : decode cX1_init 78 = .ok (.putfield 40, 3) := dk_181 0 40 (dk_at dksX1_init_3 9 rfl rfl)
theorem dX1_init_81 : decode cX1_init 81 = .ok (.aload_n 0, 1) := dk_42 (dk_at dksX1_init_3 12 rfl rfl)
theorem dX1_init_82 : decode cX1_init 82 = .ok (.bipush 12, 2) := dk_16 12 (dk_at dksX1_init_3 13 rfl rfl)
theorem dX1_init_84 : decode cX1_init 84 = .ok (.newarray .long, 2) := dk_188_11 (dk_at dksX1_init_3 15 rfl rfl)
theorem dX1_init_86 : decode cX1_init 86 = .ok (.putfield 43, 3) := dk_181 0 43 (dk_at dksX1_init_3 17 rfl rfl)
theorem dX1_init_89 : decode cX1_init 89 = .ok (.return_, 1) := dk_177 (dk_at dksX1_init_3 20 rfl rfl)
abbrev cX1_copies : ByteArray := prog_11_method_2_code
def yX1_copies : MethodName := ⟨RX1, "copies", "(LSkySpire$Sky;)LSkySpire$Sky;"⟩
def dkwX1_copies_6 : List UInt8 := [184, 0, 69, 42, 43, 182, 0, 75, 176]
abbrev dktX1_copies_6 : List UInt8 := dkwX1_copies_6 ++ []
def dkwX1_copies_5 : List UInt8 := [3, 42, 180, 0, 25, 3, 16, 30, 184, 0, 69, 43, 180, 0, 40, 3, 42, 180, 0, 40, 3, 17, 6, 164]
abbrev dktX1_copies_5 : List UInt8 := dkwX1_copies_5 ++ dktX1_copies_6
def dkwX1_copies_4 : List UInt8 := [16, 24, 184, 0, 69, 43, 180, 0, 21, 3, 42, 180, 0, 21, 3, 16, 36, 184, 0, 69, 43, 180, 0, 25]
abbrev dktX1_copies_4 : List UInt8 := dkwX1_copies_4 ++ dktX1_copies_5
def dkwX1_copies_3 : List UInt8 := [180, 0, 15, 3, 42, 180, 0, 15, 3, 8, 184, 0, 69, 43, 180, 0, 18, 3, 42, 180, 0, 18, 3]
abbrev dktX1_copies_3 : List UInt8 := dkwX1_copies_3 ++ dktX1_copies_4
def dkwX1_copies_2 : List UInt8 := [42, 43, 180, 0, 66, 181, 0, 66, 43, 180, 0, 9, 3, 42, 180, 0, 9, 3, 8, 184, 0, 69, 43]
abbrev dktX1_copies_2 : List UInt8 := dkwX1_copies_2 ++ dktX1_copies_3
def dkwX1_copies_1 : List UInt8 := [42, 43, 180, 0, 57, 181, 0, 57, 42, 43, 180, 0, 60, 181, 0, 60, 42, 43, 180, 0, 63, 181, 0, 63]
abbrev dktX1_copies_1 : List UInt8 := dkwX1_copies_1 ++ dktX1_copies_2
def dkwX1_copies_0 : List UInt8 := [42, 43, 180, 0, 47, 181, 0, 47, 42, 43, 180, 0, 51, 181, 0, 51, 42, 43, 180, 0, 54, 181, 0, 54]
abbrev dktX1_copies_0 : List UInt8 := dkwX1_copies_0 ++ dktX1_copies_1
theorem dksX1_copies_0 : cX1_copies.data.toList.drop 0 = dktX1_copies_0 := by decide +kernel
theorem dksX1_copies_1 : cX1_copies.data.toList.drop 24 = dktX1_copies_1 := dk_seg dksX1_copies_0 24 rfl rfl
theorem dksX1_copies_2 : cX1_copies.data.toList.drop 48 = dktX1_copies_2 := dk_seg dksX1_copies_1 24 rfl rfl
theorem dksX1_copies_3 : cX1_copies.data.toList.drop 71 = dktX1_copies_3 := dk_seg dksX1_copies_2 23 rfl rfl
theorem dksX1_copies_4 : cX1_copies.data.toList.drop 94 = dktX1_copies_4 := dk_seg dksX1_copies_3 23 rfl rfl
theorem dksX1_copies_5 : cX1_copies.data.toList.drop 118 = dktX1_copies_5 := dk_seg dksX1_copies_4 24 rfl rfl
theorem dksX1_copies_6 : cX1_copies.data.toList.drop 142 = dktX1_copies_6 := dk_seg dksX1_copies_5 24 rfl rfl
theorem dX1_copies_0 : decode cX1_copies 0 = .ok (.aload_n 0, 1) := dk_42 (dk_at dksX1_copies_0 0 rfl rfl)
theorem dX1_copies_1 : decode cX1_copies 1 = .ok (.aload_n 1, 1) := dk_43 (dk_at dksX1_copies_0 1 rfl rfl)
theorem dX1_copies_2 : decode cX1_copies 2 = .ok (.getfield 47, 3) := dk_180 0 47 (dk_at dksX1_copies_0 2 rfl rfl)
theorem dX1_copies_5 : decode cX1_copies 5 = .ok (.putfield 47, 3) := dk_181 0 47 (dk_at dksX1_copies_0 5 rfl rfl)
theorem dX1_copies_8 : decode cX1_copies 8 = .ok (.aload_n 0, 1) := dk_42 (dk_at dksX1_copies_0 8 rfl rfl)
theorem dX1_copies_9 : decode cX1_copies 9 = .ok (.aload_n 1, 1) := dk_43 (dk_at dksX1_copies_0 9 rfl rfl)
theorem dX1_copies_10 : decode cX1_copies 10 = .ok (.getfield 51, 3) := dk_180 0 51 (dk_at dksX1_copies_0 10 rfl rfl)
theorem dX1_copies_13 : decode cX1_copies 13 = .ok (.putfield 51, 3) := dk_181 0 51 (dk_at dksX1_copies_0 13 rfl rfl)
theorem dX1_copies_16 : decode cX1_copies 16 = .ok (.aload_n 0, 1) := dk_42 (dk_at dksX1_copies_0 16 rfl rfl)
theorem dX1_copies_17 : decode cX1_copies 17 = .ok (.aload_n 1, 1) := dk_43 (dk_at dksX1_copies_0 17 rfl rfl)
theorem dX1_copies_18 : decode cX1_copies 18 = .ok (.getfield 54, 3) := dk_180 0 54 (dk_at dksX1_copies_0 18 rfl rfl)
theorem dX1_copies_21 : decode cX1_copies 21 = .ok (.putfield 54, 3) := dk_181 0 54 (dk_at dksX1_copies_0 21 rfl rfl)
theorem dX1_copies_24 : decode cX1_copies 24 = .ok (.aload_n 0, 1) := dk_42 (dk_at dksX1_copies_1 0 rfl rfl)
theorem dX1_copies_25 : decode cX1_copies 25 = .ok (.aload_n 1, 1) := dk_43 (dk_at dksX1_copies_1 1 rfl rfl)
theorem dX1_copies_26 : decode cX1_copies 26 = .ok (.getfield 57, 3) := dk_180 0 57 (dk_at dksX1_copies_1 2 rfl rfl)
theorem dX1_copies_29 : decode cX1_copies 29 = .ok (.putfield 57, 3) := dk_181 0 57 (dk_at dksX1_copies_1 5 rfl rfl)
theorem dX1_copies_32 : decode cX1_copies 32 = .ok (.aload_n 0, 1) := dk_42 (dk_at dksX1_copies_1 8 rfl rfl)
theorem dX1_copies_33 : decode cX1_copies 33 = .ok (.aload_n 1, 1) := dk_43 (dk_at dksX1_copies_1 9 rfl rfl)
theorem dX1_copies_34 : decode cX1_copies 34 = .ok (.getfield 60, 3) := dk_180 0 60 (dk_at dksX1_copies_1 10 rfl rfl)
theorem dX1_copies_37 : decode cX1_copies 37 = .ok (.putfield 60, 3) := dk_181 0 60 (dk_at dksX1_copies_1 13 rfl rfl)
theorem dX1_copies_40 : decode cX1_copies 40 = .ok (.aload_n 0, 1) := dk_42 (dk_at dksX1_copies_1 16 rfl rfl)
theorem dX1_copies_41 : decode cX1_copies 41 = .ok (.aload_n 1, 1) := dk_43 (dk_at dksX1_copies_1 17 rfl rfl)
theorem dX1_copies_42 : decode cX1_copies 42 = .ok (.getfield 63, 3) := dk_180 0 63 (dk_at dksX1_copies_1 18 rfl rfl)
theorem dX1_copies_45 : decode cX1_copies 45 = .ok (.putfield 63, 3) := dk_181 0 63 (dk_at dksX1_copies_1 21 rfl rfl)
theorem dX1_copies_48 : decode cX1_copies 48 = .ok (.aload_n 0, 1) := dk_42 (dk_at dksX1_copies_2 0 rfl rfl)
theorem dX1_copies_49 : decode cX1_copies 49 = .ok (.aload_n 1, 1) := dk_43 (dk_at dksX1_copies_2 1 rfl rfl)
theorem dX1_copies_50 : decode cX1_copies 50 = .ok (.getfield 66, 3) := dk_180 0 66 (dk_at dksX1_copies_2 2 rfl rfl)
theorem dX1_copies_53 : decode cX1_copies 53 = .ok (.putfield 66, 3) := dk_181 0 66 (dk_at dksX1_copies_2 5 rfl rfl)
theorem dX1_copies_56 : decode cX1_copies 56 = .ok (.aload_n 1, 1) := dk_43 (dk_at dksX1_copies_2 8 rfl rfl)
theorem dX1_copies_57 : decode cX1_copies 57 = .ok (.getfield 9, 3) := dk_180 0 9 (dk_at dksX1_copies_2 9 rfl rfl)
theorem dX1_copies_60 : decode cX1_copies 60 = .ok (.iconst 0, 1) := dk_3 (dk_at dksX1_copies_2 12 rfl rfl)
theorem dX1_copies_61 : decode cX1_copies 61 = .ok (.aload_n 0, 1) := dk_42 (dk_at dksX1_copies_2 13 rfl rfl)
theorem dX1_copies_62 : decode cX1_copies 62 = .ok (.getfield 9, 3) := dk_180 0 9 (dk_at dksX1_copies_2 14 rfl rfl)
theorem dX1_copies_65 : decode cX1_copies 65 = .ok (.iconst 0, 1) := dk_3 (dk_at dksX1_copies_2 17 rfl rfl)
theorem dX1_copies_66 : decode cX1_copies 66 = .ok (.iconst 5, 1) := dk_8 (dk_at dksX1_copies_2 18 rfl rfl)
theorem dX1_copies_67 : decode cX1_copies 67 = .ok (.invokestatic 69, 3) := dk_184 0 69 (dk_at dksX1_copies_2 19 rfl rfl)
theorem dX1_copies_70 : decode cX1_copies 70 = .ok (.aload_n 1, 1) := dk_43 (dk_at dksX1_copies_2 22 rfl rfl)
theorem dX1_copies_71 : decode cX1_copies 71 = .ok (.getfield 15, 3) := dk_180 0 15 (dk_at dksX1_copies_3 0 rfl rfl)
theorem dX1_copies_74 : decode cX1_copies 74 = .ok (.iconst 0, 1) := dk_3 (dk_at dksX1_copies_3 3 rfl rfl)
theorem dX1_copies_75 : decode cX1_copies 75 = .ok (.aload_n 0, 1) := dk_42 (dk_at dksX1_copies_3 4 rfl rfl)
theorem dX1_copies_76 : decode cX1_copies 76 = .ok (.getfield 15, 3) := dk_180 0 15 (dk_at dksX1_copies_3 5 rfl rfl)
theorem dX1_copies_79 : decode cX1_copies 79 = .ok (.iconst 0, 1) := dk_3 (dk_at dksX1_copies_3 8 rfl rfl)
theorem dX1_copies_80 : decode cX1_copies 80 = .ok (.iconst 5, 1) := dk_8 (dk_at dksX1_copies_3 9 rfl rfl)
theorem dX1_copies_81 : decode cX1_copies 81 = .ok (.invokestatic 69, 3) := dk_184 0 69 (dk_at dksX1_copies_3 10 rfl rfl)
theorem dX1_copies_84 : decode cX1_copies 84 = .ok (.aload_n 1, 1) := dk_43 (dk_at dksX1_copies_3 13 rfl rfl)
theorem dX1_copies_85 : decode cX1_copies 85 = .ok (.getfield 18, 3) := dk_180 0 18 (dk_at dksX1_copies_3 14 rfl rfl)
theorem dX1_copies_88 : decode cX1_copies 88 = .ok (.iconst 0, 1) := dk_3 (dk_at dksX1_copies_3 17 rfl rfl)
theorem dX1_copies_89 : decode cX1_copies 89 = .ok (.aload_n 0, 1) := dk_42 (dk_at dksX1_copies_3 18 rfl rfl)
theorem dX1_copies_90 : decode cX1_copies 90 = .ok (.getfield 18, 3) := dk_180 0 18 (dk_at dksX1_copies_3 19 rfl rfl)
theorem dX1_copies_93 : decode cX1_copies 93 = .ok (.iconst 0, 1) := dk_3 (dk_at dksX1_copies_3 22 rfl rfl)
theorem dX1_copies_94 : decode cX1_copies 94 = .ok (.bipush 24, 2) := dk_16 24 (dk_at dksX1_copies_4 0 rfl rfl)
theorem dX1_copies_96 : decode cX1_copies 96 = .ok (.invokestatic 69, 3) := dk_184 0 69 (dk_at dksX1_copies_4 2 rfl rfl)
theorem dX1_copies_99 : decode cX1_copies 99 = .ok (.aload_n 1, 1) := dk_43 (dk_at dksX1_copies_4 5 rfl rfl)
theorem dX1_copies_100 : decode cX1_copies 100 = .ok (.getfield 21, 3) := dk_180 0 21 (dk_at dksX1_copies_4 6 rfl rfl)
theorem dX1_copies_103 : decode cX1_copies 103 = .ok (.iconst 0, 1) := dk_3 (dk_at dksX1_copies_4 9 rfl rfl)
theorem dX1_copies_104 : decode cX1_copies 104 = .ok (.aload_n 0, 1) := dk_42 (dk_at dksX1_copies_4 10 rfl rfl)
theorem dX1_copies_105 : decode cX1_copies 105 = .ok (.getfield 21, 3) := dk_180 0 21 (dk_at dksX1_copies_4 11 rfl rfl)
theorem dX1_copies_108 : decode cX1_copies 108 = .ok (.iconst 0, 1) := dk_3 (dk_at dksX1_copies_4 14 rfl rfl)
theorem dX1_copies_109 : decode cX1_copies 109 = .ok (.bipush 36, 2) := dk_16 36 (dk_at dksX1_copies_4 15 rfl rfl)
theorem dX1_copies_111 : decode cX1_copies 111 = .ok (.invokestatic 69, 3) := dk_184 0 69 (dk_at dksX1_copies_4 17 rfl rfl)
theorem dX1_copies_114 : decode cX1_copies 114 = .ok (.aload_n 1, 1) := dk_43 (dk_at dksX1_copies_4 20 rfl rfl)
theorem dX1_copies_115 : decode cX1_copies 115 = .ok (.getfield 25, 3) := dk_180 0 25 (dk_at dksX1_copies_4 21 rfl rfl)
theorem dX1_copies_118 : decode cX1_copies 118 = .ok (.iconst 0, 1) := dk_3 (dk_at dksX1_copies_5 0 rfl rfl)
theorem dX1_copies_119 : decode cX1_copies 119 = .ok (.aload_n 0, 1) := dk_42 (dk_at dksX1_copies_5 1 rfl rfl)
theorem dX1_copies_120 : decode cX1_copies 120 = .ok (.getfield 25, 3) := dk_180 0 25 (dk_at dksX1_copies_5 2 rfl rfl)
theorem dX1_copies_123 : decode cX1_copies 123 = .ok (.iconst 0, 1) := dk_3 (dk_at dksX1_copies_5 5 rfl rfl)
theorem dX1_copies_124 : decode cX1_copies 124 = .ok (.bipush 30, 2) := dk_16 30 (dk_at dksX1_copies_5 6 rfl rfl)
theorem dX1_copies_126 : decode cX1_copies 126 = .ok (.invokestatic 69, 3) := dk_184 0 69 (dk_at dksX1_copies_5 8 rfl rfl)
theorem dX1_copies_129 : decode cX1_copies 129 = .ok (.aload_n 1, 1) := dk_43 (dk_at dksX1_copies_5 11 rfl rfl)
theorem dX1_copies_130 : decode cX1_copies 130 = .ok (.getfield 40, 3) := dk_180 0 40 (dk_at dksX1_copies_5 12 rfl rfl)
theorem dX1_copies_133 : decode cX1_copies 133 = .ok (.iconst 0, 1) := dk_3 (dk_at dksX1_copies_5 15 rfl rfl)
theorem dX1_copies_134 : decode cX1_copies 134 = .ok (.aload_n 0, 1) := dk_42 (dk_at dksX1_copies_5 16 rfl rfl)
theorem dX1_copies_135 : decode cX1_copies 135 = .ok (.getfield 40, 3) := dk_180 0 40 (dk_at dksX1_copies_5 17 rfl rfl)
theorem dX1_copies_138 : decode cX1_copies 138 = .ok (.iconst 0, 1) := dk_3 (dk_at dksX1_copies_5 20 rfl rfl)
theorem dX1_copies_139 : decode cX1_copies 139 = .ok (.sipush 1700, 3) := dk_17 6 164 (dk_at dksX1_copies_5 21 rfl rfl)
theorem dX1_copies_142 : decode cX1_copies 142 = .ok (.invokestatic 69, 3) := dk_184 0 69 (dk_at dksX1_copies_6 0 rfl rfl)
theorem dX1_copies_145 : decode cX1_copies 145 = .ok (.aload_n 0, 1) := dk_42 (dk_at dksX1_copies_6 3 rfl rfl)
theorem dX1_copies_146 : decode cX1_copies 146 = .ok (.aload_n 1, 1) := dk_43 (dk_at dksX1_copies_6 4 rfl rfl)
theorem dX1_copies_147 : decode cX1_copies 147 = .ok (.invokevirtual 75, 3) := dk_182 0 75 (dk_at dksX1_copies_6 5 rfl rfl)
theorem dX1_copies_150 : decode cX1_copies 150 = .ok (.areturn, 1) := dk_176 (dk_at dksX1_copies_6 8 rfl rfl)
abbrev cX1_standsAs : ByteArray := prog_11_method_3_code
def yX1_standsAs : MethodName := ⟨RX1, "standsAs", "(LSkySpire$Sky;)LSkySpire$Sky;"⟩
def dkwX1_standsAs_3 : List UInt8 := [42, 180, 0, 37, 3, 16, 36, 184, 0, 69, 42, 176]
abbrev dktX1_standsAs_3 : List UInt8 := dkwX1_standsAs_3 ++ []
def dkwX1_standsAs_2 : List UInt8 := [8, 184, 0, 69, 43, 180, 0, 34, 3, 42, 180, 0, 34, 3, 16, 36, 184, 0, 69, 43, 180, 0, 37, 3]
abbrev dktX1_standsAs_2 : List UInt8 := dkwX1_standsAs_2 ++ dktX1_standsAs_3
def dkwX1_standsAs_1 : List UInt8 := [43, 180, 0, 28, 3, 42, 180, 0, 28, 3, 8, 184, 0, 69, 43, 180, 0, 31, 3, 42, 180, 0, 31, 3]
abbrev dktX1_standsAs_1 : List UInt8 := dkwX1_standsAs_1 ++ dktX1_standsAs_2
def dkwX1_standsAs_0 : List UInt8 := [42, 43, 180, 0, 79, 181, 0, 79, 42, 43, 180, 0, 82, 181, 0, 82, 42, 43, 180, 0, 85, 181, 0, 85]
abbrev dktX1_standsAs_0 : List UInt8 := dkwX1_standsAs_0 ++ dktX1_standsAs_1
theorem dksX1_standsAs_0 : cX1_standsAs.data.toList.drop 0 = dktX1_standsAs_0 := by decide +kernel
theorem dksX1_standsAs_1 : cX1_standsAs.data.toList.drop 24 = dktX1_standsAs_1 := dk_seg dksX1_standsAs_0 24 rfl rfl
theorem dksX1_standsAs_2 : cX1_standsAs.data.toList.drop 48 = dktX1_standsAs_2 := dk_seg dksX1_standsAs_1 24 rfl rfl
theorem dksX1_standsAs_3 : cX1_standsAs.data.toList.drop 72 = dktX1_standsAs_3 := dk_seg dksX1_standsAs_2 24 rfl rfl
theorem dX1_standsAs_0 : decode cX1_standsAs 0 = .ok (.aload_n 0, 1) := dk_42 (dk_at dksX1_standsAs_0 0 rfl rfl)
theorem dX1_standsAs_1 : decode cX1_standsAs 1 = .ok (.aload_n 1, 1) := dk_43 (dk_at dksX1_standsAs_0 1 rfl rfl)
theorem dX1_standsAs_2 : decode cX1_standsAs 2 = .ok (.getfield 79, 3) := dk_180 0 79 (dk_at dksX1_standsAs_0 2 rfl rfl)
theorem dX1_standsAs_5 : decode cX1_standsAs 5 = .ok (.putfield 79, 3) := dk_181 0 79 (dk_at dksX1_standsAs_0 5 rfl rfl)
theorem dX1_standsAs_8 : decode cX1_standsAs 8 = .ok (.aload_n 0, 1) := dk_42 (dk_at dksX1_standsAs_0 8 rfl rfl)
theorem dX1_standsAs_9 : decode cX1_standsAs 9 = .ok (.aload_n 1, 1) := dk_43 (dk_at dksX1_standsAs_0 9 rfl rfl)
theorem dX1_standsAs_10 : decode cX1_standsAs 10 = .ok (.getfield 82, 3) := dk_180 0 82 (dk_at dksX1_standsAs_0 10 rfl rfl)
theorem dX1_standsAs_13 : decode cX1_standsAs 13 = .ok (.putfield 82, 3) := dk_181 0 82 (dk_at dksX1_standsAs_0 13 rfl rfl)
theorem dX1_standsAs_16 : decode cX1_standsAs 16 = .ok (.aload_n 0, 1) := dk_42 (dk_at dksX1_standsAs_0 16 rfl rfl)
theorem dX1_standsAs_17 : decode cX1_standsAs 17 = .ok (.aload_n 1, 1) := dk_43 (dk_at dksX1_standsAs_0 17 rfl rfl)
theorem dX1_standsAs_18 : decode cX1_standsAs 18 = .ok (.getfield 85, 3) := dk_180 0 85 (dk_at dksX1_standsAs_0 18 rfl rfl)
theorem dX1_standsAs_21 : decode cX1_standsAs 21 = .ok (.putfield 85, 3) := dk_181 0 85 (dk_at dksX1_standsAs_0 21 rfl rfl)
theorem dX1_standsAs_24 : decode cX1_standsAs 24 = .ok (.aload_n 1, 1) := dk_43 (dk_at dksX1_standsAs_1 0 rfl rfl)
theorem dX1_standsAs_25 : decode cX1_standsAs 25 = .ok (.getfield 28, 3) := dk_180 0 28 (dk_at dksX1_standsAs_1 1 rfl rfl)
theorem dX1_standsAs_28 : decode cX1_standsAs 28 = .ok (.iconst 0, 1) := dk_3 (dk_at dksX1_standsAs_1 4 rfl rfl)
theorem dX1_standsAs_29 : decode cX1_standsAs 29 = .ok (.aload_n 0, 1) := dk_42 (dk_at dksX1_standsAs_1 5 rfl rfl)
theorem dX1_standsAs_30 : decode cX1_standsAs 30 = .ok (.getfield 28, 3) := dk_180 0 28 (dk_at dksX1_standsAs_1 6 rfl rfl)
theorem dX1_standsAs_33 : decode cX1_standsAs 33 = .ok (.iconst 0, 1) := dk_3 (dk_at dksX1_standsAs_1 9 rfl rfl)
theorem dX1_standsAs_34 : decode cX1_standsAs 34 = .ok (.iconst 5, 1) := dk_8 (dk_at dksX1_standsAs_1 10 rfl rfl)
theorem dX1_standsAs_35 : decode cX1_standsAs 35 = .ok (.invokestatic 69, 3) := dk_184 0 69 (dk_at dksX1_standsAs_1 11 rfl rfl)
theorem dX1_standsAs_38 : decode cX1_standsAs 38 = .ok (.aload_n 1, 1) := dk_43 (dk_at dksX1_standsAs_1 14 rfl rfl)
theorem dX1_standsAs_39 : decode cX1_standsAs 39 = .ok (.getfield 31, 3) := dk_180 0 31 (dk_at dksX1_standsAs_1 15 rfl rfl)
theorem dX1_standsAs_42 : decode cX1_standsAs 42 = .ok (.iconst 0, 1) := dk_3 (dk_at dksX1_standsAs_1 18 rfl rfl)
theorem dX1_standsAs_43 : decode cX1_standsAs 43 = .ok (.aload_n 0, 1) := dk_42 (dk_at dksX1_standsAs_1 19 rfl rfl)
theorem dX1_standsAs_44 : decode cX1_standsAs 44 = .ok (.getfield 31, 3) := dk_180 0 31 (dk_at dksX1_standsAs_1 20 rfl rfl)
theorem dX1_standsAs_47 : decode cX1_standsAs 47 = .ok (.iconst 0, 1) := dk_3 (dk_at dksX1_standsAs_1 23 rfl rfl)
theorem dX1_standsAs_48 : decode cX1_standsAs 48 = .ok (.iconst 5, 1) := dk_8 (dk_at dksX1_standsAs_2 0 rfl rfl)
theorem dX1_standsAs_49 : decode cX1_standsAs 49 = .ok (.invokestatic 69, 3) := dk_184 0 69 (dk_at dksX1_standsAs_2 1 rfl rfl)
theorem dX1_standsAs_52 : decode cX1_standsAs 52 = .ok (.aload_n 1, 1) := dk_43 (dk_at dksX1_standsAs_2 4 rfl rfl)
theorem dX1_standsAs_53 : decode cX1_standsAs 53 = .ok (.getfield 34, 3) := dk_180 0 34 (dk_at dksX1_standsAs_2 5 rfl rfl)
theorem dX1_standsAs_56 : decode cX1_standsAs 56 = .ok (.iconst 0, 1) := dk_3 (dk_at dksX1_standsAs_2 8 rfl rfl)
theorem dX1_standsAs_57 : decode cX1_standsAs 57 = .ok (.aload_n 0, 1) := dk_42 (dk_at dksX1_standsAs_2 9 rfl rfl)
theorem dX1_standsAs_58 : decode cX1_standsAs 58 = .ok (.getfield 34, 3) := dk_180 0 34 (dk_at dksX1_standsAs_2 10 rfl rfl)
theorem dX1_standsAs_61 : decode cX1_standsAs 61 = .ok (.iconst 0, 1) := dk_3 (dk_at dksX1_standsAs_2 13 rfl rfl)
theorem dX1_standsAs_62 : decode cX1_standsAs 62 = .ok (.bipush 36, 2) := dk_16 36 (dk_at dksX1_standsAs_2 14 rfl rfl)
theorem dX1_standsAs_64 : decode cX1_standsAs 64 = .ok (.invokestatic 69, 3) := dk_184 0 69 (dk_at dksX1_standsAs_2 16 rfl rfl)
theorem dX1_standsAs_67 : decode cX1_standsAs 67 = .ok (.aload_n 1, 1) := dk_43 (dk_at dksX1_standsAs_2 19 rfl rfl)
theorem dX1_standsAs_68 : decode cX1_standsAs 68 = .ok (.getfield 37, 3) := dk_180 0 37 (dk_at dksX1_standsAs_2 20 rfl rfl)
theorem dX1_standsAs_71 : decode cX1_standsAs 71 = .ok (.iconst 0, 1) := dk_3 (dk_at dksX1_standsAs_2 23 rfl rfl)
theorem dX1_standsAs_72 : decode cX1_standsAs 72 = .ok (.aload_n 0, 1) := dk_42 (dk_at dksX1_standsAs_3 0 rfl rfl)
theorem dX1_standsAs_73 : decode cX1_standsAs 73 = .ok (.getfield 37, 3) := dk_180 0 37 (dk_at dksX1_standsAs_3 1 rfl rfl)
theorem dX1_standsAs_76 : decode cX1_standsAs 76 = .ok (.iconst 0, 1) := dk_3 (dk_at dksX1_standsAs_3 4 rfl rfl)
theorem dX1_standsAs_77 : decode cX1_standsAs 77 = .ok (.bipush 36, 2) := dk_16 36 (dk_at dksX1_standsAs_3 5 rfl rfl)
theorem dX1_standsAs_79 : decode cX1_standsAs 79 = .ok (.invokestatic 69, 3) := dk_184 0 69 (dk_at dksX1_standsAs_3 7 rfl rfl)
theorem dX1_standsAs_82 : decode cX1_standsAs 82 = .ok (.aload_n 0, 1) := dk_42 (dk_at dksX1_standsAs_3 10 rfl rfl)
theorem dX1_standsAs_83 : decode cX1_standsAs 83 = .ok (.areturn, 1) := dk_176 (dk_at dksX1_standsAs_3 11 rfl rfl)
abbrev cX1_cells : ByteArray := prog_11_method_8_code
def yX1_cells : MethodName := ⟨RX1, "cells", "()I"⟩
def dkwX1_cells_0 : List UInt8 := [42, 180, 0, 47, 42, 180, 0, 47, 104, 172]
abbrev dktX1_cells_0 : List UInt8 := dkwX1_cells_0 ++ []
theorem dksX1_cells_0 : cX1_cells.data.toList.drop 0 = dktX1_cells_0 := by decide +kernel
theorem dX1_cells_0 : decode cX1_cells 0 = .ok (.aload_n 0, 1) := dk_42 (dk_at dksX1_cells_0 0 rfl rfl)
theorem dX1_cells_1 : decode cX1_cells 1 = .ok (.getfield 47, 3) := dk_180 0 47 (dk_at dksX1_cells_0 1 rfl rfl)
theorem dX1_cells_4 : decode cX1_cells 4 = .ok (.aload_n 0, 1) := dk_42 (dk_at dksX1_cells_0 4 rfl rfl)
theorem dX1_cells_5 : decode cX1_cells 5 = .ok (.getfield 47, 3) := dk_180 0 47 (dk_at dksX1_cells_0 5 rfl rfl)
theorem dX1_cells_8 : decode cX1_cells 8 = .ok (.imul, 1) := dk_104 (dk_at dksX1_cells_0 8 rfl rfl)
theorem dX1_cells_9 : decode cX1_cells 9 = .ok (.ireturn, 1) := dk_172 (dk_at dksX1_cells_0 9 rfl rfl)
abbrev cX1_begins : ByteArray := prog_11_method_6_code
def yX1_begins : MethodName := ⟨RX1, "begins", "()V"⟩
def dkwX1_begins_2 : List UInt8 := [162, 0, 14, 42, 27, 182, 0, 88, 132, 1, 1, 167, 255, 242, 177]
abbrev dktX1_begins_2 : List UInt8 := dkwX1_begins_2 ++ []
def dkwX1_begins_1 : List UInt8 := [3, 8, 184, 0, 69, 42, 180, 0, 15, 3, 42, 180, 0, 31, 3, 8, 184, 0, 69, 3, 60, 27, 16, 36]
abbrev dktX1_begins_1 : List UInt8 := dkwX1_begins_1 ++ dktX1_begins_2
def dkwX1_begins_0 : List UInt8 := [42, 3, 181, 0, 79, 42, 3, 181, 0, 82, 42, 3, 181, 0, 85, 42, 180, 0, 9, 3, 42, 180, 0, 28]
abbrev dktX1_begins_0 : List UInt8 := dkwX1_begins_0 ++ dktX1_begins_1
theorem dksX1_begins_0 : cX1_begins.data.toList.drop 0 = dktX1_begins_0 := by decide +kernel
theorem dksX1_begins_1 : cX1_begins.data.toList.drop 24 = dktX1_begins_1 := dk_seg dksX1_begins_0 24 rfl rfl
theorem dksX1_begins_2 : cX1_begins.data.toList.drop 48 = dktX1_begins_2 := dk_seg dksX1_begins_1 24 rfl rfl
theorem dX1_begins_0 : decode cX1_begins 0 = .ok (.aload_n 0, 1) := dk_42 (dk_at dksX1_begins_0 0 rfl rfl)
theorem dX1_begins_1 : decode cX1_begins 1 = .ok (.iconst 0, 1) := dk_3 (dk_at dksX1_begins_0 1 rfl rfl)
theorem dX1_begins_2 : decode cX1_begins 2 = .ok (.putfield 79, 3) := dk_181 0 79 (dk_at dksX1_begins_0 2 rfl rfl)
theorem dX1_begins_5 : decode cX1_begins 5 = .ok (.aload_n 0, 1) := dk_42 (dk_at dksX1_begins_0 5 rfl rfl)
theorem dX1_begins_6 : decode cX1_begins 6 = .ok (.iconst 0, 1) := dk_3 (dk_at dksX1_begins_0 6 rfl rfl)
theorem dX1_begins_7 : decode cX1_begins 7 = .ok (.putfield 82, 3) := dk_181 0 82 (dk_at dksX1_begins_0 7 rfl rfl)
theorem dX1_begins_10 : decode cX1_begins 10 = .ok (.aload_n 0, 1) := dk_42 (dk_at dksX1_begins_0 10 rfl rfl)
theorem dX1_begins_11 : decode cX1_begins 11 = .ok (.iconst 0, 1) := dk_3 (dk_at dksX1_begins_0 11 rfl rfl)
theorem dX1_begins_12 : decode cX1_begins 12 = .ok (.putfield 85, 3) := dk_181 0 85 (dk_at dksX1_begins_0 12 rfl rfl)
theorem dX1_begins_15 : decode cX1_begins 15 = .ok (.aload_n 0, 1) := dk_42 (dk_at dksX1_begins_0 15 rfl rfl)
theorem dX1_begins_16 : decode cX1_begins 16 = .ok (.getfield 9, 3) := dk_180 0 9 (dk_at dksX1_begins_0 16 rfl rfl)
theorem dX1_begins_19 : decode cX1_begins 19 = .ok (.iconst 0, 1) := dk_3 (dk_at dksX1_begins_0 19 rfl rfl)
theorem dX1_begins_20 : decode cX1_begins 20 = .ok (.aload_n 0, 1) := dk_42 (dk_at dksX1_begins_0 20 rfl rfl)
theorem dX1_begins_21 : decode cX1_begins 21 = .ok (.getfield 28, 3) := dk_180 0 28 (dk_at dksX1_begins_0 21 rfl rfl)
theorem dX1_begins_24 : decode cX1_begins 24 = .ok (.iconst 0, 1) := dk_3 (dk_at dksX1_begins_1 0 rfl rfl)
theorem dX1_begins_25 : decode cX1_begins 25 = .ok (.iconst 5, 1) := dk_8 (dk_at dksX1_begins_1 1 rfl rfl)
theorem dX1_begins_26 : decode cX1_begins 26 = .ok (.invokestatic 69, 3) := dk_184 0 69 (dk_at dksX1_begins_1 2 rfl rfl)
theorem dX1_begins_29 : decode cX1_begins 29 = .ok (.aload_n 0, 1) := dk_42 (dk_at dksX1_begins_1 5 rfl rfl)
theorem dX1_begins_30 : decode cX1_begins 30 = .ok (.getfield 15, 3) := dk_180 0 15 (dk_at dksX1_begins_1 6 rfl rfl)
theorem dX1_begins_33 : decode cX1_begins 33 = .ok (.iconst 0, 1) := dk_3 (dk_at dksX1_begins_1 9 rfl rfl)
theorem dX1_begins_34 : decode cX1_begins 34 = .ok (.aload_n 0, 1) := dk_42 (dk_at dksX1_begins_1 10 rfl rfl)
theorem dX1_begins_35 : decode cX1_begins 35 = .ok (.getfield 31, 3) := dk_180 0 31 (dk_at dksX1_begins_1 11 rfl rfl)
theorem dX1_begins_38 : decode cX1_begins 38 = .ok (.iconst 0, 1) := dk_3 (dk_at dksX1_begins_1 14 rfl rfl)
theorem dX1_begins_39 : decode cX1_begins 39 = .ok (.iconst 5, 1) := dk_8 (dk_at dksX1_begins_1 15 rfl rfl)
theorem dX1_begins_40 : decode cX1_begins 40 = .ok (.invokestatic 69, 3) := dk_184 0 69 (dk_at dksX1_begins_1 16 rfl rfl)
theorem dX1_begins_43 : decode cX1_begins 43 = .ok (.iconst 0, 1) := dk_3 (dk_at dksX1_begins_1 19 rfl rfl)
theorem dX1_begins_44 : decode cX1_begins 44 = .ok (.istore_n 1, 1) := dk_60 (dk_at dksX1_begins_1 20 rfl rfl)
theorem dX1_begins_45 : decode cX1_begins 45 = .ok (.iload_n 1, 1) := dk_27 (dk_at dksX1_begins_1 21 rfl rfl)
theorem dX1_begins_46 : decode cX1_begins 46 = .ok (.bipush 36, 2) := dk_16 36 (dk_at dksX1_begins_1 22 rfl rfl)
theorem dX1_begins_48 : decode cX1_begins 48 = .ok (.if_icmp .ge 14, 3) := dk_162 0 14 (dk_at dksX1_begins_2 0 rfl rfl)
theorem dX1_begins_51 : decode cX1_begins 51 = .ok (.aload_n 0, 1) := dk_42 (dk_at dksX1_begins_2 3 rfl rfl)
theorem dX1_begins_52 : decode cX1_begins 52 = .ok (.iload_n 1, 1) := dk_27 (dk_at dksX1_begins_2 4 rfl rfl)
theorem dX1_begins_53 : decode cX1_begins 53 = .ok (.invokevirtual 88, 3) := dk_182 0 88 (dk_at dksX1_begins_2 5 rfl rfl)
theorem dX1_begins_56 : decode cX1_begins 56 = .ok (.iinc 1 1, 3) := dk_132 1 1 (dk_at dksX1_begins_2 8 rfl rfl)
theorem dX1_begins_59 : decode cX1_begins 59 = .ok (.goto (-14), 3) := dk_167 255 242 (dk_at dksX1_begins_2 11 rfl rfl)
theorem dX1_begins_62 : decode cX1_begins 62 = .ok (.return_, 1) := dk_177 (dk_at dksX1_begins_2 14 rfl rfl)
abbrev cX1_blots : ByteArray := prog_11_method_7_code
def yX1_blots : MethodName := ⟨RX1, "blots", "(I)V"⟩
def dkwX1_blots_0 : List UInt8 := [42, 180, 0, 34, 27, 2, 79, 42, 180, 0, 37, 27, 2, 79, 177]
abbrev dktX1_blots_0 : List UInt8 := dkwX1_blots_0 ++ []
theorem dksX1_blots_0 : cX1_blots.data.toList.drop 0 = dktX1_blots_0 := by decide +kernel
theorem dX1_blots_0 : decode cX1_blots 0 = .ok (.aload_n 0, 1) := dk_42 (dk_at dksX1_blots_0 0 rfl rfl)
theorem dX1_blots_1 : decode cX1_blots 1 = .ok (.getfield 34, 3) := dk_180 0 34 (dk_at dksX1_blots_0 1 rfl rfl)
theorem dX1_blots_4 : decode cX1_blots 4 = .ok (.iload_n 1, 1) := dk_27 (dk_at dksX1_blots_0 4 rfl rfl)
theorem dX1_blots_5 : decode cX1_blots 5 = .ok (.iconst (-1), 1) := dk_2 (dk_at dksX1_blots_0 5 rfl rfl)
theorem dX1_blots_6 : decode cX1_blots 6 = .ok (.iastore, 1) := dk_79 (dk_at dksX1_blots_0 6 rfl rfl)
theorem dX1_blots_7 : decode cX1_blots 7 = .ok (.aload_n 0, 1) := dk_42 (dk_at dksX1_blots_0 7 rfl rfl)
theorem dX1_blots_8 : decode cX1_blots 8 = .ok (.getfield 37, 3) := dk_180 0 37 (dk_at dksX1_blots_0 8 rfl rfl)
theorem dX1_blots_11 : decode cX1_blots 11 = .ok (.iload_n 1, 1) := dk_27 (dk_at dksX1_blots_0 11 rfl rfl)
theorem dX1_blots_12 : decode cX1_blots 12 = .ok (.iconst (-1), 1) := dk_2 (dk_at dksX1_blots_0 12 rfl rfl)
theorem dX1_blots_13 : decode cX1_blots 13 = .ok (.iastore, 1) := dk_79 (dk_at dksX1_blots_0 13 rfl rfl)
theorem dX1_blots_14 : decode cX1_blots 14 = .ok (.return_, 1) := dk_177 (dk_at dksX1_blots_0 14 rfl rfl)
abbrev cX1_strokesOf : ByteArray := prog_11_method_10_code
def yX1_strokesOf : MethodName := ⟨RX1, "strokesOf", "(I)I"⟩
def dkwX1_strokesOf_1 : List UInt8 := [167, 0, 4, 3, 96, 61, 132, 3, 1, 167, 255, 227, 28, 172]
abbrev dktX1_strokesOf_1 : List UInt8 := dkwX1_strokesOf_1 ++ []
def dkwX1_strokesOf_0 : List UInt8 := [3, 61, 3, 62, 29, 42, 182, 0, 92, 162, 0, 27, 28, 42, 180, 0, 34, 29, 46, 27, 160, 0, 7, 4]
abbrev dktX1_strokesOf_0 : List UInt8 := dkwX1_strokesOf_0 ++ dktX1_strokesOf_1
theorem dksX1_strokesOf_0 : cX1_strokesOf.data.toList.drop 0 = dktX1_strokesOf_0 := by decide +kernel
theorem dksX1_strokesOf_1 : cX1_strokesOf.data.toList.drop 24 = dktX1_strokesOf_1 := dk_seg dksX1_strokesOf_0 24 rfl rfl
theorem dX1_strokesOf_0 : decode cX1_strokesOf 0 = .ok (.iconst 0, 1) := dk_3 (dk_at dksX1_strokesOf_0 0 rfl rfl)
theorem dX1_strokesOf_1 : decode cX1_strokesOf 1 = .ok (.istore_n 2, 1) := dk_61 (dk_at dksX1_strokesOf_0 1 rfl rfl)
theorem dX1_strokesOf_2 : decode cX1_strokesOf 2 = .ok (.iconst 0, 1) := dk_3 (dk_at dksX1_strokesOf_0 2 rfl rfl)
theorem dX1_strokesOf_3 : decode cX1_strokesOf 3 = .ok (.istore_n 3, 1) := dk_62 (dk_at dksX1_strokesOf_0 3 rfl rfl)
theorem dX1_strokesOf_4 : decode cX1_strokesOf 4 = .ok (.iload_n 3, 1) := dk_29 (dk_at dksX1_strokesOf_0 4 rfl rfl)
theorem dX1_strokesOf_5 : decode cX1_strokesOf 5 = .ok (.aload_n 0, 1) := dk_42 (dk_at dksX1_strokesOf_0 5 rfl rfl)
theorem dX1_strokesOf_6 : decode cX1_strokesOf 6 = .ok (.invokevirtual 92, 3) := dk_182 0 92 (dk_at dksX1_strokesOf_0 6 rfl rfl)
theorem dX1_strokesOf_9 : decode cX1_strokesOf 9 = .ok (.if_icmp .ge 27, 3) := dk_162 0 27 (dk_at dksX1_strokesOf_0 9 rfl rfl)
theorem dX1_strokesOf_12 : decode cX1_strokesOf 12 = .ok (.iload_n 2, 1) := dk_28 (dk_at dksX1_strokesOf_0 12 rfl rfl)
theorem dX1_strokesOf_13 : decode cX1_strokesOf 13 = .ok (.aload_n 0, 1) := dk_42 (dk_at dksX1_strokesOf_0 13 rfl rfl)
theorem dX1_strokesOf_14 : decode cX1_strokesOf 14 = .ok (.getfield 34, 3) := dk_180 0 34 (dk_at dksX1_strokesOf_0 14 rfl rfl)
theorem dX1_strokesOf_17 : decode cX1_strokesOf 17 = .ok (.iload_n 3, 1) := dk_29 (dk_at dksX1_strokesOf_0 17 rfl rfl)
theorem dX1_strokesOf_18 : decode cX1_strokesOf 18 = .ok (.iaload, 1) := dk_46 (dk_at dksX1_strokesOf_0 18 rfl rfl)
theorem dX1_strokesOf_19 : decode cX1_strokesOf 19 = .ok (.iload_n 1, 1) := dk_27 (dk_at dksX1_strokesOf_0 19 rfl rfl)
theorem dX1_strokesOf_20 : decode cX1_strokesOf 20 = .ok (.if_icmp .ne 7, 3) := dk_160 0 7 (dk_at dksX1_strokesOf_0 20 rfl rfl)
theorem dX1_strokesOf_23 : decode cX1_strokesOf 23 = .ok (.iconst 1, 1) := dk_4 (dk_at dksX1_strokesOf_0 23 rfl rfl)
theorem dX1_strokesOf_24 : decode cX1_strokesOf 24 = .ok (.goto 4, 3) := dk_167 0 4 (dk_at dksX1_strokesOf_1 0 rfl rfl)
theorem dX1_strokesOf_27 : decode cX1_strokesOf 27 = .ok (.iconst 0, 1) := dk_3 (dk_at dksX1_strokesOf_1 3 rfl rfl)
theorem dX1_strokesOf_28 : decode cX1_strokesOf 28 = .ok (.iadd, 1) := dk_96 (dk_at dksX1_strokesOf_1 4 rfl rfl)
theorem dX1_strokesOf_29 : decode cX1_strokesOf 29 = .ok (.istore_n 2, 1) := dk_61 (dk_at dksX1_strokesOf_1 5 rfl rfl)
theorem dX1_strokesOf_30 : decode cX1_strokesOf 30 = .ok (.iinc 3 1, 3) := dk_132 3 1 (dk_at dksX1_strokesOf_1 6 rfl rfl)
theorem dX1_strokesOf_33 : decode cX1_strokesOf 33 = .ok (.goto (-29), 3) := dk_167 255 227 (dk_at dksX1_strokesOf_1 9 rfl rfl)
theorem dX1_strokesOf_36 : decode cX1_strokesOf 36 = .ok (.iload_n 2, 1) := dk_28 (dk_at dksX1_strokesOf_1 12 rfl rfl)
theorem dX1_strokesOf_37 : decode cX1_strokesOf 37 = .ok (.ireturn, 1) := dk_172 (dk_at dksX1_strokesOf_1 13 rfl rfl)
abbrev cX1_takes : ByteArray := prog_11_method_5_code
def yX1_takes : MethodName := ⟨RX1, "takes", "(I)V"⟩
def dkwX1_takes_4 : List UInt8 := [180, 0, 40, 28, 16, 49, 96, 42, 180, 0, 37, 3, 16, 36, 184, 0, 69, 177]
abbrev dktX1_takes_4 : List UInt8 := dkwX1_takes_4 ++ []
def dkwX1_takes_3 : List UInt8 := [184, 0, 69, 42, 180, 0, 40, 28, 16, 13, 96, 42, 180, 0, 34, 3, 16, 36, 184, 0, 69, 42]
abbrev dktX1_takes_3 : List UInt8 := dkwX1_takes_3 ++ dktX1_takes_4
def dkwX1_takes_2 : List UInt8 := [180, 0, 28, 3, 8, 184, 0, 69, 42, 180, 0, 40, 28, 16, 8, 96, 42, 180, 0, 31, 3, 8]
abbrev dktX1_takes_2 : List UInt8 := dkwX1_takes_2 ++ dktX1_takes_3
def dkwX1_takes_1 : List UInt8 := [181, 0, 82, 42, 42, 180, 0, 40, 28, 5, 96, 46, 181, 0, 85, 42, 180, 0, 40, 28, 6, 96, 42]
abbrev dktX1_takes_1 : List UInt8 := dkwX1_takes_1 ++ dktX1_takes_2
def dkwX1_takes_0 : List UInt8 := [16, 85, 27, 104, 61, 42, 42, 180, 0, 40, 28, 46, 181, 0, 79, 42, 42, 180, 0, 40, 28, 4, 96, 46]
abbrev dktX1_takes_0 : List UInt8 := dkwX1_takes_0 ++ dktX1_takes_1
theorem dksX1_takes_0 : cX1_takes.data.toList.drop 0 = dktX1_takes_0 := by decide +kernel
theorem dksX1_takes_1 : cX1_takes.data.toList.drop 24 = dktX1_takes_1 := dk_seg dksX1_takes_0 24 rfl rfl
theorem dksX1_takes_2 : cX1_takes.data.toList.drop 47 = dktX1_takes_2 := dk_seg dksX1_takes_1 23 rfl rfl
theorem dksX1_takes_3 : cX1_takes.data.toList.drop 69 = dktX1_takes_3 := dk_seg dksX1_takes_2 22 rfl rfl
theorem dksX1_takes_4 : cX1_takes.data.toList.drop 91 = dktX1_takes_4 := dk_seg dksX1_takes_3 22 rfl rfl
theorem dX1_takes_0 : decode cX1_takes 0 = .ok (.bipush 85, 2) := dk_16 85 (dk_at dksX1_takes_0 0 rfl rfl)
theorem dX1_takes_2 : decode cX1_takes 2 = .ok (.iload_n 1, 1) := dk_27 (dk_at dksX1_takes_0 2 rfl rfl)
theorem dX1_takes_3 : decode cX1_takes 3 = .ok (.imul, 1) := dk_104 (dk_at dksX1_takes_0 3 rfl rfl)
theorem dX1_takes_4 : decode cX1_takes 4 = .ok (.istore_n 2, 1) := dk_61 (dk_at dksX1_takes_0 4 rfl rfl)
theorem dX1_takes_5 : decode cX1_takes 5 = .ok (.aload_n 0, 1) := dk_42 (dk_at dksX1_takes_0 5 rfl rfl)
theorem dX1_takes_6 : decode cX1_takes 6 = .ok (.aload_n 0, 1) := dk_42 (dk_at dksX1_takes_0 6 rfl rfl)
theorem dX1_takes_7 : decode cX1_takes 7 = .ok (.getfield 40, 3) := dk_180 0 40 (dk_at dksX1_takes_0 7 rfl rfl)
theorem dX1_takes_10 : decode cX1_takes 10 = .ok (.iload_n 2, 1) := dk_28 (dk_at dksX1_takes_0 10 rfl rfl)
theorem dX1_takes_11 : decode cX1_takes 11 = .ok (.iaload, 1) := dk_46 (dk_at dksX1_takes_0 11 rfl rfl)
theorem dX1_takes_12 : decode cX1_takes 12 = .ok (.putfield 79, 3) := dk_181 0 79 (dk_at dksX1_takes_0 12 rfl rfl)
theorem dX1_takes_15 : decode cX1_takes 15 = .ok (.aload_n 0, 1) := dk_42 (dk_at dksX1_takes_0 15 rfl rfl)
theorem dX1_takes_16 : decode cX1_takes 16 = .ok (.aload_n 0, 1) := dk_42 (dk_at dksX1_takes_0 16 rfl rfl)
theorem dX1_takes_17 : decode cX1_takes 17 = .ok (.getfield 40, 3) := dk_180 0 40 (dk_at dksX1_takes_0 17 rfl rfl)
theorem dX1_takes_20 : decode cX1_takes 20 = .ok (.iload_n 2, 1) := dk_28 (dk_at dksX1_takes_0 20 rfl rfl)
theorem dX1_takes_21 : decode cX1_takes 21 = .ok (.iconst 1, 1) := dk_4 (dk_at dksX1_takes_0 21 rfl rfl)
theorem dX1_takes_22 : decode cX1_takes 22 = .ok (.iadd, 1) := dk_96 (dk_at dksX1_takes_0 22 rfl rfl)
theorem dX1_takes_23 : decode cX1_takes 23 = .ok (.iaload, 1) := dk_46 (dk_at dksX1_takes_0 23 rfl rfl)
theorem dX1_takes_24 : decode cX1_takes 24 = .ok (.putfield 82, 3) := dk_181 0 82 (dk_at dksX1_takes_1 0 rfl rfl)
theorem dX1_takes_27 : decode cX1_takes 27 = .ok (.aload_n 0, 1) := dk_42 (dk_at dksX1_takes_1 3 rfl rfl)
theorem dX1_takes_28 : decode cX1_takes 28 = .ok (.aload_n 0, 1) := dk_42 (dk_at dksX1_takes_1 4 rfl rfl)
theorem dX1_takes_29 : decode cX1_takes 29 = .ok (.getfield 40, 3) := dk_180 0 40 (dk_at dksX1_takes_1 5 rfl rfl)
theorem dX1_takes_32 : decode cX1_takes 32 = .ok (.iload_n 2, 1) := dk_28 (dk_at dksX1_takes_1 8 rfl rfl)
theorem dX1_takes_33 : decode cX1_takes 33 = .ok (.iconst 2, 1) := dk_5 (dk_at dksX1_takes_1 9 rfl rfl)
theorem dX1_takes_34 : decode cX1_takes 34 = .ok (.iadd, 1) := dk_96 (dk_at dksX1_takes_1 10 rfl rfl)
theorem dX1_takes_35 : decode cX1_takes 35 = .ok (.iaload, 1) := dk_46 (dk_at dksX1_takes_1 11 rfl rfl)
theorem dX1_takes_36 : decode cX1_takes 36 = .ok (.putfield 85, 3) := dk_181 0 85 (dk_at dksX1_takes_1 12 rfl rfl)
theorem dX1_takes_39 : decode cX1_takes 39 = .ok (.aload_n 0, 1) := dk_42 (dk_at dksX1_takes_1 15 rfl rfl)
theorem dX1_takes_40 : decode cX1_takes 40 = .ok (.getfield 40, 3) := dk_180 0 40 (dk_at dksX1_takes_1 16 rfl rfl)
theorem dX1_takes_43 : decode cX1_takes 43 = .ok (.iload_n 2, 1) := dk_28 (dk_at dksX1_takes_1 19 rfl rfl)
theorem dX1_takes_44 : decode cX1_takes 44 = .ok (.iconst 3, 1) := dk_6 (dk_at dksX1_takes_1 20 rfl rfl)
theorem dX1_takes_45 : decode cX1_takes 45 = .ok (.iadd, 1) := dk_96 (dk_at dksX1_takes_1 21 rfl rfl)
theorem dX1_takes_46 : decode cX1_takes 46 = .ok (.aload_n 0, 1) := dk_42 (dk_at dksX1_takes_1 22 rfl rfl)
theorem dX1_takes_47 : decode cX1_takes 47 = .ok (.getfield 28, 3) := dk_180 0 28 (dk_at dksX1_takes_2 0 rfl rfl)
theorem dX1_takes_50 : decode cX1_takes 50 = .ok (.iconst 0, 1) := dk_3 (dk_at dksX1_takes_2 3 rfl rfl)
theorem dX1_takes_51 : decode cX1_takes 51 = .ok (.iconst 5, 1) := dk_8 (dk_at dksX1_takes_2 4 rfl rfl)
theorem dX1_takes_52 : decode cX1_takes 52 = .ok (.invokestatic 69, 3) := dk_184 0 69 (dk_at dksX1_takes_2 5 rfl rfl)
theorem dX1_takes_55 : decode cX1_takes 55 = .ok (.aload_n 0, 1) := dk_42 (dk_at dksX1_takes_2 8 rfl rfl)
theorem dX1_takes_56 : decode cX1_takes 56 = .ok (.getfield 40, 3) := dk_180 0 40 (dk_at dksX1_takes_2 9 rfl rfl)
theorem dX1_takes_59 : decode cX1_takes 59 = .ok (.iload_n 2, 1) := dk_28 (dk_at dksX1_takes_2 12 rfl rfl)
theorem dX1_takes_60 : decode cX1_takes 60 = .ok (.bipush 8, 2) := dk_16 8 (dk_at dksX1_takes_2 13 rfl rfl)
theorem dX1_takes_62 : decode cX1_takes 62 = .ok (.iadd, 1) := dk_96 (dk_at dksX1_takes_2 15 rfl rfl)
theorem dX1_takes_63 : decode cX1_takes 63 = .ok (.aload_n 0, 1) := dk_42 (dk_at dksX1_takes_2 16 rfl rfl)
theorem dX1_takes_64 : decode cX1_takes 64 = .ok (.getfield 31, 3) := dk_180 0 31 (dk_at dksX1_takes_2 17 rfl rfl)
theorem dX1_takes_67 : decode cX1_takes 67 = .ok (.iconst 0, 1) := dk_3 (dk_at dksX1_takes_2 20 rfl rfl)
theorem dX1_takes_68 : decode cX1_takes 68 = .ok (.iconst 5, 1) := dk_8 (dk_at dksX1_takes_2 21 rfl rfl)
theorem dX1_takes_69 : decode cX1_takes 69 = .ok (.invokestatic 69, 3) := dk_184 0 69 (dk_at dksX1_takes_3 0 rfl rfl)
theorem dX1_takes_72 : decode cX1_takes 72 = .ok (.aload_n 0, 1) := dk_42 (dk_at dksX1_takes_3 3 rfl rfl)
theorem dX1_takes_73 : decode cX1_takes 73 = .ok (.getfield 40, 3) := dk_180 0 40 (dk_at dksX1_takes_3 4 rfl rfl)
theorem dX1_takes_76 : decode cX1_takes 76 = .ok (.iload_n 2, 1) := dk_28 (dk_at dksX1_takes_3 7 rfl rfl)
theorem dX1_takes_77 : decode cX1_takes 77 = .ok (.bipush 13, 2) := dk_16 13 (dk_at dksX1_takes_3 8 rfl rfl)
theorem dX1_takes_79 : decode cX1_takes 79 = .ok (.iadd, 1) := dk_96 (dk_at dksX1_takes_3 10 rfl rfl)
theorem dX1_takes_80 : decode cX1_takes 80 = .ok (.aload_n 0, 1) := dk_42 (dk_at dksX1_takes_3 11 rfl rfl)
theorem dX1_takes_81 : decode cX1_takes 81 = .ok (.getfield 34, 3) := dk_180 0 34 (dk_at dksX1_takes_3 12 rfl rfl)
theorem dX1_takes_84 : decode cX1_takes 84 = .ok (.iconst 0, 1) := dk_3 (dk_at dksX1_takes_3 15 rfl rfl)
theorem dX1_takes_85 : decode cX1_takes 85 = .ok (.bipush 36, 2) := dk_16 36 (dk_at dksX1_takes_3 16 rfl rfl)
theorem dX1_takes_87 : decode cX1_takes 87 = .ok (.invokestatic 69, 3) := dk_184 0 69 (dk_at dksX1_takes_3 18 rfl rfl)
theorem dX1_takes_90 : decode cX1_takes 90 = .ok (.aload_n 0, 1) := dk_42 (dk_at dksX1_takes_3 21 rfl rfl)
theorem dX1_takes_91 : decode cX1_takes 91 = .ok (.getfield 40, 3) := dk_180 0 40 (dk_at dksX1_takes_4 0 rfl rfl)
theorem dX1_takes_94 : decode cX1_takes 94 = .ok (.iload_n 2, 1) := dk_28 (dk_at dksX1_takes_4 3 rfl rfl)
theorem dX1_takes_95 : decode cX1_takes 95 = .ok (.bipush 49, 2) := dk_16 49 (dk_at dksX1_takes_4 4 rfl rfl)
theorem dX1_takes_97 : decode cX1_takes 97 = .ok (.iadd, 1) := dk_96 (dk_at dksX1_takes_4 6 rfl rfl)
theorem dX1_takes_98 : decode cX1_takes 98 = .ok (.aload_n 0, 1) := dk_42 (dk_at dksX1_takes_4 7 rfl rfl)
theorem dX1_takes_99 : decode cX1_takes 99 = .ok (.getfield 37, 3) := dk_180 0 37 (dk_at dksX1_takes_4 8 rfl rfl)
theorem dX1_takes_102 : decode cX1_takes 102 = .ok (.iconst 0, 1) := dk_3 (dk_at dksX1_takes_4 11 rfl rfl)
theorem dX1_takes_103 : decode cX1_takes 103 = .ok (.bipush 36, 2) := dk_16 36 (dk_at dksX1_takes_4 12 rfl rfl)
theorem dX1_takes_105 : decode cX1_takes 105 = .ok (.invokestatic 69, 3) := dk_184 0 69 (dk_at dksX1_takes_4 14 rfl rfl)
theorem dX1_takes_108 : decode cX1_takes 108 = .ok (.return_, 1) := dk_177 (dk_at dksX1_takes_4 17 rfl rfl)
abbrev cX1_lays : ByteArray := prog_11_method_4_code
def yX1_lays : MethodName := ⟨RX1, "lays", "(I)V"⟩
def dkwX1_lays_4 : List UInt8 := [180, 0, 37, 3, 42, 180, 0, 40, 28, 16, 49, 96, 16, 36, 184, 0, 69, 177]
abbrev dktX1_lays_4 : List UInt8 := dkwX1_lays_4 ++ []
def dkwX1_lays_3 : List UInt8 := [184, 0, 69, 42, 180, 0, 34, 3, 42, 180, 0, 40, 28, 16, 13, 96, 16, 36, 184, 0, 69, 42]
abbrev dktX1_lays_3 : List UInt8 := dkwX1_lays_3 ++ dktX1_lays_4
def dkwX1_lays_2 : List UInt8 := [180, 0, 40, 28, 6, 96, 8, 184, 0, 69, 42, 180, 0, 31, 3, 42, 180, 0, 40, 28, 16, 8, 96, 8]
abbrev dktX1_lays_2 : List UInt8 := dkwX1_lays_2 ++ dktX1_lays_3
def dkwX1_lays_1 : List UInt8 := [180, 0, 82, 79, 42, 180, 0, 40, 28, 5, 96, 42, 180, 0, 85, 79, 42, 180, 0, 28, 3, 42]
abbrev dktX1_lays_1 : List UInt8 := dkwX1_lays_1 ++ dktX1_lays_2
def dkwX1_lays_0 : List UInt8 := [16, 85, 27, 104, 61, 42, 180, 0, 40, 28, 42, 180, 0, 79, 79, 42, 180, 0, 40, 28, 4, 96, 42]
abbrev dktX1_lays_0 : List UInt8 := dkwX1_lays_0 ++ dktX1_lays_1
theorem dksX1_lays_0 : cX1_lays.data.toList.drop 0 = dktX1_lays_0 := by decide +kernel
theorem dksX1_lays_1 : cX1_lays.data.toList.drop 23 = dktX1_lays_1 := dk_seg dksX1_lays_0 23 rfl rfl
theorem dksX1_lays_2 : cX1_lays.data.toList.drop 45 = dktX1_lays_2 := dk_seg dksX1_lays_1 22 rfl rfl
theorem dksX1_lays_3 : cX1_lays.data.toList.drop 69 = dktX1_lays_3 := dk_seg dksX1_lays_2 24 rfl rfl
theorem dksX1_lays_4 : cX1_lays.data.toList.drop 91 = dktX1_lays_4 := dk_seg dksX1_lays_3 22 rfl rfl
theorem dX1_lays_0 : decode cX1_lays 0 = .ok (.bipush 85, 2) := dk_16 85 (dk_at dksX1_lays_0 0 rfl rfl)
theorem dX1_lays_2 : decode cX1_lays 2 = .ok (.iload_n 1, 1) := dk_27 (dk_at dksX1_lays_0 2 rfl rfl)
theorem dX1_lays_3 : decode cX1_lays 3 = .ok (.imul, 1) := dk_104 (dk_at dksX1_lays_0 3 rfl rfl)
theorem dX1_lays_4 : decode cX1_lays 4 = .ok (.istore_n 2, 1) := dk_61 (dk_at dksX1_lays_0 4 rfl rfl)
theorem dX1_lays_5 : decode cX1_lays 5 = .ok (.aload_n 0, 1) := dk_42 (dk_at dksX1_lays_0 5 rfl rfl)
theorem dX1_lays_6 : decode cX1_lays 6 = .ok (.getfield 40, 3) := dk_180 0 40 (dk_at dksX1_lays_0 6 rfl rfl)
theorem dX1_lays_9 : decode cX1_lays 9 = .ok (.iload_n 2, 1) := dk_28 (dk_at dksX1_lays_0 9 rfl rfl)
theorem dX1_lays_10 : decode cX1_lays 10 = .ok (.aload_n 0, 1) := dk_42 (dk_at dksX1_lays_0 10 rfl rfl)
theorem dX1_lays_11 : decode cX1_lays 11 = .ok (.getfield 79, 3) := dk_180 0 79 (dk_at dksX1_lays_0 11 rfl rfl)
theorem dX1_lays_14 : decode cX1_lays 14 = .ok (.iastore, 1) := dk_79 (dk_at dksX1_lays_0 14 rfl rfl)
theorem dX1_lays_15 : decode cX1_lays 15 = .ok (.aload_n 0, 1) := dk_42 (dk_at dksX1_lays_0 15 rfl rfl)
theorem dX1_lays_16 : decode cX1_lays 16 = .ok (.getfield 40, 3) := dk_180 0 40 (dk_at dksX1_lays_0 16 rfl rfl)
theorem dX1_lays_19 : decode cX1_lays 19 = .ok (.iload_n 2, 1) := dk_28 (dk_at dksX1_lays_0 19 rfl rfl)
theorem dX1_lays_20 : decode cX1_lays 20 = .ok (.iconst 1, 1) := dk_4 (dk_at dksX1_lays_0 20 rfl rfl)
theorem dX1_lays_21 : decode cX1_lays 21 = .ok (.iadd, 1) := dk_96 (dk_at dksX1_lays_0 21 rfl rfl)
theorem dX1_lays_22 : decode cX1_lays 22 = .ok (.aload_n 0, 1) := dk_42 (dk_at dksX1_lays_0 22 rfl rfl)
theorem dX1_lays_23 : decode cX1_lays 23 = .ok (.getfield 82, 3) := dk_180 0 82 (dk_at dksX1_lays_1 0 rfl rfl)
theorem dX1_lays_26 : decode cX1_lays 26 = .ok (.iastore, 1) := dk_79 (dk_at dksX1_lays_1 3 rfl rfl)
theorem dX1_lays_27 : decode cX1_lays 27 = .ok (.aload_n 0, 1) := dk_42 (dk_at dksX1_lays_1 4 rfl rfl)
theorem dX1_lays_28 : decode cX1_lays 28 = .ok (.getfield 40, 3) := dk_180 0 40 (dk_at dksX1_lays_1 5 rfl rfl)
theorem dX1_lays_31 : decode cX1_lays 31 = .ok (.iload_n 2, 1) := dk_28 (dk_at dksX1_lays_1 8 rfl rfl)
theorem dX1_lays_32 : decode cX1_lays 32 = .ok (.iconst 2, 1) := dk_5 (dk_at dksX1_lays_1 9 rfl rfl)
theorem dX1_lays_33 : decode cX1_lays 33 = .ok (.iadd, 1) := dk_96 (dk_at dksX1_lays_1 10 rfl rfl)
theorem dX1_lays_34 : decode cX1_lays 34 = .ok (.aload_n 0, 1) := dk_42 (dk_at dksX1_lays_1 11 rfl rfl)
theorem dX1_lays_35 : decode cX1_lays 35 = .ok (.getfield 85, 3) := dk_180 0 85 (dk_at dksX1_lays_1 12 rfl rfl)
theorem dX1_lays_38 : decode cX1_lays 38 = .ok (.iastore, 1) := dk_79 (dk_at dksX1_lays_1 15 rfl rfl)
theorem dX1_lays_39 : decode cX1_lays 39 = .ok (.aload_n 0, 1) := dk_42 (dk_at dksX1_lays_1 16 rfl rfl)
theorem dX1_lays_40 : decode cX1_lays 40 = .ok (.getfield 28, 3) := dk_180 0 28 (dk_at dksX1_lays_1 17 rfl rfl)
theorem dX1_lays_43 : decode cX1_lays 43 = .ok (.iconst 0, 1) := dk_3 (dk_at dksX1_lays_1 20 rfl rfl)
theorem dX1_lays_44 : decode cX1_lays 44 = .ok (.aload_n 0, 1) := dk_42 (dk_at dksX1_lays_1 21 rfl rfl)
theorem dX1_lays_45 : decode cX1_lays 45 = .ok (.getfield 40, 3) := dk_180 0 40 (dk_at dksX1_lays_2 0 rfl rfl)
theorem dX1_lays_48 : decode cX1_lays 48 = .ok (.iload_n 2, 1) := dk_28 (dk_at dksX1_lays_2 3 rfl rfl)
theorem dX1_lays_49 : decode cX1_lays 49 = .ok (.iconst 3, 1) := dk_6 (dk_at dksX1_lays_2 4 rfl rfl)
theorem dX1_lays_50 : decode cX1_lays 50 = .ok (.iadd, 1) := dk_96 (dk_at dksX1_lays_2 5 rfl rfl)
theorem dX1_lays_51 : decode cX1_lays 51 = .ok (.iconst 5, 1) := dk_8 (dk_at dksX1_lays_2 6 rfl rfl)
theorem dX1_lays_52 : decode cX1_lays 52 = .ok (.invokestatic 69, 3) := dk_184 0 69 (dk_at dksX1_lays_2 7 rfl rfl)
theorem dX1_lays_55 : decode cX1_lays 55 = .ok (.aload_n 0, 1) := dk_42 (dk_at dksX1_lays_2 10 rfl rfl)
theorem dX1_lays_56 : decode cX1_lays 56 = .ok (.getfield 31, 3) := dk_180 0 31 (dk_at dksX1_lays_2 11 rfl rfl)
theorem dX1_lays_59 : decode cX1_lays 59 = .ok (.iconst 0, 1) := dk_3 (dk_at dksX1_lays_2 14 rfl rfl)
theorem dX1_lays_60 : decode cX1_lays 60 = .ok (.aload_n 0, 1) := dk_42 (dk_at dksX1_lays_2 15 rfl rfl)
theorem dX1_lays_61 : decode cX1_lays 61 = .ok (.getfield 40, 3) := dk_180 0 40 (dk_at dksX1_lays_2 16 rfl rfl)
theorem dX1_lays_64 : decode cX1_lays 64 = .ok (.iload_n 2, 1) := dk_28 (dk_at dksX1_lays_2 19 rfl rfl)
theorem dX1_lays_65 : decode cX1_lays 65 = .ok (.bipush 8, 2) := dk_16 8 (dk_at dksX1_lays_2 20 rfl rfl)
theorem dX1_lays_67 : decode cX1_lays 67 = .ok (.iadd, 1) := dk_96 (dk_at dksX1_lays_2 22 rfl rfl)
theorem dX1_lays_68 : decode cX1_lays 68 = .ok (.iconst 5, 1) := dk_8 (dk_at dksX1_lays_2 23 rfl rfl)
theorem dX1_lays_69 : decode cX1_lays 69 = .ok (.invokestatic 69, 3) := dk_184 0 69 (dk_at dksX1_lays_3 0 rfl rfl)
theorem dX1_lays_72 : decode cX1_lays 72 = .ok (.aload_n 0, 1) := dk_42 (dk_at dksX1_lays_3 3 rfl rfl)
theorem dX1_lays_73 : decode cX1_lays 73 = .ok (.getfield 34, 3) := dk_180 0 34 (dk_at dksX1_lays_3 4 rfl rfl)
theorem dX1_lays_76 : decode cX1_lays 76 = .ok (.iconst 0, 1) := dk_3 (dk_at dksX1_lays_3 7 rfl rfl)
theorem dX1_lays_77 : decode cX1_lays 77 = .ok (.aload_n 0, 1) := dk_42 (dk_at dksX1_lays_3 8 rfl rfl)
theorem dX1_lays_78 : decode cX1_lays 78 = .ok (.getfield 40, 3) := dk_180 0 40 (dk_at dksX1_lays_3 9 rfl rfl)
theorem dX1_lays_81 : decode cX1_lays 81 = .ok (.iload_n 2, 1) := dk_28 (dk_at dksX1_lays_3 12 rfl rfl)
theorem dX1_lays_82 : decode cX1_lays 82 = .ok (.bipush 13, 2) := dk_16 13 (dk_at dksX1_lays_3 13 rfl rfl)
theorem dX1_lays_84 : decode cX1_lays 84 = .ok (.iadd, 1) := dk_96 (dk_at dksX1_lays_3 15 rfl rfl)
theorem dX1_lays_85 : decode cX1_lays 85 = .ok (.bipush 36, 2) := dk_16 36 (dk_at dksX1_lays_3 16 rfl rfl)
theorem dX1_lays_87 : decode cX1_lays 87 = .ok (.invokestatic 69, 3) := dk_184 0 69 (dk_at dksX1_lays_3 18 rfl rfl)
theorem dX1_lays_90 : decode cX1_lays 90 = .ok (.aload_n 0, 1) := dk_42 (dk_at dksX1_lays_3 21 rfl rfl)
theorem dX1_lays_91 : decode cX1_lays 91 = .ok (.getfield 37, 3) := dk_180 0 37 (dk_at dksX1_lays_4 0 rfl rfl)
theorem dX1_lays_94 : decode cX1_lays 94 = .ok (.iconst 0, 1) := dk_3 (dk_at dksX1_lays_4 3 rfl rfl)
theorem dX1_lays_95 : decode cX1_lays 95 = .ok (.aload_n 0, 1) := dk_42 (dk_at dksX1_lays_4 4 rfl rfl)
theorem dX1_lays_96 : decode cX1_lays 96 = .ok (.getfield 40, 3) := dk_180 0 40 (dk_at dksX1_lays_4 5 rfl rfl)
theorem dX1_lays_99 : decode cX1_lays 99 = .ok (.iload_n 2, 1) := dk_28 (dk_at dksX1_lays_4 8 rfl rfl)
theorem dX1_lays_100 : decode cX1_lays 100 = .ok (.bipush 49, 2) := dk_16 49 (dk_at dksX1_lays_4 9 rfl rfl)
theorem dX1_lays_102 : decode cX1_lays 102 = .ok (.iadd, 1) := dk_96 (dk_at dksX1_lays_4 11 rfl rfl)
theorem dX1_lays_103 : decode cX1_lays 103 = .ok (.bipush 36, 2) := dk_16 36 (dk_at dksX1_lays_4 12 rfl rfl)
theorem dX1_lays_105 : decode cX1_lays 105 = .ok (.invokestatic 69, 3) := dk_184 0 69 (dk_at dksX1_lays_4 14 rfl rfl)
theorem dX1_lays_108 : decode cX1_lays 108 = .ok (.return_, 1) := dk_177 (dk_at dksX1_lays_4 17 rfl rfl)
abbrev cX1_passes : ByteArray := prog_11_method_20_code
def yX1_passes : MethodName := ⟨RX1, "passes", "(LSkySpire$Rule;)I"⟩
def dkwX1_passes_5 : List UInt8 := [132, 3, 1, 167, 255, 212, 28, 172]
abbrev dktX1_passes_5 : List UInt8 := dkwX1_passes_5 ++ []
def dkwX1_passes_4 : List UInt8 := [180, 0, 79, 42, 180, 0, 37, 29, 46, 100, 42, 180, 0, 51, 164, 0, 8, 42, 29, 182, 0, 88]
abbrev dktX1_passes_4 : List UInt8 := dkwX1_passes_4 ++ dktX1_passes_5
def dkwX1_passes_3 : List UInt8 := [181, 0, 79, 3, 62, 29, 42, 182, 0, 92, 162, 0, 42, 42, 180, 0, 34, 29, 46, 2, 159, 0, 26, 42]
abbrev dktX1_passes_3 : List UInt8 := dkwX1_passes_3 ++ dktX1_passes_4
def dkwX1_passes_2 : List UInt8 := [162, 0, 15, 42, 29, 28, 182, 0, 131, 132, 3, 1, 167, 255, 239, 42, 89, 180, 0, 79, 4, 96]
abbrev dktX1_passes_2 : List UInt8 := dkwX1_passes_2 ++ dktX1_passes_3
def dkwX1_passes_1 : List UInt8 := [120, 167, 0, 4, 3, 128, 61, 132, 3, 1, 167, 255, 226, 42, 182, 0, 128, 3, 62, 29, 42, 182, 0, 92]
abbrev dktX1_passes_1 : List UInt8 := dkwX1_passes_1 ++ dktX1_passes_2
def dkwX1_passes_0 : List UInt8 := [3, 61, 3, 62, 29, 42, 180, 0, 54, 162, 0, 28, 28, 42, 29, 43, 182, 0, 124, 153, 0, 9, 4, 29]
abbrev dktX1_passes_0 : List UInt8 := dkwX1_passes_0 ++ dktX1_passes_1
theorem dksX1_passes_0 : cX1_passes.data.toList.drop 0 = dktX1_passes_0 := by decide +kernel
theorem dksX1_passes_1 : cX1_passes.data.toList.drop 24 = dktX1_passes_1 := dk_seg dksX1_passes_0 24 rfl rfl
theorem dksX1_passes_2 : cX1_passes.data.toList.drop 48 = dktX1_passes_2 := dk_seg dksX1_passes_1 24 rfl rfl
theorem dksX1_passes_3 : cX1_passes.data.toList.drop 70 = dktX1_passes_3 := dk_seg dksX1_passes_2 22 rfl rfl
theorem dksX1_passes_4 : cX1_passes.data.toList.drop 94 = dktX1_passes_4 := dk_seg dksX1_passes_3 24 rfl rfl
theorem dksX1_passes_5 : cX1_passes.data.toList.drop 116 = dktX1_passes_5 := dk_seg dksX1_passes_4 22 rfl rfl
theorem dX1_passes_0 : decode cX1_passes 0 = .ok (.iconst 0, 1) := dk_3 (dk_at dksX1_passes_0 0 rfl rfl)
theorem dX1_passes_1 : decode cX1_passes 1 = .ok (.istore_n 2, 1) := dk_61 (dk_at dksX1_passes_0 1 rfl rfl)
theorem dX1_passes_2 : decode cX1_passes 2 = .ok (.iconst 0, 1) := dk_3 (dk_at dksX1_passes_0 2 rfl rfl)
theorem dX1_passes_3 : decode cX1_passes 3 = .ok (.istore_n 3, 1) := dk_62 (dk_at dksX1_passes_0 3 rfl rfl)
theorem dX1_passes_4 : decode cX1_passes 4 = .ok (.iload_n 3, 1) := dk_29 (dk_at dksX1_passes_0 4 rfl rfl)
theorem dX1_passes_5 : decode cX1_passes 5 = .ok (.aload_n 0, 1) := dk_42 (dk_at dksX1_passes_0 5 rfl rfl)
theorem dX1_passes_6 : decode cX1_passes 6 = .ok (.getfield 54, 3) := dk_180 0 54 (dk_at dksX1_passes_0 6 rfl rfl)
theorem dX1_passes_9 : decode cX1_passes 9 = .ok (.if_icmp .ge 28, 3) := dk_162 0 28 (dk_at dksX1_passes_0 9 rfl rfl)
theorem dX1_passes_12 : decode cX1_passes 12 = .ok (.iload_n 2, 1) := dk_28 (dk_at dksX1_passes_0 12 rfl rfl)
theorem dX1_passes_13 : decode cX1_passes 13 = .ok (.aload_n 0, 1) := dk_42 (dk_at dksX1_passes_0 13 rfl rfl)
theorem dX1_passes_14 : decode cX1_passes 14 = .ok (.iload_n 3, 1) := dk_29 (dk_at dksX1_passes_0 14 rfl rfl)
theorem dX1_passes_15 : decode cX1_passes 15 = .ok (.aload_n 1, 1) := dk_43 (dk_at dksX1_passes_0 15 rfl rfl)
theorem dX1_passes_16 : decode cX1_passes 16 = .ok (.invokevirtual 124, 3) := dk_182 0 124 (dk_at dksX1_passes_0 16 rfl rfl)
theorem dX1_passes_19 : decode cX1_passes 19 = .ok (.ifCond .eq 9, 3) := dk_153 0 9 (dk_at dksX1_passes_0 19 rfl rfl)
theorem dX1_passes_22 : decode cX1_passes 22 = .ok (.iconst 1, 1) := dk_4 (dk_at dksX1_passes_0 22 rfl rfl)
theorem dX1_passes_23 : decode cX1_passes 23 = .ok (.iload_n 3, 1) := dk_29 (dk_at dksX1_passes_0 23 rfl rfl)
theorem dX1_passes_24 : decode cX1_passes 24 = .ok (.ishl, 1) := dk_120 (dk_at dksX1_passes_1 0 rfl rfl)
theorem dX1_passes_25 : decode cX1_passes 25 = .ok (.goto 4, 3) := dk_167 0 4 (dk_at dksX1_passes_1 1 rfl rfl)
theorem dX1_passes_28 : decode cX1_passes 28 = .ok (.iconst 0, 1) := dk_3 (dk_at dksX1_passes_1 4 rfl rfl)
theorem dX1_passes_29 : decode cX1_passes 29 = .ok (.ior, 1) := dk_128 (dk_at dksX1_passes_1 5 rfl rfl)
theorem dX1_passes_30 : decode cX1_passes 30 = .ok (.istore_n 2, 1) := dk_61 (dk_at dksX1_passes_1 6 rfl rfl)
theorem dX1_passes_31 : decode cX1_passes 31 = .ok (.iinc 3 1, 3) := dk_132 3 1 (dk_at dksX1_passes_1 7 rfl rfl)
theorem dX1_passes_34 : decode cX1_passes 34 = .ok (.goto (-30), 3) := dk_167 255 226 (dk_at dksX1_passes_1 10 rfl rfl)
theorem dX1_passes_37 : decode cX1_passes 37 = .ok (.aload_n 0, 1) := dk_42 (dk_at dksX1_passes_1 13 rfl rfl)
theorem dX1_passes_38 : decode cX1_passes 38 = .ok (.invokevirtual 128, 3) := dk_182 0 128 (dk_at dksX1_passes_1 14 rfl rfl)
theorem dX1_passes_41 : decode cX1_passes 41 = .ok (.iconst 0, 1) := dk_3 (dk_at dksX1_passes_1 17 rfl rfl)
theorem dX1_passes_42 : decode cX1_passes 42 = .ok (.istore_n 3, 1) := dk_62 (dk_at dksX1_passes_1 18 rfl rfl)
theorem dX1_passes_43 : decode cX1_passes 43 = .ok (.iload_n 3, 1) := dk_29 (dk_at dksX1_passes_1 19 rfl rfl)
theorem dX1_passes_44 : decode cX1_passes 44 = .ok (.aload_n 0, 1) := dk_42 (dk_at dksX1_passes_1 20 rfl rfl)
theorem dX1_passes_45 : decode cX1_passes 45 = .ok (.invokevirtual 92, 3) := dk_182 0 92 (dk_at dksX1_passes_1 21 rfl rfl)
theorem dX1_passes_48 : decode cX1_passes 48 = .ok (.if_icmp .ge 15, 3) := dk_162 0 15 (dk_at dksX1_passes_2 0 rfl rfl)
theorem dX1_passes_51 : decode cX1_passes 51 = .ok (.aload_n 0, 1) := dk_42 (dk_at dksX1_passes_2 3 rfl rfl)
theorem dX1_passes_52 : decode cX1_passes 52 = .ok (.iload_n 3, 1) := dk_29 (dk_at dksX1_passes_2 4 rfl rfl)
theorem dX1_passes_53 : decode cX1_passes 53 = .ok (.iload_n 2, 1) := dk_28 (dk_at dksX1_passes_2 5 rfl rfl)
theorem dX1_passes_54 : decode cX1_passes 54 = .ok (.invokevirtual 131, 3) := dk_182 0 131 (dk_at dksX1_passes_2 6 rfl rfl)
theorem dX1_passes_57 : decode cX1_passes 57 = .ok (.iinc 3 1, 3) := dk_132 3 1 (dk_at dksX1_passes_2 9 rfl rfl)
theorem dX1_passes_60 : decode cX1_passes 60 = .ok (.goto (-17), 3) := dk_167 255 239 (dk_at dksX1_passes_2 12 rfl rfl)
theorem dX1_passes_63 : decode cX1_passes 63 = .ok (.aload_n 0, 1) := dk_42 (dk_at dksX1_passes_2 15 rfl rfl)
theorem dX1_passes_64 : decode cX1_passes 64 = .ok (.dup, 1) := dk_89 (dk_at dksX1_passes_2 16 rfl rfl)
theorem dX1_passes_65 : decode cX1_passes 65 = .ok (.getfield 79, 3) := dk_180 0 79 (dk_at dksX1_passes_2 17 rfl rfl)
theorem dX1_passes_68 : decode cX1_passes 68 = .ok (.iconst 1, 1) := dk_4 (dk_at dksX1_passes_2 20 rfl rfl)
theorem dX1_passes_69 : decode cX1_passes 69 = .ok (.iadd, 1) := dk_96 (dk_at dksX1_passes_2 21 rfl rfl)
theorem dX1_passes_70 : decode cX1_passes 70 = .ok (.putfield 79, 3) := dk_181 0 79 (dk_at dksX1_passes_3 0 rfl rfl)
theorem dX1_passes_73 : decode cX1_passes 73 = .ok (.iconst 0, 1) := dk_3 (dk_at dksX1_passes_3 3 rfl rfl)
theorem dX1_passes_74 : decode cX1_passes 74 = .ok (.istore_n 3, 1) := dk_62 (dk_at dksX1_passes_3 4 rfl rfl)
theorem dX1_passes_75 : decode cX1_passes 75 = .ok (.iload_n 3, 1) := dk_29 (dk_at dksX1_passes_3 5 rfl rfl)
theorem dX1_passes_76 : decode cX1_passes 76 = .ok (.aload_n 0, 1) := dk_42 (dk_at dksX1_passes_3 6 rfl rfl)
theorem dX1_passes_77 : decode cX1_passes 77 = .ok (.invokevirtual 92, 3) := dk_182 0 92 (dk_at dksX1_passes_3 7 rfl rfl)
theorem dX1_passes_80 : decode cX1_passes 80 = .ok (.if_icmp .ge 42, 3) := dk_162 0 42 (dk_at dksX1_passes_3 10 rfl rfl)
theorem dX1_passes_83 : decode cX1_passes 83 = .ok (.aload_n 0, 1) := dk_42 (dk_at dksX1_passes_3 13 rfl rfl)
theorem dX1_passes_84 : decode cX1_passes 84 = .ok (.getfield 34, 3) := dk_180 0 34 (dk_at dksX1_passes_3 14 rfl rfl)
theorem dX1_passes_87 : decode cX1_passes 87 = .ok (.iload_n 3, 1) := dk_29 (dk_at dksX1_passes_3 17 rfl rfl)
theorem dX1_passes_88 : decode cX1_passes 88 = .ok (.iaload, 1) := dk_46 (dk_at dksX1_passes_3 18 rfl rfl)
theorem dX1_passes_89 : decode cX1_passes 89 = .ok (.iconst (-1), 1) := dk_2 (dk_at dksX1_passes_3 19 rfl rfl)
theorem dX1_passes_90 : decode cX1_passes 90 = .ok (.if_icmp .eq 26, 3) := dk_159 0 26 (dk_at dksX1_passes_3 20 rfl rfl)
theorem dX1_passes_93 : decode cX1_passes 93 = .ok (.aload_n 0, 1) := dk_42 (dk_at dksX1_passes_3 23 rfl rfl)
theorem dX1_passes_94 : decode cX1_passes 94 = .ok (.getfield 79, 3) := dk_180 0 79 (dk_at dksX1_passes_4 0 rfl rfl)
theorem dX1_passes_97 : decode cX1_passes 97 = .ok (.aload_n 0, 1) := dk_42 (dk_at dksX1_passes_4 3 rfl rfl)
theorem dX1_passes_98 : decode cX1_passes 98 = .ok (.getfield 37, 3) := dk_180 0 37 (dk_at dksX1_passes_4 4 rfl rfl)
theorem dX1_passes_101 : decode cX1_passes 101 = .ok (.iload_n 3, 1) := dk_29 (dk_at dksX1_passes_4 7 rfl rfl)
theorem dX1_passes_102 : decode cX1_passes 102 = .ok (.iaload, 1) := dk_46 (dk_at dksX1_passes_4 8 rfl rfl)
theorem dX1_passes_103 : decode cX1_passes 103 = .ok (.isub, 1) := dk_100 (dk_at dksX1_passes_4 9 rfl rfl)
theorem dX1_passes_104 : decode cX1_passes 104 = .ok (.aload_n 0, 1) := dk_42 (dk_at dksX1_passes_4 10 rfl rfl)
theorem dX1_passes_105 : decode cX1_passes 105 = .ok (.getfield 51, 3) := dk_180 0 51 (dk_at dksX1_passes_4 11 rfl rfl)
theorem dX1_passes_108 : decode cX1_passes 108 = .ok (.if_icmp .le 8, 3) := dk_164 0 8 (dk_at dksX1_passes_4 14 rfl rfl)
theorem dX1_passes_111 : decode cX1_passes 111 = .ok (.aload_n 0, 1) := dk_42 (dk_at dksX1_passes_4 17 rfl rfl)
theorem dX1_passes_112 : decode cX1_passes 112 = .ok (.iload_n 3, 1) := dk_29 (dk_at dksX1_passes_4 18 rfl rfl)
theorem dX1_passes_113 : decode cX1_passes 113 = .ok (.invokevirtual 88, 3) := dk_182 0 88 (dk_at dksX1_passes_4 19 rfl rfl)
theorem dX1_passes_116 : decode cX1_passes 116 = .ok (.iinc 3 1, 3) := dk_132 3 1 (dk_at dksX1_passes_5 0 rfl rfl)
theorem dX1_passes_119 : decode cX1_passes 119 = .ok (.goto (-44), 3) := dk_167 255 212 (dk_at dksX1_passes_5 3 rfl rfl)
theorem dX1_passes_122 : decode cX1_passes 122 = .ok (.iload_n 2, 1) := dk_28 (dk_at dksX1_passes_5 6 rfl rfl)
theorem dX1_passes_123 : decode cX1_passes 123 = .ok (.ireturn, 1) := dk_172 (dk_at dksX1_passes_5 7 rfl rfl)
abbrev cX1_writes : ByteArray := prog_11_method_16_code
def yX1_writes : MethodName := ⟨RX1, "writes", "(ILSkySpire$Rule;)Z"⟩
def dkwX1_writes_9 : List UInt8 := [133, 80, 44, 42, 180, 0, 43, 182, 0, 110, 9, 148, 158, 0, 7, 4, 167, 0, 4, 3, 172]
abbrev dktX1_writes_9 : List UInt8 := dkwX1_writes_9 ++ []
def dkwX1_writes_8 : List UInt8 := [16, 10, 42, 42, 180, 0, 79, 4, 96, 182, 0, 104, 133, 80, 42, 180, 0, 43, 16, 11, 42, 180, 0, 79]
abbrev dktX1_writes_8 : List UInt8 := dkwX1_writes_8 ++ dktX1_writes_9
def dkwX1_writes_7 : List UInt8 := [180, 0, 43, 16, 9, 42, 180, 0, 21, 29, 51, 153, 0, 7, 10, 167, 0, 4, 9, 80, 42, 180, 0, 43]
abbrev dktX1_writes_7 : List UInt8 := dkwX1_writes_7 ++ dktX1_writes_8
def dkwX1_writes_6 : List UInt8 := [180, 0, 43, 16, 8, 42, 180, 0, 34, 29, 46, 27, 160, 0, 7, 10, 167, 0, 4, 9, 80, 42]
abbrev dktX1_writes_6 : List UInt8 := dkwX1_writes_6 ++ dktX1_writes_7
def dkwX1_writes_5 : List UInt8 := [180, 0, 43, 16, 7, 42, 180, 0, 34, 29, 46, 2, 159, 0, 7, 10, 167, 0, 4, 9, 80, 42]
abbrev dktX1_writes_5 : List UInt8 := dkwX1_writes_5 ++ dktX1_writes_6
def dkwX1_writes_4 : List UInt8 := [180, 0, 79, 182, 0, 104, 133, 80, 42, 180, 0, 43, 16, 6, 42, 27, 182, 0, 107, 133, 80, 42]
abbrev dktX1_writes_4 : List UInt8 := dkwX1_writes_4 ++ dktX1_writes_5
def dkwX1_writes_3 : List UInt8 := [80, 42, 180, 0, 43, 7, 42, 42, 180, 0, 79, 182, 0, 100, 133, 80, 42, 180, 0, 43, 8, 42, 42]
abbrev dktX1_writes_3 : List UInt8 := dkwX1_writes_3 ++ dktX1_writes_4
def dkwX1_writes_2 : List UInt8 := [180, 0, 43, 5, 29, 42, 180, 0, 47, 112, 133, 80, 42, 180, 0, 43, 6, 42, 180, 0, 31, 27, 46, 133]
abbrev dktX1_writes_2 : List UInt8 := dkwX1_writes_2 ++ dktX1_writes_3
def dkwX1_writes_1 : List UInt8 := [46, 62, 42, 180, 0, 43, 3, 27, 133, 80, 42, 180, 0, 43, 4, 29, 42, 180, 0, 47, 108, 133, 80, 42]
abbrev dktX1_writes_1 : List UInt8 := dkwX1_writes_1 ++ dktX1_writes_2
def dkwX1_writes_0 : List UInt8 := [42, 180, 0, 85, 27, 184, 0, 96, 153, 0, 5, 3, 172, 44, 199, 0, 5, 4, 172, 42, 180, 0, 28, 27]
abbrev dktX1_writes_0 : List UInt8 := dkwX1_writes_0 ++ dktX1_writes_1
theorem dksX1_writes_0 : cX1_writes.data.toList.drop 0 = dktX1_writes_0 := by decide +kernel
theorem dksX1_writes_1 : cX1_writes.data.toList.drop 24 = dktX1_writes_1 := dk_seg dksX1_writes_0 24 rfl rfl
theorem dksX1_writes_2 : cX1_writes.data.toList.drop 48 = dktX1_writes_2 := dk_seg dksX1_writes_1 24 rfl rfl
theorem dksX1_writes_3 : cX1_writes.data.toList.drop 72 = dktX1_writes_3 := dk_seg dksX1_writes_2 24 rfl rfl
theorem dksX1_writes_4 : cX1_writes.data.toList.drop 95 = dktX1_writes_4 := dk_seg dksX1_writes_3 23 rfl rfl
theorem dksX1_writes_5 : cX1_writes.data.toList.drop 117 = dktX1_writes_5 := dk_seg dksX1_writes_4 22 rfl rfl
theorem dksX1_writes_6 : cX1_writes.data.toList.drop 139 = dktX1_writes_6 := dk_seg dksX1_writes_5 22 rfl rfl
theorem dksX1_writes_7 : cX1_writes.data.toList.drop 161 = dktX1_writes_7 := dk_seg dksX1_writes_6 22 rfl rfl
theorem dksX1_writes_8 : cX1_writes.data.toList.drop 185 = dktX1_writes_8 := dk_seg dksX1_writes_7 24 rfl rfl
theorem dksX1_writes_9 : cX1_writes.data.toList.drop 209 = dktX1_writes_9 := dk_seg dksX1_writes_8 24 rfl rfl
theorem dX1_writes_0 : decode cX1_writes 0 = .ok (.aload_n 0, 1) := dk_42 (dk_at dksX1_writes_0 0 rfl rfl)
theorem dX1_writes_1 : decode cX1_writes 1 = .ok (.getfield 85, 3) := dk_180 0 85 (dk_at dksX1_writes_0 1 rfl rfl)
theorem dX1_writes_4 : decode cX1_writes 4 = .ok (.iload_n 1, 1) := dk_27 (dk_at dksX1_writes_0 4 rfl rfl)
theorem dX1_writes_5 : decode cX1_writes 5 = .ok (.invokestatic 96, 3) := dk_184 0 96 (dk_at dksX1_writes_0 5 rfl rfl)
theorem dX1_writes_8 : decode cX1_writes 8 = .ok (.ifCond .eq 5, 3) := dk_153 0 5 (dk_at dksX1_writes_0 8 rfl rfl)
theorem dX1_writes_11 : decode cX1_writes 11 = .ok (.iconst 0, 1) := dk_3 (dk_at dksX1_writes_0 11 rfl rfl)
theorem dX1_writes_12 : decode cX1_writes 12 = .ok (.ireturn, 1) := dk_172 (dk_at dksX1_writes_0 12 rfl rfl)
theorem dX1_writes_13 : decode cX1_writes 13 = .ok (.aload_n 2, 1) := dk_44 (dk_at dksX1_writes_0 13 rfl rfl)
theorem dX1_writes_14 : decode cX1_writes 14 = .ok (.ifnonnull 5, 3) := dk_199 0 5 (dk_at dksX1_writes_0 14 rfl rfl)
theorem dX1_writes_17 : decode cX1_writes 17 = .ok (.iconst 1, 1) := dk_4 (dk_at dksX1_writes_0 17 rfl rfl)
theorem dX1_writes_18 : decode cX1_writes 18 = .ok (.ireturn, 1) := dk_172 (dk_at dksX1_writes_0 18 rfl rfl)
theorem dX1_writes_19 : decode cX1_writes 19 = .ok (.aload_n 0, 1) := dk_42 (dk_at dksX1_writes_0 19 rfl rfl)
theorem dX1_writes_20 : decode cX1_writes 20 = .ok (.getfield 28, 3) := dk_180 0 28 (dk_at dksX1_writes_0 20 rfl rfl)
theorem dX1_writes_23 : decode cX1_writes 23 = .ok (.iload_n 1, 1) := dk_27 (dk_at dksX1_writes_0 23 rfl rfl)
theorem dX1_writes_24 : decode cX1_writes 24 = .ok (.iaload, 1) := dk_46 (dk_at dksX1_writes_1 0 rfl rfl)
theorem dX1_writes_25 : decode cX1_writes 25 = .ok (.istore_n 3, 1) := dk_62 (dk_at dksX1_writes_1 1 rfl rfl)
theorem dX1_writes_26 : decode cX1_writes 26 = .ok (.aload_n 0, 1) := dk_42 (dk_at dksX1_writes_1 2 rfl rfl)
theorem dX1_writes_27 : decode cX1_writes 27 = .ok (.getfield 43, 3) := dk_180 0 43 (dk_at dksX1_writes_1 3 rfl rfl)
theorem dX1_writes_30 : decode cX1_writes 30 = .ok (.iconst 0, 1) := dk_3 (dk_at dksX1_writes_1 6 rfl rfl)
theorem dX1_writes_31 : decode cX1_writes 31 = .ok (.iload_n 1, 1) := dk_27 (dk_at dksX1_writes_1 7 rfl rfl)
theorem dX1_writes_32 : decode cX1_writes 32 = .ok (.i2l, 1) := dk_133 (dk_at dksX1_writes_1 8 rfl rfl)
theorem dX1_writes_33 : decode cX1_writes 33 = .ok (.lastore, 1) := dk_80 (dk_at dksX1_writes_1 9 rfl rfl)
theorem dX1_writes_34 : decode cX1_writes 34 = .ok (.aload_n 0, 1) := dk_42 (dk_at dksX1_writes_1 10 rfl rfl)
theorem dX1_writes_35 : decode cX1_writes 35 = .ok (.getfield 43, 3) := dk_180 0 43 (dk_at dksX1_writes_1 11 rfl rfl)
theorem dX1_writes_38 : decode cX1_writes 38 = .ok (.iconst 1, 1) := dk_4 (dk_at dksX1_writes_1 14 rfl rfl)
theorem dX1_writes_39 : decode cX1_writes 39 = .ok (.iload_n 3, 1) := dk_29 (dk_at dksX1_writes_1 15 rfl rfl)
theorem dX1_writes_40 : decode cX1_writes 40 = .ok (.aload_n 0, 1) := dk_42 (dk_at dksX1_writes_1 16 rfl rfl)
theorem dX1_writes_41 : decode cX1_writes 41 = .ok (.getfield 47, 3) := dk_180 0 47 (dk_at dksX1_writes_1 17 rfl rfl)
theorem dX1_writes_44 : decode cX1_writes 44 = .ok (.idiv, 1) := dk_108 (dk_at dksX1_writes_1 20 rfl rfl)
theorem dX1_writes_45 : decode cX1_writes 45 = .ok (.i2l, 1) := dk_133 (dk_at dksX1_writes_1 21 rfl rfl)
theorem dX1_writes_46 : decode cX1_writes 46 = .ok (.lastore, 1) := dk_80 (dk_at dksX1_writes_1 22 rfl rfl)
theorem dX1_writes_47 : decode cX1_writes 47 = .ok (.aload_n 0, 1) := dk_42 (dk_at dksX1_writes_1 23 rfl rfl)
theorem dX1_writes_48 : decode cX1_writes 48 = .ok (.getfield 43, 3) := dk_180 0 43 (dk_at dksX1_writes_2 0 rfl rfl)
theorem dX1_writes_51 : decode cX1_writes 51 = .ok (.iconst 2, 1) := dk_5 (dk_at dksX1_writes_2 3 rfl rfl)
theorem dX1_writes_52 : decode cX1_writes 52 = .ok (.iload_n 3, 1) := dk_29 (dk_at dksX1_writes_2 4 rfl rfl)
theorem dX1_writes_53 : decode cX1_writes 53 = .ok (.aload_n 0, 1) := dk_42 (dk_at dksX1_writes_2 5 rfl rfl)
theorem dX1_writes_54 : decode cX1_writes 54 = .ok (.getfield 47, 3) := dk_180 0 47 (dk_at dksX1_writes_2 6 rfl rfl)
theorem dX1_writes_57 : decode cX1_writes 57 = .ok (.irem, 1) := dk_112 (dk_at dksX1_writes_2 9 rfl rfl)
theorem dX1_writes_58 : decode cX1_writes 58 = .ok (.i2l, 1) := dk_133 (dk_at dksX1_writes_2 10 rfl rfl)
theorem dX1_writes_59 : decode cX1_writes 59 = .ok (.lastore, 1) := dk_80 (dk_at dksX1_writes_2 11 rfl rfl)
theorem dX1_writes_60 : decode cX1_writes 60 = .ok (.aload_n 0, 1) := dk_42 (dk_at dksX1_writes_2 12 rfl rfl)
theorem dX1_writes_61 : decode cX1_writes 61 = .ok (.getfield 43, 3) := dk_180 0 43 (dk_at dksX1_writes_2 13 rfl rfl)
theorem dX1_writes_64 : decode cX1_writes 64 = .ok (.iconst 3, 1) := dk_6 (dk_at dksX1_writes_2 16 rfl rfl)
theorem dX1_writes_65 : decode cX1_writes 65 = .ok (.aload_n 0, 1) := dk_42 (dk_at dksX1_writes_2 17 rfl rfl)
theorem dX1_writes_66 : decode cX1_writes 66 = .ok (.getfield 31, 3) := dk_180 0 31 (dk_at dksX1_writes_2 18 rfl rfl)
theorem dX1_writes_69 : decode cX1_writes 69 = .ok (.iload_n 1, 1) := dk_27 (dk_at dksX1_writes_2 21 rfl rfl)
theorem dX1_writes_70 : decode cX1_writes 70 = .ok (.iaload, 1) := dk_46 (dk_at dksX1_writes_2 22 rfl rfl)
theorem dX1_writes_71 : decode cX1_writes 71 = .ok (.i2l, 1) := dk_133 (dk_at dksX1_writes_2 23 rfl rfl)
theorem dX1_writes_72 : decode cX1_writes 72 = .ok (.lastore, 1) := dk_80 (dk_at dksX1_writes_3 0 rfl rfl)
theorem dX1_writes_73 : decode cX1_writes 73 = .ok (.aload_n 0, 1) := dk_42 (dk_at dksX1_writes_3 1 rfl rfl)
theorem dX1_writes_74 : decode cX1_writes 74 = .ok (.getfield 43, 3) := dk_180 0 43 (dk_at dksX1_writes_3 2 rfl rfl)
theorem dX1_writes_77 : decode cX1_writes 77 = .ok (.iconst 4, 1) := dk_7 (dk_at dksX1_writes_3 5 rfl rfl)
theorem dX1_writes_78 : decode cX1_writes 78 = .ok (.aload_n 0, 1) := dk_42 (dk_at dksX1_writes_3 6 rfl rfl)
theorem dX1_writes_79 : decode cX1_writes 79 = .ok (.aload_n 0, 1) := dk_42 (dk_at dksX1_writes_3 7 rfl rfl)
theorem dX1_writes_80 : decode cX1_writes 80 = .ok (.getfield 79, 3) := dk_180 0 79 (dk_at dksX1_writes_3 8 rfl rfl)
theorem dX1_writes_83 : decode cX1_writes 83 = .ok (.invokevirtual 100, 3) := dk_182 0 100 (dk_at dksX1_writes_3 11 rfl rfl)
theorem dX1_writes_86 : decode cX1_writes 86 = .ok (.i2l, 1) := dk_133 (dk_at dksX1_writes_3 14 rfl rfl)
theorem dX1_writes_87 : decode cX1_writes 87 = .ok (.lastore, 1) := dk_80 (dk_at dksX1_writes_3 15 rfl rfl)
theorem dX1_writes_88 : decode cX1_writes 88 = .ok (.aload_n 0, 1) := dk_42 (dk_at dksX1_writes_3 16 rfl rfl)
theorem dX1_writes_89 : decode cX1_writes 89 = .ok (.getfield 43, 3) := dk_180 0 43 (dk_at dksX1_writes_3 17 rfl rfl)
theorem dX1_writes_92 : decode cX1_writes 92 = .ok (.iconst 5, 1) := dk_8 (dk_at dksX1_writes_3 20 rfl rfl)
theorem dX1_writes_93 : decode cX1_writes 93 = .ok (.aload_n 0, 1) := dk_42 (dk_at dksX1_writes_3 21 rfl rfl)
theorem dX1_writes_94 : decode cX1_writes 94 = .ok (.aload_n 0, 1) := dk_42 (dk_at dksX1_writes_3 22 rfl rfl)
theorem dX1_writes_95 : decode cX1_writes 95 = .ok (.getfield 79, 3) := dk_180 0 79 (dk_at dksX1_writes_4 0 rfl rfl)
theorem dX1_writes_98 : decode cX1_writes 98 = .ok (.invokevirtual 104, 3) := dk_182 0 104 (dk_at dksX1_writes_4 3 rfl rfl)
theorem dX1_writes_101 : decode cX1_writes 101 = .ok (.i2l, 1) := dk_133 (dk_at dksX1_writes_4 6 rfl rfl)
theorem dX1_writes_102 : decode cX1_writes 102 = .ok (.lastore, 1) := dk_80 (dk_at dksX1_writes_4 7 rfl rfl)
theorem dX1_writes_103 : decode cX1_writes 103 = .ok (.aload_n 0, 1) := dk_42 (dk_at dksX1_writes_4 8 rfl rfl)
theorem dX1_writes_104 : decode cX1_writes 104 = .ok (.getfield 43, 3) := dk_180 0 43 (dk_at dksX1_writes_4 9 rfl rfl)
theorem dX1_writes_107 : decode cX1_writes 107 = .ok (.bipush 6, 2) := dk_16 6 (dk_at dksX1_writes_4 12 rfl rfl)
theorem dX1_writes_109 : decode cX1_writes 109 = .ok (.aload_n 0, 1) := dk_42 (dk_at dksX1_writes_4 14 rfl rfl)
theorem dX1_writes_110 : decode cX1_writes 110 = .ok (.iload_n 1, 1) := dk_27 (dk_at dksX1_writes_4 15 rfl rfl)
theorem dX1_writes_111 : decode cX1_writes 111 = .ok (.invokevirtual 107, 3) := dk_182 0 107 (dk_at dksX1_writes_4 16 rfl rfl)
theorem dX1_writes_114 : decode cX1_writes 114 = .ok (.i2l, 1) := dk_133 (dk_at dksX1_writes_4 19 rfl rfl)
theorem dX1_writes_115 : decode cX1_writes 115 = .ok (.lastore, 1) := dk_80 (dk_at dksX1_writes_4 20 rfl rfl)
theorem dX1_writes_116 : decode cX1_writes 116 = .ok (.aload_n 0, 1) := dk_42 (dk_at dksX1_writes_4 21 rfl rfl)
theorem dX1_writes_117 : decode cX1_writes 117 = .ok (.getfield 43, 3) := dk_180 0 43 (dk_at dksX1_writes_5 0 rfl rfl)
theorem dX1_writes_120 : decode cX1_writes 120 = .ok (.bipush 7, 2) := dk_16 7 (dk_at dksX1_writes_5 3 rfl rfl)
theorem dX1_writes_122 : decode cX1_writes 122 = .ok (.aload_n 0, 1) := dk_42 (dk_at dksX1_writes_5 5 rfl rfl)
theorem dX1_writes_123 : decode cX1_writes 123 = .ok (.getfield 34, 3) := dk_180 0 34 (dk_at dksX1_writes_5 6 rfl rfl)
theorem dX1_writes_126 : decode cX1_writes 126 = .ok (.iload_n 3, 1) := dk_29 (dk_at dksX1_writes_5 9 rfl rfl)
theorem dX1_writes_127 : decode cX1_writes 127 = .ok (.iaload, 1) := dk_46 (dk_at dksX1_writes_5 10 rfl rfl)
theorem dX1_writes_128 : decode cX1_writes 128 = .ok (.iconst (-1), 1) := dk_2 (dk_at dksX1_writes_5 11 rfl rfl)
theorem dX1_writes_129 : decode cX1_writes 129 = .ok (.if_icmp .eq 7, 3) := dk_159 0 7 (dk_at dksX1_writes_5 12 rfl rfl)
theorem dX1_writes_132 : decode cX1_writes 132 = .ok (.lconst 1, 1) := dk_10 (dk_at dksX1_writes_5 15 rfl rfl)
theorem dX1_writes_133 : decode cX1_writes 133 = .ok (.goto 4, 3) := dk_167 0 4 (dk_at dksX1_writes_5 16 rfl rfl)
theorem dX1_writes_136 : decode cX1_writes 136 = .ok (.lconst 0, 1) := dk_9 (dk_at dksX1_writes_5 19 rfl rfl)
theorem dX1_writes_137 : decode cX1_writes 137 = .ok (.lastore, 1) := dk_80 (dk_at dksX1_writes_5 20 rfl rfl)
theorem dX1_writes_138 : decode cX1_writes 138 = .ok (.aload_n 0, 1) := dk_42 (dk_at dksX1_writes_5 21 rfl rfl)
theorem dX1_writes_139 : decode cX1_writes 139 = .ok (.getfield 43, 3) := dk_180 0 43 (dk_at dksX1_writes_6 0 rfl rfl)
theorem dX1_writes_142 : decode cX1_writes 142 = .ok (.bipush 8, 2) := dk_16 8 (dk_at dksX1_writes_6 3 rfl rfl)
theorem dX1_writes_144 : decode cX1_writes 144 = .ok (.aload_n 0, 1) := dk_42 (dk_at dksX1_writes_6 5 rfl rfl)
theorem dX1_writes_145 : decode cX1_writes 145 = .ok (.getfield 34, 3) := dk_180 0 34 (dk_at dksX1_writes_6 6 rfl rfl)
theorem dX1_writes_148 : decode cX1_writes 148 = .ok (.iload_n 3, 1) := dk_29 (dk_at dksX1_writes_6 9 rfl rfl)
theorem dX1_writes_149 : decode cX1_writes 149 = .ok (.iaload, 1) := dk_46 (dk_at dksX1_writes_6 10 rfl rfl)
theorem dX1_writes_150 : decode cX1_writes 150 = .ok (.iload_n 1, 1) := dk_27 (dk_at dksX1_writes_6 11 rfl rfl)
theorem dX1_writes_151 : decode cX1_writes 151 = .ok (.if_icmp .ne 7, 3) := dk_160 0 7 (dk_at dksX1_writes_6 12 rfl rfl)
theorem dX1_writes_154 : decode cX1_writes 154 = .ok (.lconst 1, 1) := dk_10 (dk_at dksX1_writes_6 15 rfl rfl)
theorem dX1_writes_155 : decode cX1_writes 155 = .ok (.goto 4, 3) := dk_167 0 4 (dk_at dksX1_writes_6 16 rfl rfl)
theorem dX1_writes_158 : decode cX1_writes 158 = .ok (.lconst 0, 1) := dk_9 (dk_at dksX1_writes_6 19 rfl rfl)
theorem dX1_writes_159 : decode cX1_writes 159 = .ok (.lastore, 1) := dk_80 (dk_at dksX1_writes_6 20 rfl rfl)
theorem dX1_writes_160 : decode cX1_writes 160 = .ok (.aload_n 0, 1) := dk_42 (dk_at dksX1_writes_6 21 rfl rfl)
theorem dX1_writes_161 : decode cX1_writes 161 = .ok (.getfield 43, 3) := dk_180 0 43 (dk_at dksX1_writes_7 0 rfl rfl)
theorem dX1_writes_164 : decode cX1_writes 164 = .ok (.bipush 9, 2) := dk_16 9 (dk_at dksX1_writes_7 3 rfl rfl)
theorem dX1_writes_166 : decode cX1_writes 166 = .ok (.aload_n 0, 1) := dk_42 (dk_at dksX1_writes_7 5 rfl rfl)
theorem dX1_writes_167 : decode cX1_writes 167 = .ok (.getfield 21, 3) := dk_180 0 21 (dk_at dksX1_writes_7 6 rfl rfl)
theorem dX1_writes_170 : decode cX1_writes 170 = .ok (.iload_n 3, 1) := dk_29 (dk_at dksX1_writes_7 9 rfl rfl)
theorem dX1_writes_171 : decode cX1_writes 171 = .ok (.baload, 1) := dk_51 (dk_at dksX1_writes_7 10 rfl rfl)
theorem dX1_writes_172 : decode cX1_writes 172 = .ok (.ifCond .eq 7, 3) := dk_153 0 7 (dk_at dksX1_writes_7 11 rfl rfl)
theorem dX1_writes_175 : decode cX1_writes 175 = .ok (.lconst 1, 1) := dk_10 (dk_at dksX1_writes_7 14 rfl rfl)
theorem dX1_writes_176 : decode cX1_writes 176 = .ok (.goto 4, 3) := dk_167 0 4 (dk_at dksX1_writes_7 15 rfl rfl)
theorem dX1_writes_179 : decode cX1_writes 179 = .ok (.lconst 0, 1) := dk_9 (dk_at dksX1_writes_7 18 rfl rfl)
theorem dX1_writes_180 : decode cX1_writes 180 = .ok (.lastore, 1) := dk_80 (dk_at dksX1_writes_7 19 rfl rfl)
theorem dX1_writes_181 : decode cX1_writes 181 = .ok (.aload_n 0, 1) := dk_42 (dk_at dksX1_writes_7 20 rfl rfl)
theorem dX1_writes_182 : decode cX1_writes 182 = .ok (.getfield 43, 3) := dk_180 0 43 (dk_at dksX1_writes_7 21 rfl rfl)
theorem dX1_writes_185 : decode cX1_writes 185 = .ok (.bipush 10, 2) := dk_16 10 (dk_at dksX1_writes_8 0 rfl rfl)
theorem dX1_writes_187 : decode cX1_writes 187 = .ok (.aload_n 0, 1) := dk_42 (dk_at dksX1_writes_8 2 rfl rfl)
theorem dX1_writes_188 : decode cX1_writes 188 = .ok (.aload_n 0, 1) := dk_42 (dk_at dksX1_writes_8 3 rfl rfl)
theorem dX1_writes_189 : decode cX1_writes 189 = .ok (.getfield 79, 3) := dk_180 0 79 (dk_at dksX1_writes_8 4 rfl rfl)
theorem dX1_writes_192 : decode cX1_writes 192 = .ok (.iconst 1, 1) := dk_4 (dk_at dksX1_writes_8 7 rfl rfl)
theorem dX1_writes_193 : decode cX1_writes 193 = .ok (.iadd, 1) := dk_96 (dk_at dksX1_writes_8 8 rfl rfl)
theorem dX1_writes_194 : decode cX1_writes 194 = .ok (.invokevirtual 104, 3) := dk_182 0 104 (dk_at dksX1_writes_8 9 rfl rfl)
theorem dX1_writes_197 : decode cX1_writes 197 = .ok (.i2l, 1) := dk_133 (dk_at dksX1_writes_8 12 rfl rfl)
theorem dX1_writes_198 : decode cX1_writes 198 = .ok (.lastore, 1) := dk_80 (dk_at dksX1_writes_8 13 rfl rfl)
theorem dX1_writes_199 : decode cX1_writes 199 = .ok (.aload_n 0, 1) := dk_42 (dk_at dksX1_writes_8 14 rfl rfl)
theorem dX1_writes_200 : decode cX1_writes 200 = .ok (.getfield 43, 3) := dk_180 0 43 (dk_at dksX1_writes_8 15 rfl rfl)
theorem dX1_writes_203 : decode cX1_writes 203 = .ok (.bipush 11, 2) := dk_16 11 (dk_at dksX1_writes_8 18 rfl rfl)
theorem dX1_writes_205 : decode cX1_writes 205 = .ok (.aload_n 0, 1) := dk_42 (dk_at dksX1_writes_8 20 rfl rfl)
theorem dX1_writes_206 : decode cX1_writes 206 = .ok (.getfield 79, 3) := dk_180 0 79 (dk_at dksX1_writes_8 21 rfl rfl)
theorem dX1_writes_209 : decode cX1_writes 209 = .ok (.i2l, 1) := dk_133 (dk_at dksX1_writes_9 0 rfl rfl)
theorem dX1_writes_210 : decode cX1_writes 210 = .ok (.lastore, 1) := dk_80 (dk_at dksX1_writes_9 1 rfl rfl)
theorem dX1_writes_211 : decode cX1_writes 211 = .ok (.aload_n 2, 1) := dk_44 (dk_at dksX1_writes_9 2 rfl rfl)
theorem dX1_writes_212 : decode cX1_writes 212 = .ok (.aload_n 0, 1) := dk_42 (dk_at dksX1_writes_9 3 rfl rfl)
theorem dX1_writes_213 : decode cX1_writes 213 = .ok (.getfield 43, 3) := dk_180 0 43 (dk_at dksX1_writes_9 4 rfl rfl)
theorem dX1_writes_216 : decode cX1_writes 216 = .ok (.invokevirtual 110, 3) := dk_182 0 110 (dk_at dksX1_writes_9 7 rfl rfl)
theorem dX1_writes_219 : decode cX1_writes 219 = .ok (.lconst 0, 1) := dk_9 (dk_at dksX1_writes_9 10 rfl rfl)
theorem dX1_writes_220 : decode cX1_writes 220 = .ok (.lcmp, 1) := dk_148 (dk_at dksX1_writes_9 11 rfl rfl)
theorem dX1_writes_221 : decode cX1_writes 221 = .ok (.ifCond .le 7, 3) := dk_158 0 7 (dk_at dksX1_writes_9 12 rfl rfl)
theorem dX1_writes_224 : decode cX1_writes 224 = .ok (.iconst 1, 1) := dk_4 (dk_at dksX1_writes_9 15 rfl rfl)
theorem dX1_writes_225 : decode cX1_writes 225 = .ok (.goto 4, 3) := dk_167 0 4 (dk_at dksX1_writes_9 16 rfl rfl)
theorem dX1_writes_228 : decode cX1_writes 228 = .ok (.iconst 0, 1) := dk_3 (dk_at dksX1_writes_9 19 rfl rfl)
theorem dX1_writes_229 : decode cX1_writes 229 = .ok (.ireturn, 1) := dk_172 (dk_at dksX1_writes_9 20 rfl rfl)
abbrev cX1_wayOn : ByteArray := prog_11_method_13_code
def yX1_wayOn : MethodName := ⟨RX1, "wayOn", "(I)I"⟩
def dkwX1_wayOn_1 : List UInt8 := [172]
abbrev dktX1_wayOn_1 : List UInt8 := dkwX1_wayOn_1 ++ []
def dkwX1_wayOn_0 : List UInt8 := [42, 180, 0, 57, 154, 0, 7, 3, 167, 0, 16, 42, 180, 0, 18, 5, 27, 42, 180, 0, 57, 112, 104, 46]
abbrev dktX1_wayOn_0 : List UInt8 := dkwX1_wayOn_0 ++ dktX1_wayOn_1
theorem dksX1_wayOn_0 : cX1_wayOn.data.toList.drop 0 = dktX1_wayOn_0 := by decide +kernel
theorem dksX1_wayOn_1 : cX1_wayOn.data.toList.drop 24 = dktX1_wayOn_1 := dk_seg dksX1_wayOn_0 24 rfl rfl
theorem dX1_wayOn_0 : decode cX1_wayOn 0 = .ok (.aload_n 0, 1) := dk_42 (dk_at dksX1_wayOn_0 0 rfl rfl)
theorem dX1_wayOn_1 : decode cX1_wayOn 1 = .ok (.getfield 57, 3) := dk_180 0 57 (dk_at dksX1_wayOn_0 1 rfl rfl)
theorem dX1_wayOn_4 : decode cX1_wayOn 4 = .ok (.ifCond .ne 7, 3) := dk_154 0 7 (dk_at dksX1_wayOn_0 4 rfl rfl)
theorem dX1_wayOn_7 : decode cX1_wayOn 7 = .ok (.iconst 0, 1) := dk_3 (dk_at dksX1_wayOn_0 7 rfl rfl)
theorem dX1_wayOn_8 : decode cX1_wayOn 8 = .ok (.goto 16, 3) := dk_167 0 16 (dk_at dksX1_wayOn_0 8 rfl rfl)
theorem dX1_wayOn_11 : decode cX1_wayOn 11 = .ok (.aload_n 0, 1) := dk_42 (dk_at dksX1_wayOn_0 11 rfl rfl)
theorem dX1_wayOn_12 : decode cX1_wayOn 12 = .ok (.getfield 18, 3) := dk_180 0 18 (dk_at dksX1_wayOn_0 12 rfl rfl)
theorem dX1_wayOn_15 : decode cX1_wayOn 15 = .ok (.iconst 2, 1) := dk_5 (dk_at dksX1_wayOn_0 15 rfl rfl)
theorem dX1_wayOn_16 : decode cX1_wayOn 16 = .ok (.iload_n 1, 1) := dk_27 (dk_at dksX1_wayOn_0 16 rfl rfl)
theorem dX1_wayOn_17 : decode cX1_wayOn 17 = .ok (.aload_n 0, 1) := dk_42 (dk_at dksX1_wayOn_0 17 rfl rfl)
theorem dX1_wayOn_18 : decode cX1_wayOn 18 = .ok (.getfield 57, 3) := dk_180 0 57 (dk_at dksX1_wayOn_0 18 rfl rfl)
theorem dX1_wayOn_21 : decode cX1_wayOn 21 = .ok (.irem, 1) := dk_112 (dk_at dksX1_wayOn_0 21 rfl rfl)
theorem dX1_wayOn_22 : decode cX1_wayOn 22 = .ok (.imul, 1) := dk_104 (dk_at dksX1_wayOn_0 22 rfl rfl)
theorem dX1_wayOn_23 : decode cX1_wayOn 23 = .ok (.iaload, 1) := dk_46 (dk_at dksX1_wayOn_0 23 rfl rfl)
theorem dX1_wayOn_24 : decode cX1_wayOn 24 = .ok (.ireturn, 1) := dk_172 (dk_at dksX1_wayOn_1 0 rfl rfl)
abbrev cX1_forceOn : ByteArray := prog_11_method_14_code
def yX1_forceOn : MethodName := ⟨RX1, "forceOn", "(I)I"⟩
def dkwX1_forceOn_1 : List UInt8 := [96, 46, 172]
abbrev dktX1_forceOn_1 : List UInt8 := dkwX1_forceOn_1 ++ []
def dkwX1_forceOn_0 : List UInt8 := [42, 180, 0, 57, 154, 0, 7, 3, 167, 0, 18, 42, 180, 0, 18, 5, 27, 42, 180, 0, 57, 112, 104, 4]
abbrev dktX1_forceOn_0 : List UInt8 := dkwX1_forceOn_0 ++ dktX1_forceOn_1
theorem dksX1_forceOn_0 : cX1_forceOn.data.toList.drop 0 = dktX1_forceOn_0 := by decide +kernel
theorem dksX1_forceOn_1 : cX1_forceOn.data.toList.drop 24 = dktX1_forceOn_1 := dk_seg dksX1_forceOn_0 24 rfl rfl
theorem dX1_forceOn_0 : decode cX1_forceOn 0 = .ok (.aload_n 0, 1) := dk_42 (dk_at dksX1_forceOn_0 0 rfl rfl)
theorem dX1_forceOn_1 : decode cX1_forceOn 1 = .ok (.getfield 57, 3) := dk_180 0 57 (dk_at dksX1_forceOn_0 1 rfl rfl)
theorem dX1_forceOn_4 : decode cX1_forceOn 4 = .ok (.ifCond .ne 7, 3) := dk_154 0 7 (dk_at dksX1_forceOn_0 4 rfl rfl)
theorem dX1_forceOn_7 : decode cX1_forceOn 7 = .ok (.iconst 0, 1) := dk_3 (dk_at dksX1_forceOn_0 7 rfl rfl)
theorem dX1_forceOn_8 : decode cX1_forceOn 8 = .ok (.goto 18, 3) := dk_167 0 18 (dk_at dksX1_forceOn_0 8 rfl rfl)
theorem dX1_forceOn_11 : decode cX1_forceOn 11 = .ok (.aload_n 0, 1) := dk_42 (dk_at dksX1_forceOn_0 11 rfl rfl)
theorem dX1_forceOn_12 : decode cX1_forceOn 12 = .ok (.getfield 18, 3) := dk_180 0 18 (dk_at dksX1_forceOn_0 12 rfl rfl)
theorem dX1_forceOn_15 : decode cX1_forceOn 15 = .ok (.iconst 2, 1) := dk_5 (dk_at dksX1_forceOn_0 15 rfl rfl)
theorem dX1_forceOn_16 : decode cX1_forceOn 16 = .ok (.iload_n 1, 1) := dk_27 (dk_at dksX1_forceOn_0 16 rfl rfl)
theorem dX1_forceOn_17 : decode cX1_forceOn 17 = .ok (.aload_n 0, 1) := dk_42 (dk_at dksX1_forceOn_0 17 rfl rfl)
theorem dX1_forceOn_18 : decode cX1_forceOn 18 = .ok (.getfield 57, 3) := dk_180 0 57 (dk_at dksX1_forceOn_0 18 rfl rfl)
theorem dX1_forceOn_21 : decode cX1_forceOn 21 = .ok (.irem, 1) := dk_112 (dk_at dksX1_forceOn_0 21 rfl rfl)
theorem dX1_forceOn_22 : decode cX1_forceOn 22 = .ok (.imul, 1) := dk_104 (dk_at dksX1_forceOn_0 22 rfl rfl)
theorem dX1_forceOn_23 : decode cX1_forceOn 23 = .ok (.iconst 1, 1) := dk_4 (dk_at dksX1_forceOn_0 23 rfl rfl)
theorem dX1_forceOn_24 : decode cX1_forceOn 24 = .ok (.iadd, 1) := dk_96 (dk_at dksX1_forceOn_1 0 rfl rfl)
theorem dX1_forceOn_25 : decode cX1_forceOn 25 = .ok (.iaload, 1) := dk_46 (dk_at dksX1_forceOn_1 1 rfl rfl)
theorem dX1_forceOn_26 : decode cX1_forceOn 26 = .ok (.ireturn, 1) := dk_172 (dk_at dksX1_forceOn_1 2 rfl rfl)
abbrev cX1_moves : ByteArray := prog_11_method_17_code
def yX1_moves : MethodName := ⟨RX1, "moves", "()V"⟩
def dkwX1_moves_3 : List UInt8 := [28, 79, 132, 1, 1, 167, 255, 183, 177]
abbrev dktX1_moves_3 : List UInt8 := dkwX1_moves_3 ++ []
def dkwX1_moves_2 : List UInt8 := [27, 46, 42, 42, 180, 0, 79, 182, 0, 100, 182, 0, 116, 61, 28, 2, 159, 0, 10, 42, 180, 0, 28, 27]
abbrev dktX1_moves_2 : List UInt8 := dkwX1_moves_2 ++ dktX1_moves_3
def dkwX1_moves_1 : List UInt8 := [180, 0, 31, 27, 46, 42, 42, 180, 0, 79, 182, 0, 104, 164, 0, 6, 167, 0, 34, 42, 42, 180, 0, 28]
abbrev dktX1_moves_1 : List UInt8 := dkwX1_moves_1 ++ dktX1_moves_2
def dkwX1_moves_0 : List UInt8 := [3, 60, 27, 42, 180, 0, 54, 162, 0, 71, 42, 180, 0, 85, 27, 184, 0, 96, 154, 0, 54, 42]
abbrev dktX1_moves_0 : List UInt8 := dkwX1_moves_0 ++ dktX1_moves_1
theorem dksX1_moves_0 : cX1_moves.data.toList.drop 0 = dktX1_moves_0 := by decide +kernel
theorem dksX1_moves_1 : cX1_moves.data.toList.drop 22 = dktX1_moves_1 := dk_seg dksX1_moves_0 22 rfl rfl
theorem dksX1_moves_2 : cX1_moves.data.toList.drop 46 = dktX1_moves_2 := dk_seg dksX1_moves_1 24 rfl rfl
theorem dksX1_moves_3 : cX1_moves.data.toList.drop 70 = dktX1_moves_3 := dk_seg dksX1_moves_2 24 rfl rfl
theorem dX1_moves_0 : decode cX1_moves 0 = .ok (.iconst 0, 1) := dk_3 (dk_at dksX1_moves_0 0 rfl rfl)
theorem dX1_moves_1 : decode cX1_moves 1 = .ok (.istore_n 1, 1) := dk_60 (dk_at dksX1_moves_0 1 rfl rfl)
theorem dX1_moves_2 : decode cX1_moves 2 = .ok (.iload_n 1, 1) := dk_27 (dk_at dksX1_moves_0 2 rfl rfl)
theorem dX1_moves_3 : decode cX1_moves 3 = .ok (.aload_n 0, 1) := dk_42 (dk_at dksX1_moves_0 3 rfl rfl)
theorem dX1_moves_4 : decode cX1_moves 4 = .ok (.getfield 54, 3) := dk_180 0 54 (dk_at dksX1_moves_0 4 rfl rfl)
theorem dX1_moves_7 : decode cX1_moves 7 = .ok (.if_icmp .ge 71, 3) := dk_162 0 71 (dk_at dksX1_moves_0 7 rfl rfl)
theorem dX1_moves_10 : decode cX1_moves 10 = .ok (.aload_n 0, 1) := dk_42 (dk_at dksX1_moves_0 10 rfl rfl)
theorem dX1_moves_11 : decode cX1_moves 11 = .ok (.getfield 85, 3) := dk_180 0 85 (dk_at dksX1_moves_0 11 rfl rfl)
theorem dX1_moves_14 : decode cX1_moves 14 = .ok (.iload_n 1, 1) := dk_27 (dk_at dksX1_moves_0 14 rfl rfl)
theorem dX1_moves_15 : decode cX1_moves 15 = .ok (.invokestatic 96, 3) := dk_184 0 96 (dk_at dksX1_moves_0 15 rfl rfl)
theorem dX1_moves_18 : decode cX1_moves 18 = .ok (.ifCond .ne 54, 3) := dk_154 0 54 (dk_at dksX1_moves_0 18 rfl rfl)
theorem dX1_moves_21 : decode cX1_moves 21 = .ok (.aload_n 0, 1) := dk_42 (dk_at dksX1_moves_0 21 rfl rfl)
theorem dX1_moves_22 : decode cX1_moves 22 = .ok (.getfield 31, 3) := dk_180 0 31 (dk_at dksX1_moves_1 0 rfl rfl)
theorem dX1_moves_25 : decode cX1_moves 25 = .ok (.iload_n 1, 1) := dk_27 (dk_at dksX1_moves_1 3 rfl rfl)
theorem dX1_moves_26 : decode cX1_moves 26 = .ok (.iaload, 1) := dk_46 (dk_at dksX1_moves_1 4 rfl rfl)
theorem dX1_moves_27 : decode cX1_moves 27 = .ok (.aload_n 0, 1) := dk_42 (dk_at dksX1_moves_1 5 rfl rfl)
theorem dX1_moves_28 : decode cX1_moves 28 = .ok (.aload_n 0, 1) := dk_42 (dk_at dksX1_moves_1 6 rfl rfl)
theorem dX1_moves_29 : decode cX1_moves 29 = .ok (.getfield 79, 3) := dk_180 0 79 (dk_at dksX1_moves_1 7 rfl rfl)
theorem dX1_moves_32 : decode cX1_moves 32 = .ok (.invokevirtual 104, 3) := dk_182 0 104 (dk_at dksX1_moves_1 10 rfl rfl)
theorem dX1_moves_35 : decode cX1_moves 35 = .ok (.if_icmp .le 6, 3) := dk_164 0 6 (dk_at dksX1_moves_1 13 rfl rfl)
theorem dX1_moves_38 : decode cX1_moves 38 = .ok (.goto 34, 3) := dk_167 0 34 (dk_at dksX1_moves_1 16 rfl rfl)
theorem dX1_moves_41 : decode cX1_moves 41 = .ok (.aload_n 0, 1) := dk_42 (dk_at dksX1_moves_1 19 rfl rfl)
theorem dX1_moves_42 : decode cX1_moves 42 = .ok (.aload_n 0, 1) := dk_42 (dk_at dksX1_moves_1 20 rfl rfl)
theorem dX1_moves_43 : decode cX1_moves 43 = .ok (.getfield 28, 3) := dk_180 0 28 (dk_at dksX1_moves_1 21 rfl rfl)
theorem dX1_moves_46 : decode cX1_moves 46 = .ok (.iload_n 1, 1) := dk_27 (dk_at dksX1_moves_2 0 rfl rfl)
theorem dX1_moves_47 : decode cX1_moves 47 = .ok (.iaload, 1) := dk_46 (dk_at dksX1_moves_2 1 rfl rfl)
theorem dX1_moves_48 : decode cX1_moves 48 = .ok (.aload_n 0, 1) := dk_42 (dk_at dksX1_moves_2 2 rfl rfl)
theorem dX1_moves_49 : decode cX1_moves 49 = .ok (.aload_n 0, 1) := dk_42 (dk_at dksX1_moves_2 3 rfl rfl)
theorem dX1_moves_50 : decode cX1_moves 50 = .ok (.getfield 79, 3) := dk_180 0 79 (dk_at dksX1_moves_2 4 rfl rfl)
theorem dX1_moves_53 : decode cX1_moves 53 = .ok (.invokevirtual 100, 3) := dk_182 0 100 (dk_at dksX1_moves_2 7 rfl rfl)
theorem dX1_moves_56 : decode cX1_moves 56 = .ok (.invokevirtual 116, 3) := dk_182 0 116 (dk_at dksX1_moves_2 10 rfl rfl)
theorem dX1_moves_59 : decode cX1_moves 59 = .ok (.istore_n 2, 1) := dk_61 (dk_at dksX1_moves_2 13 rfl rfl)
theorem dX1_moves_60 : decode cX1_moves 60 = .ok (.iload_n 2, 1) := dk_28 (dk_at dksX1_moves_2 14 rfl rfl)
theorem dX1_moves_61 : decode cX1_moves 61 = .ok (.iconst (-1), 1) := dk_2 (dk_at dksX1_moves_2 15 rfl rfl)
theorem dX1_moves_62 : decode cX1_moves 62 = .ok (.if_icmp .eq 10, 3) := dk_159 0 10 (dk_at dksX1_moves_2 16 rfl rfl)
theorem dX1_moves_65 : decode cX1_moves 65 = .ok (.aload_n 0, 1) := dk_42 (dk_at dksX1_moves_2 19 rfl rfl)
theorem dX1_moves_66 : decode cX1_moves 66 = .ok (.getfield 28, 3) := dk_180 0 28 (dk_at dksX1_moves_2 20 rfl rfl)
theorem dX1_moves_69 : decode cX1_moves 69 = .ok (.iload_n 1, 1) := dk_27 (dk_at dksX1_moves_2 23 rfl rfl)
theorem dX1_moves_70 : decode cX1_moves 70 = .ok (.iload_n 2, 1) := dk_28 (dk_at dksX1_moves_3 0 rfl rfl)
theorem dX1_moves_71 : decode cX1_moves 71 = .ok (.iastore, 1) := dk_79 (dk_at dksX1_moves_3 1 rfl rfl)
theorem dX1_moves_72 : decode cX1_moves 72 = .ok (.iinc 1 1, 3) := dk_132 1 1 (dk_at dksX1_moves_3 2 rfl rfl)
theorem dX1_moves_75 : decode cX1_moves 75 = .ok (.goto (-73), 3) := dk_167 255 183 (dk_at dksX1_moves_3 5 rfl rfl)
theorem dX1_moves_78 : decode cX1_moves 78 = .ok (.return_, 1) := dk_177 (dk_at dksX1_moves_3 8 rfl rfl)
abbrev cX1_beside : ByteArray := prog_11_method_15_code
def yX1_beside : MethodName := ⟨RX1, "beside", "(II)I"⟩
def dkwX1_beside_5 : List UInt8 := [154, 0, 7, 2, 167, 0, 6, 27, 4, 100, 172]
abbrev dktX1_beside_5 : List UInt8 := dkwX1_beside_5 ++ []
def dkwX1_beside_4 : List UInt8 := [42, 182, 0, 92, 162, 0, 12, 27, 42, 180, 0, 47, 96, 167, 0, 4, 2, 172, 27, 42, 180, 0, 47, 112]
abbrev dktX1_beside_4 : List UInt8 := dkwX1_beside_4 ++ dktX1_beside_5
def dkwX1_beside_3 : List UInt8 := [112, 42, 180, 0, 47, 4, 100, 160, 0, 7, 2, 167, 0, 6, 27, 4, 96, 172, 27, 42, 180, 0, 47, 96]
abbrev dktX1_beside_3 : List UInt8 := dkwX1_beside_3 ++ dktX1_beside_4
def dkwX1_beside_2 : List UInt8 := [27, 42, 180, 0, 47, 162, 0, 7, 2, 167, 0, 9, 27, 42, 180, 0, 47, 100, 172, 27, 42, 180, 0, 47]
abbrev dktX1_beside_2 : List UInt8 := dkwX1_beside_2 ++ dktX1_beside_3
def dkwX1_beside_1 : List UInt8 := [170, 0, 0, 0, 0, 0, 93, 0, 0, 0, 0, 0, 0, 0, 2, 0, 0, 0, 27, 0, 0, 0, 46, 0, 0, 0, 69]
abbrev dktX1_beside_1 : List UInt8 := dkwX1_beside_1 ++ dktX1_beside_2
def dkwX1_beside_0 : List UInt8 := [28]
abbrev dktX1_beside_0 : List UInt8 := dkwX1_beside_0 ++ dktX1_beside_1
theorem dksX1_beside_0 : cX1_beside.data.toList.drop 0 = dktX1_beside_0 := by decide +kernel
theorem dksX1_beside_1 : cX1_beside.data.toList.drop 1 = dktX1_beside_1 := dk_seg dksX1_beside_0 1 rfl rfl
theorem dksX1_beside_2 : cX1_beside.data.toList.drop 28 = dktX1_beside_2 := dk_seg dksX1_beside_1 27 rfl rfl
theorem dksX1_beside_3 : cX1_beside.data.toList.drop 52 = dktX1_beside_3 := dk_seg dksX1_beside_2 24 rfl rfl
theorem dksX1_beside_4 : cX1_beside.data.toList.drop 76 = dktX1_beside_4 := dk_seg dksX1_beside_3 24 rfl rfl
theorem dksX1_beside_5 : cX1_beside.data.toList.drop 100 = dktX1_beside_5 := dk_seg dksX1_beside_4 24 rfl rfl
theorem dX1_beside_0 : decode cX1_beside 0 = .ok (.iload_n 2, 1) := dk_28 (dk_at dksX1_beside_0 0 rfl rfl)
theorem dX1_beside_1 : decode cX1_beside 1 = .ok (.tableswitch 93 0 2 #[27, 46, 69], 27) := by decide +kernel
theorem dX1_beside_28 : decode cX1_beside 28 = .ok (.iload_n 1, 1) := dk_27 (dk_at dksX1_beside_2 0 rfl rfl)
theorem dX1_beside_29 : decode cX1_beside 29 = .ok (.aload_n 0, 1) := dk_42 (dk_at dksX1_beside_2 1 rfl rfl)
theorem dX1_beside_30 : decode cX1_beside 30 = .ok (.getfield 47, 3) := dk_180 0 47 (dk_at dksX1_beside_2 2 rfl rfl)
theorem dX1_beside_33 : decode cX1_beside 33 = .ok (.if_icmp .ge 7, 3) := dk_162 0 7 (dk_at dksX1_beside_2 5 rfl rfl)
theorem dX1_beside_36 : decode cX1_beside 36 = .ok (.iconst (-1), 1) := dk_2 (dk_at dksX1_beside_2 8 rfl rfl)
theorem dX1_beside_37 : decode cX1_beside 37 = .ok (.goto 9, 3) := dk_167 0 9 (dk_at dksX1_beside_2 9 rfl rfl)
theorem dX1_beside_40 : decode cX1_beside 40 = .ok (.iload_n 1, 1) := dk_27 (dk_at dksX1_beside_2 12 rfl rfl)
theorem dX1_beside_41 : decode cX1_beside 41 = .ok (.aload_n 0, 1) := dk_42 (dk_at dksX1_beside_2 13 rfl rfl)
theorem dX1_beside_42 : decode cX1_beside 42 = .ok (.getfield 47, 3) := dk_180 0 47 (dk_at dksX1_beside_2 14 rfl rfl)
theorem dX1_beside_45 : decode cX1_beside 45 = .ok (.isub, 1) := dk_100 (dk_at dksX1_beside_2 17 rfl rfl)
theorem dX1_beside_46 : decode cX1_beside 46 = .ok (.ireturn, 1) := dk_172 (dk_at dksX1_beside_2 18 rfl rfl)
theorem dX1_beside_47 : decode cX1_beside 47 = .ok (.iload_n 1, 1) := dk_27 (dk_at dksX1_beside_2 19 rfl rfl)
theorem dX1_beside_48 : decode cX1_beside 48 = .ok (.aload_n 0, 1) := dk_42 (dk_at dksX1_beside_2 20 rfl rfl)
theorem dX1_beside_49 : decode cX1_beside 49 = .ok (.getfield 47, 3) := dk_180 0 47 (dk_at dksX1_beside_2 21 rfl rfl)
theorem dX1_beside_52 : decode cX1_beside 52 = .ok (.irem, 1) := dk_112 (dk_at dksX1_beside_3 0 rfl rfl)
theorem dX1_beside_53 : decode cX1_beside 53 = .ok (.aload_n 0, 1) := dk_42 (dk_at dksX1_beside_3 1 rfl rfl)
theorem dX1_beside_54 : decode cX1_beside 54 = .ok (.getfield 47, 3) := dk_180 0 47 (dk_at dksX1_beside_3 2 rfl rfl)
theorem dX1_beside_57 : decode cX1_beside 57 = .ok (.iconst 1, 1) := dk_4 (dk_at dksX1_beside_3 5 rfl rfl)
theorem dX1_beside_58 : decode cX1_beside 58 = .ok (.isub, 1) := dk_100 (dk_at dksX1_beside_3 6 rfl rfl)
theorem dX1_beside_59 : decode cX1_beside 59 = .ok (.if_icmp .ne 7, 3) := dk_160 0 7 (dk_at dksX1_beside_3 7 rfl rfl)
theorem dX1_beside_62 : decode cX1_beside 62 = .ok (.iconst (-1), 1) := dk_2 (dk_at dksX1_beside_3 10 rfl rfl)
theorem dX1_beside_63 : decode cX1_beside 63 = .ok (.goto 6, 3) := dk_167 0 6 (dk_at dksX1_beside_3 11 rfl rfl)
theorem dX1_beside_66 : decode cX1_beside 66 = .ok (.iload_n 1, 1) := dk_27 (dk_at dksX1_beside_3 14 rfl rfl)
theorem dX1_beside_67 : decode cX1_beside 67 = .ok (.iconst 1, 1) := dk_4 (dk_at dksX1_beside_3 15 rfl rfl)
theorem dX1_beside_68 : decode cX1_beside 68 = .ok (.iadd, 1) := dk_96 (dk_at dksX1_beside_3 16 rfl rfl)
theorem dX1_beside_69 : decode cX1_beside 69 = .ok (.ireturn, 1) := dk_172 (dk_at dksX1_beside_3 17 rfl rfl)
theorem dX1_beside_70 : decode cX1_beside 70 = .ok (.iload_n 1, 1) := dk_27 (dk_at dksX1_beside_3 18 rfl rfl)
theorem dX1_beside_71 : decode cX1_beside 71 = .ok (.aload_n 0, 1) := dk_42 (dk_at dksX1_beside_3 19 rfl rfl)
theorem dX1_beside_72 : decode cX1_beside 72 = .ok (.getfield 47, 3) := dk_180 0 47 (dk_at dksX1_beside_3 20 rfl rfl)
theorem dX1_beside_75 : decode cX1_beside 75 = .ok (.iadd, 1) := dk_96 (dk_at dksX1_beside_3 23 rfl rfl)
theorem dX1_beside_76 : decode cX1_beside 76 = .ok (.aload_n 0, 1) := dk_42 (dk_at dksX1_beside_4 0 rfl rfl)
theorem dX1_beside_77 : decode cX1_beside 77 = .ok (.invokevirtual 92, 3) := dk_182 0 92 (dk_at dksX1_beside_4 1 rfl rfl)
theorem dX1_beside_80 : decode cX1_beside 80 = .ok (.if_icmp .ge 12, 3) := dk_162 0 12 (dk_at dksX1_beside_4 4 rfl rfl)
theorem dX1_beside_83 : decode cX1_beside 83 = .ok (.iload_n 1, 1) := dk_27 (dk_at dksX1_beside_4 7 rfl rfl)
theorem dX1_beside_84 : decode cX1_beside 84 = .ok (.aload_n 0, 1) := dk_42 (dk_at dksX1_beside_4 8 rfl rfl)
theorem dX1_beside_85 : decode cX1_beside 85 = .ok (.getfield 47, 3) := dk_180 0 47 (dk_at dksX1_beside_4 9 rfl rfl)
theorem dX1_beside_88 : decode cX1_beside 88 = .ok (.iadd, 1) := dk_96 (dk_at dksX1_beside_4 12 rfl rfl)
theorem dX1_beside_89 : decode cX1_beside 89 = .ok (.goto 4, 3) := dk_167 0 4 (dk_at dksX1_beside_4 13 rfl rfl)
theorem dX1_beside_92 : decode cX1_beside 92 = .ok (.iconst (-1), 1) := dk_2 (dk_at dksX1_beside_4 16 rfl rfl)
theorem dX1_beside_93 : decode cX1_beside 93 = .ok (.ireturn, 1) := dk_172 (dk_at dksX1_beside_4 17 rfl rfl)
theorem dX1_beside_94 : decode cX1_beside 94 = .ok (.iload_n 1, 1) := dk_27 (dk_at dksX1_beside_4 18 rfl rfl)
theorem dX1_beside_95 : decode cX1_beside 95 = .ok (.aload_n 0, 1) := dk_42 (dk_at dksX1_beside_4 19 rfl rfl)
theorem dX1_beside_96 : decode cX1_beside 96 = .ok (.getfield 47, 3) := dk_180 0 47 (dk_at dksX1_beside_4 20 rfl rfl)
theorem dX1_beside_99 : decode cX1_beside 99 = .ok (.irem, 1) := dk_112 (dk_at dksX1_beside_4 23 rfl rfl)
theorem dX1_beside_100 : decode cX1_beside 100 = .ok (.ifCond .ne 7, 3) := dk_154 0 7 (dk_at dksX1_beside_5 0 rfl rfl)
theorem dX1_beside_103 : decode cX1_beside 103 = .ok (.iconst (-1), 1) := dk_2 (dk_at dksX1_beside_5 3 rfl rfl)
theorem dX1_beside_104 : decode cX1_beside 104 = .ok (.goto 6, 3) := dk_167 0 6 (dk_at dksX1_beside_5 4 rfl rfl)
theorem dX1_beside_107 : decode cX1_beside 107 = .ok (.iload_n 1, 1) := dk_27 (dk_at dksX1_beside_5 7 rfl rfl)
theorem dX1_beside_108 : decode cX1_beside 108 = .ok (.iconst 1, 1) := dk_4 (dk_at dksX1_beside_5 8 rfl rfl)
theorem dX1_beside_109 : decode cX1_beside 109 = .ok (.isub, 1) := dk_100 (dk_at dksX1_beside_5 9 rfl rfl)
theorem dX1_beside_110 : decode cX1_beside 110 = .ok (.ireturn, 1) := dk_172 (dk_at dksX1_beside_5 10 rfl rfl)
abbrev cX1_falls : ByteArray := prog_11_method_19_code
def yX1_falls : MethodName := ⟨RX1, "falls", "(II)V"⟩
def dkwX1_falls_3 : List UInt8 := [177, 42, 27, 182, 0, 88, 42, 89, 180, 0, 82, 4, 96, 181, 0, 82, 177]
abbrev dktX1_falls_3 : List UInt8 := dkwX1_falls_3 ++ []
def dkwX1_falls_2 : List UInt8 := [132, 5, 1, 167, 255, 215, 21, 4, 4, 160, 0, 9, 42, 27, 29, 182, 0, 120, 21, 4, 5, 162, 0, 4]
abbrev dktX1_falls_2 : List UInt8 := dkwX1_falls_2 ++ dktX1_falls_3
def dkwX1_falls_1 : List UInt8 := [153, 0, 23, 42, 180, 0, 28, 21, 5, 46, 27, 159, 0, 6, 167, 0, 9, 21, 5, 62, 132, 4, 1]
abbrev dktX1_falls_1 : List UInt8 := dkwX1_falls_1 ++ dktX1_falls_2
def dkwX1_falls_0 : List UInt8 := [2, 62, 3, 54, 4, 3, 54, 5, 21, 5, 42, 180, 0, 54, 162, 0, 38, 28, 21, 5, 184, 0, 96]
abbrev dktX1_falls_0 : List UInt8 := dkwX1_falls_0 ++ dktX1_falls_1
theorem dksX1_falls_0 : cX1_falls.data.toList.drop 0 = dktX1_falls_0 := by decide +kernel
theorem dksX1_falls_1 : cX1_falls.data.toList.drop 23 = dktX1_falls_1 := dk_seg dksX1_falls_0 23 rfl rfl
theorem dksX1_falls_2 : cX1_falls.data.toList.drop 46 = dktX1_falls_2 := dk_seg dksX1_falls_1 23 rfl rfl
theorem dksX1_falls_3 : cX1_falls.data.toList.drop 70 = dktX1_falls_3 := dk_seg dksX1_falls_2 24 rfl rfl
theorem dX1_falls_0 : decode cX1_falls 0 = .ok (.iconst (-1), 1) := dk_2 (dk_at dksX1_falls_0 0 rfl rfl)
theorem dX1_falls_1 : decode cX1_falls 1 = .ok (.istore_n 3, 1) := dk_62 (dk_at dksX1_falls_0 1 rfl rfl)
theorem dX1_falls_2 : decode cX1_falls 2 = .ok (.iconst 0, 1) := dk_3 (dk_at dksX1_falls_0 2 rfl rfl)
theorem dX1_falls_3 : decode cX1_falls 3 = .ok (.istore 4, 2) := dk_54 4 (dk_at dksX1_falls_0 3 rfl rfl)
theorem dX1_falls_5 : decode cX1_falls 5 = .ok (.iconst 0, 1) := dk_3 (dk_at dksX1_falls_0 5 rfl rfl)
theorem dX1_falls_6 : decode cX1_falls 6 = .ok (.istore 5, 2) := dk_54 5 (dk_at dksX1_falls_0 6 rfl rfl)
theorem dX1_falls_8 : decode cX1_falls 8 = .ok (.iload 5, 2) := dk_21 5 (dk_at dksX1_falls_0 8 rfl rfl)
theorem dX1_falls_10 : decode cX1_falls 10 = .ok (.aload_n 0, 1) := dk_42 (dk_at dksX1_falls_0 10 rfl rfl)
theorem dX1_falls_11 : decode cX1_falls 11 = .ok (.getfield 54, 3) := dk_180 0 54 (dk_at dksX1_falls_0 11 rfl rfl)
theorem dX1_falls_14 : decode cX1_falls 14 = .ok (.if_icmp .ge 38, 3) := dk_162 0 38 (dk_at dksX1_falls_0 14 rfl rfl)
theorem dX1_falls_17 : decode cX1_falls 17 = .ok (.iload_n 2, 1) := dk_28 (dk_at dksX1_falls_0 17 rfl rfl)
theorem dX1_falls_18 : decode cX1_falls 18 = .ok (.iload 5, 2) := dk_21 5 (dk_at dksX1_falls_0 18 rfl rfl)
theorem dX1_falls_20 : decode cX1_falls 20 = .ok (.invokestatic 96, 3) := dk_184 0 96 (dk_at dksX1_falls_0 20 rfl rfl)
theorem dX1_falls_23 : decode cX1_falls 23 = .ok (.ifCond .eq 23, 3) := dk_153 0 23 (dk_at dksX1_falls_1 0 rfl rfl)
theorem dX1_falls_26 : decode cX1_falls 26 = .ok (.aload_n 0, 1) := dk_42 (dk_at dksX1_falls_1 3 rfl rfl)
theorem dX1_falls_27 : decode cX1_falls 27 = .ok (.getfield 28, 3) := dk_180 0 28 (dk_at dksX1_falls_1 4 rfl rfl)
theorem dX1_falls_30 : decode cX1_falls 30 = .ok (.iload 5, 2) := dk_21 5 (dk_at dksX1_falls_1 7 rfl rfl)
theorem dX1_falls_32 : decode cX1_falls 32 = .ok (.iaload, 1) := dk_46 (dk_at dksX1_falls_1 9 rfl rfl)
theorem dX1_falls_33 : decode cX1_falls 33 = .ok (.iload_n 1, 1) := dk_27 (dk_at dksX1_falls_1 10 rfl rfl)
theorem dX1_falls_34 : decode cX1_falls 34 = .ok (.if_icmp .eq 6, 3) := dk_159 0 6 (dk_at dksX1_falls_1 11 rfl rfl)
theorem dX1_falls_37 : decode cX1_falls 37 = .ok (.goto 9, 3) := dk_167 0 9 (dk_at dksX1_falls_1 14 rfl rfl)
theorem dX1_falls_40 : decode cX1_falls 40 = .ok (.iload 5, 2) := dk_21 5 (dk_at dksX1_falls_1 17 rfl rfl)
theorem dX1_falls_42 : decode cX1_falls 42 = .ok (.istore_n 3, 1) := dk_62 (dk_at dksX1_falls_1 19 rfl rfl)
theorem dX1_falls_43 : decode cX1_falls 43 = .ok (.iinc 4 1, 3) := dk_132 4 1 (dk_at dksX1_falls_1 20 rfl rfl)
theorem dX1_falls_46 : decode cX1_falls 46 = .ok (.iinc 5 1, 3) := dk_132 5 1 (dk_at dksX1_falls_2 0 rfl rfl)
theorem dX1_falls_49 : decode cX1_falls 49 = .ok (.goto (-41), 3) := dk_167 255 215 (dk_at dksX1_falls_2 3 rfl rfl)
theorem dX1_falls_52 : decode cX1_falls 52 = .ok (.iload 4, 2) := dk_21 4 (dk_at dksX1_falls_2 6 rfl rfl)
theorem dX1_falls_54 : decode cX1_falls 54 = .ok (.iconst 1, 1) := dk_4 (dk_at dksX1_falls_2 8 rfl rfl)
theorem dX1_falls_55 : decode cX1_falls 55 = .ok (.if_icmp .ne 9, 3) := dk_160 0 9 (dk_at dksX1_falls_2 9 rfl rfl)
theorem dX1_falls_58 : decode cX1_falls 58 = .ok (.aload_n 0, 1) := dk_42 (dk_at dksX1_falls_2 12 rfl rfl)
theorem dX1_falls_59 : decode cX1_falls 59 = .ok (.iload_n 1, 1) := dk_27 (dk_at dksX1_falls_2 13 rfl rfl)
theorem dX1_falls_60 : decode cX1_falls 60 = .ok (.iload_n 3, 1) := dk_29 (dk_at dksX1_falls_2 14 rfl rfl)
theorem dX1_falls_61 : decode cX1_falls 61 = .ok (.invokevirtual 120, 3) := dk_182 0 120 (dk_at dksX1_falls_2 15 rfl rfl)
theorem dX1_falls_64 : decode cX1_falls 64 = .ok (.iload 4, 2) := dk_21 4 (dk_at dksX1_falls_2 18 rfl rfl)
theorem dX1_falls_66 : decode cX1_falls 66 = .ok (.iconst 2, 1) := dk_5 (dk_at dksX1_falls_2 20 rfl rfl)
theorem dX1_falls_67 : decode cX1_falls 67 = .ok (.if_icmp .ge 4, 3) := dk_162 0 4 (dk_at dksX1_falls_2 21 rfl rfl)
theorem dX1_falls_70 : decode cX1_falls 70 = .ok (.return_, 1) := dk_177 (dk_at dksX1_falls_3 0 rfl rfl)
theorem dX1_falls_71 : decode cX1_falls 71 = .ok (.aload_n 0, 1) := dk_42 (dk_at dksX1_falls_3 1 rfl rfl)
theorem dX1_falls_72 : decode cX1_falls 72 = .ok (.iload_n 1, 1) := dk_27 (dk_at dksX1_falls_3 2 rfl rfl)
theorem dX1_falls_73 : decode cX1_falls 73 = .ok (.invokevirtual 88, 3) := dk_182 0 88 (dk_at dksX1_falls_3 3 rfl rfl)
theorem dX1_falls_76 : decode cX1_falls 76 = .ok (.aload_n 0, 1) := dk_42 (dk_at dksX1_falls_3 6 rfl rfl)
theorem dX1_falls_77 : decode cX1_falls 77 = .ok (.dup, 1) := dk_89 (dk_at dksX1_falls_3 7 rfl rfl)
theorem dX1_falls_78 : decode cX1_falls 78 = .ok (.getfield 82, 3) := dk_180 0 82 (dk_at dksX1_falls_3 8 rfl rfl)
theorem dX1_falls_81 : decode cX1_falls 81 = .ok (.iconst 1, 1) := dk_4 (dk_at dksX1_falls_3 11 rfl rfl)
theorem dX1_falls_82 : decode cX1_falls 82 = .ok (.iadd, 1) := dk_96 (dk_at dksX1_falls_3 12 rfl rfl)
theorem dX1_falls_83 : decode cX1_falls 83 = .ok (.putfield 82, 3) := dk_181 0 82 (dk_at dksX1_falls_3 13 rfl rfl)
theorem dX1_falls_86 : decode cX1_falls 86 = .ok (.return_, 1) := dk_177 (dk_at dksX1_falls_3 16 rfl rfl)
abbrev cX1_draws : ByteArray := prog_11_method_18_code
def yX1_draws : MethodName := ⟨RX1, "draws", "(II)V"⟩
def dkwX1_draws_0 : List UInt8 := [42, 180, 0, 34, 27, 28, 79, 42, 180, 0, 37, 27, 42, 180, 0, 79, 79, 177]
abbrev dktX1_draws_0 : List UInt8 := dkwX1_draws_0 ++ []
theorem dksX1_draws_0 : cX1_draws.data.toList.drop 0 = dktX1_draws_0 := by decide +kernel
theorem dX1_draws_0 : decode cX1_draws 0 = .ok (.aload_n 0, 1) := dk_42 (dk_at dksX1_draws_0 0 rfl rfl)
theorem dX1_draws_1 : decode cX1_draws 1 = .ok (.getfield 34, 3) := dk_180 0 34 (dk_at dksX1_draws_0 1 rfl rfl)
theorem dX1_draws_4 : decode cX1_draws 4 = .ok (.iload_n 1, 1) := dk_27 (dk_at dksX1_draws_0 4 rfl rfl)
theorem dX1_draws_5 : decode cX1_draws 5 = .ok (.iload_n 2, 1) := dk_28 (dk_at dksX1_draws_0 5 rfl rfl)
theorem dX1_draws_6 : decode cX1_draws 6 = .ok (.iastore, 1) := dk_79 (dk_at dksX1_draws_0 6 rfl rfl)
theorem dX1_draws_7 : decode cX1_draws 7 = .ok (.aload_n 0, 1) := dk_42 (dk_at dksX1_draws_0 7 rfl rfl)
theorem dX1_draws_8 : decode cX1_draws 8 = .ok (.getfield 37, 3) := dk_180 0 37 (dk_at dksX1_draws_0 8 rfl rfl)
theorem dX1_draws_11 : decode cX1_draws 11 = .ok (.iload_n 1, 1) := dk_27 (dk_at dksX1_draws_0 11 rfl rfl)
theorem dX1_draws_12 : decode cX1_draws 12 = .ok (.aload_n 0, 1) := dk_42 (dk_at dksX1_draws_0 12 rfl rfl)
theorem dX1_draws_13 : decode cX1_draws 13 = .ok (.getfield 79, 3) := dk_180 0 79 (dk_at dksX1_draws_0 13 rfl rfl)
theorem dX1_draws_16 : decode cX1_draws 16 = .ok (.iastore, 1) := dk_79 (dk_at dksX1_draws_0 16 rfl rfl)
theorem dX1_draws_17 : decode cX1_draws 17 = .ok (.return_, 1) := dk_177 (dk_at dksX1_draws_0 17 rfl rfl)
abbrev cX1_goesOn : ByteArray := prog_11_method_21_code
def yX1_goesOn : MethodName := ⟨RX1, "goesOn", "(ILSkySpire$Rule;)LSkySpire$Sky;"⟩
def dkwX1_goesOn_0 : List UInt8 := [3, 62, 29, 27, 162, 0, 15, 42, 44, 182, 0, 134, 87, 132, 3, 1, 167, 255, 242, 42, 176]
abbrev dktX1_goesOn_0 : List UInt8 := dkwX1_goesOn_0 ++ []
theorem dksX1_goesOn_0 : cX1_goesOn.data.toList.drop 0 = dktX1_goesOn_0 := by decide +kernel
theorem dX1_goesOn_0 : decode cX1_goesOn 0 = .ok (.iconst 0, 1) := dk_3 (dk_at dksX1_goesOn_0 0 rfl rfl)
theorem dX1_goesOn_1 : decode cX1_goesOn 1 = .ok (.istore_n 3, 1) := dk_62 (dk_at dksX1_goesOn_0 1 rfl rfl)
theorem dX1_goesOn_2 : decode cX1_goesOn 2 = .ok (.iload_n 3, 1) := dk_29 (dk_at dksX1_goesOn_0 2 rfl rfl)
theorem dX1_goesOn_3 : decode cX1_goesOn 3 = .ok (.iload_n 1, 1) := dk_27 (dk_at dksX1_goesOn_0 3 rfl rfl)
theorem dX1_goesOn_4 : decode cX1_goesOn 4 = .ok (.if_icmp .ge 15, 3) := dk_162 0 15 (dk_at dksX1_goesOn_0 4 rfl rfl)
theorem dX1_goesOn_7 : decode cX1_goesOn 7 = .ok (.aload_n 0, 1) := dk_42 (dk_at dksX1_goesOn_0 7 rfl rfl)
theorem dX1_goesOn_8 : decode cX1_goesOn 8 = .ok (.aload_n 2, 1) := dk_44 (dk_at dksX1_goesOn_0 8 rfl rfl)
theorem dX1_goesOn_9 : decode cX1_goesOn 9 = .ok (.invokevirtual 134, 3) := dk_182 0 134 (dk_at dksX1_goesOn_0 9 rfl rfl)
theorem dX1_goesOn_12 : decode cX1_goesOn 12 = .ok (.pop, 1) := dk_87 (dk_at dksX1_goesOn_0 12 rfl rfl)
theorem dX1_goesOn_13 : decode cX1_goesOn 13 = .ok (.iinc 3 1, 3) := dk_132 3 1 (dk_at dksX1_goesOn_0 13 rfl rfl)
theorem dX1_goesOn_16 : decode cX1_goesOn 16 = .ok (.goto (-14), 3) := dk_167 255 242 (dk_at dksX1_goesOn_0 16 rfl rfl)
theorem dX1_goesOn_19 : decode cX1_goesOn 19 = .ok (.aload_n 0, 1) := dk_42 (dk_at dksX1_goesOn_0 19 rfl rfl)
theorem dX1_goesOn_20 : decode cX1_goesOn 20 = .ok (.areturn, 1) := dk_176 (dk_at dksX1_goesOn_0 20 rfl rfl)
abbrev cX1_strokes : ByteArray := prog_11_method_9_code
def yX1_strokes : MethodName := ⟨RX1, "strokes", "()I"⟩
def dkwX1_strokes_1 : List UInt8 := [167, 0, 4, 3, 96, 60, 132, 2, 1, 167, 255, 227, 27, 172]
abbrev dktX1_strokes_1 : List UInt8 := dkwX1_strokes_1 ++ []
def dkwX1_strokes_0 : List UInt8 := [3, 60, 3, 61, 28, 42, 182, 0, 92, 162, 0, 27, 27, 42, 180, 0, 34, 28, 46, 2, 159, 0, 7, 4]
abbrev dktX1_strokes_0 : List UInt8 := dkwX1_strokes_0 ++ dktX1_strokes_1
theorem dksX1_strokes_0 : cX1_strokes.data.toList.drop 0 = dktX1_strokes_0 := by decide +kernel
theorem dksX1_strokes_1 : cX1_strokes.data.toList.drop 24 = dktX1_strokes_1 := dk_seg dksX1_strokes_0 24 rfl rfl
theorem dX1_strokes_0 : decode cX1_strokes 0 = .ok (.iconst 0, 1) := dk_3 (dk_at dksX1_strokes_0 0 rfl rfl)
theorem dX1_strokes_1 : decode cX1_strokes 1 = .ok (.istore_n 1, 1) := dk_60 (dk_at dksX1_strokes_0 1 rfl rfl)
theorem dX1_strokes_2 : decode cX1_strokes 2 = .ok (.iconst 0, 1) := dk_3 (dk_at dksX1_strokes_0 2 rfl rfl)
theorem dX1_strokes_3 : decode cX1_strokes 3 = .ok (.istore_n 2, 1) := dk_61 (dk_at dksX1_strokes_0 3 rfl rfl)
theorem dX1_strokes_4 : decode cX1_strokes 4 = .ok (.iload_n 2, 1) := dk_28 (dk_at dksX1_strokes_0 4 rfl rfl)
theorem dX1_strokes_5 : decode cX1_strokes 5 = .ok (.aload_n 0, 1) := dk_42 (dk_at dksX1_strokes_0 5 rfl rfl)
theorem dX1_strokes_6 : decode cX1_strokes 6 = .ok (.invokevirtual 92, 3) := dk_182 0 92 (dk_at dksX1_strokes_0 6 rfl rfl)
theorem dX1_strokes_9 : decode cX1_strokes 9 = .ok (.if_icmp .ge 27, 3) := dk_162 0 27 (dk_at dksX1_strokes_0 9 rfl rfl)
theorem dX1_strokes_12 : decode cX1_strokes 12 = .ok (.iload_n 1, 1) := dk_27 (dk_at dksX1_strokes_0 12 rfl rfl)
theorem dX1_strokes_13 : decode cX1_strokes 13 = .ok (.aload_n 0, 1) := dk_42 (dk_at dksX1_strokes_0 13 rfl rfl)
theorem dX1_strokes_14 : decode cX1_strokes 14 = .ok (.getfield 34, 3) := dk_180 0 34 (dk_at dksX1_strokes_0 14 rfl rfl)
theorem dX1_strokes_17 : decode cX1_strokes 17 = .ok (.iload_n 2, 1) := dk_28 (dk_at dksX1_strokes_0 17 rfl rfl)
theorem dX1_strokes_18 : decode cX1_strokes 18 = .ok (.iaload, 1) := dk_46 (dk_at dksX1_strokes_0 18 rfl rfl)
theorem dX1_strokes_19 : decode cX1_strokes 19 = .ok (.iconst (-1), 1) := dk_2 (dk_at dksX1_strokes_0 19 rfl rfl)
theorem dX1_strokes_20 : decode cX1_strokes 20 = .ok (.if_icmp .eq 7, 3) := dk_159 0 7 (dk_at dksX1_strokes_0 20 rfl rfl)
theorem dX1_strokes_23 : decode cX1_strokes 23 = .ok (.iconst 1, 1) := dk_4 (dk_at dksX1_strokes_0 23 rfl rfl)
theorem dX1_strokes_24 : decode cX1_strokes 24 = .ok (.goto 4, 3) := dk_167 0 4 (dk_at dksX1_strokes_1 0 rfl rfl)
theorem dX1_strokes_27 : decode cX1_strokes 27 = .ok (.iconst 0, 1) := dk_3 (dk_at dksX1_strokes_1 3 rfl rfl)
theorem dX1_strokes_28 : decode cX1_strokes 28 = .ok (.iadd, 1) := dk_96 (dk_at dksX1_strokes_1 4 rfl rfl)
theorem dX1_strokes_29 : decode cX1_strokes 29 = .ok (.istore_n 1, 1) := dk_60 (dk_at dksX1_strokes_1 5 rfl rfl)
theorem dX1_strokes_30 : decode cX1_strokes 30 = .ok (.iinc 2 1, 3) := dk_132 2 1 (dk_at dksX1_strokes_1 6 rfl rfl)
theorem dX1_strokes_33 : decode cX1_strokes 33 = .ok (.goto (-29), 3) := dk_167 255 227 (dk_at dksX1_strokes_1 9 rfl rfl)
theorem dX1_strokes_36 : decode cX1_strokes 36 = .ok (.iload_n 1, 1) := dk_27 (dk_at dksX1_strokes_1 12 rfl rfl)
theorem dX1_strokes_37 : decode cX1_strokes 37 = .ok (.ireturn, 1) := dk_172 (dk_at dksX1_strokes_1 13 rfl rfl)
abbrev cX1_like : ByteArray := prog_11_method_11_code
def yX1_like : MethodName := ⟨RX1, "like", "()I"⟩
def dkwX1_like_2 : List UInt8 := [167, 255, 213, 27, 172]
abbrev dktX1_like_2 : List UInt8 := dkwX1_like_2 ++ []
def dkwX1_like_1 : List UInt8 := [46, 2, 159, 0, 7, 4, 167, 0, 4, 3, 160, 0, 7, 4, 167, 0, 4, 3, 96, 60, 132, 2, 1]
abbrev dktX1_like_1 : List UInt8 := dkwX1_like_1 ++ dktX1_like_2
def dkwX1_like_0 : List UInt8 := [3, 60, 3, 61, 28, 42, 182, 0, 92, 162, 0, 41, 27, 42, 180, 0, 21, 28, 51, 42, 180, 0, 34, 28]
abbrev dktX1_like_0 : List UInt8 := dkwX1_like_0 ++ dktX1_like_1
theorem dksX1_like_0 : cX1_like.data.toList.drop 0 = dktX1_like_0 := by decide +kernel
theorem dksX1_like_1 : cX1_like.data.toList.drop 24 = dktX1_like_1 := dk_seg dksX1_like_0 24 rfl rfl
theorem dksX1_like_2 : cX1_like.data.toList.drop 47 = dktX1_like_2 := dk_seg dksX1_like_1 23 rfl rfl
theorem dX1_like_0 : decode cX1_like 0 = .ok (.iconst 0, 1) := dk_3 (dk_at dksX1_like_0 0 rfl rfl)
theorem dX1_like_1 : decode cX1_like 1 = .ok (.istore_n 1, 1) := dk_60 (dk_at dksX1_like_0 1 rfl rfl)
theorem dX1_like_2 : decode cX1_like 2 = .ok (.iconst 0, 1) := dk_3 (dk_at dksX1_like_0 2 rfl rfl)
theorem dX1_like_3 : decode cX1_like 3 = .ok (.istore_n 2, 1) := dk_61 (dk_at dksX1_like_0 3 rfl rfl)
theorem dX1_like_4 : decode cX1_like 4 = .ok (.iload_n 2, 1) := dk_28 (dk_at dksX1_like_0 4 rfl rfl)
theorem dX1_like_5 : decode cX1_like 5 = .ok (.aload_n 0, 1) := dk_42 (dk_at dksX1_like_0 5 rfl rfl)
theorem dX1_like_6 : decode cX1_like 6 = .ok (.invokevirtual 92, 3) := dk_182 0 92 (dk_at dksX1_like_0 6 rfl rfl)
theorem dX1_like_9 : decode cX1_like 9 = .ok (.if_icmp .ge 41, 3) := dk_162 0 41 (dk_at dksX1_like_0 9 rfl rfl)
theorem dX1_like_12 : decode cX1_like 12 = .ok (.iload_n 1, 1) := dk_27 (dk_at dksX1_like_0 12 rfl rfl)
theorem dX1_like_13 : decode cX1_like 13 = .ok (.aload_n 0, 1) := dk_42 (dk_at dksX1_like_0 13 rfl rfl)
theorem dX1_like_14 : decode cX1_like 14 = .ok (.getfield 21, 3) := dk_180 0 21 (dk_at dksX1_like_0 14 rfl rfl)
theorem dX1_like_17 : decode cX1_like 17 = .ok (.iload_n 2, 1) := dk_28 (dk_at dksX1_like_0 17 rfl rfl)
theorem dX1_like_18 : decode cX1_like 18 = .ok (.baload, 1) := dk_51 (dk_at dksX1_like_0 18 rfl rfl)
theorem dX1_like_19 : decode cX1_like 19 = .ok (.aload_n 0, 1) := dk_42 (dk_at dksX1_like_0 19 rfl rfl)
theorem dX1_like_20 : decode cX1_like 20 = .ok (.getfield 34, 3) := dk_180 0 34 (dk_at dksX1_like_0 20 rfl rfl)
theorem dX1_like_23 : decode cX1_like 23 = .ok (.iload_n 2, 1) := dk_28 (dk_at dksX1_like_0 23 rfl rfl)
theorem dX1_like_24 : decode cX1_like 24 = .ok (.iaload, 1) := dk_46 (dk_at dksX1_like_1 0 rfl rfl)
theorem dX1_like_25 : decode cX1_like 25 = .ok (.iconst (-1), 1) := dk_2 (dk_at dksX1_like_1 1 rfl rfl)
theorem dX1_like_26 : decode cX1_like 26 = .ok (.if_icmp .eq 7, 3) := dk_159 0 7 (dk_at dksX1_like_1 2 rfl rfl)
theorem dX1_like_29 : decode cX1_like 29 = .ok (.iconst 1, 1) := dk_4 (dk_at dksX1_like_1 5 rfl rfl)
theorem dX1_like_30 : decode cX1_like 30 = .ok (.goto 4, 3) := dk_167 0 4 (dk_at dksX1_like_1 6 rfl rfl)
theorem dX1_like_33 : decode cX1_like 33 = .ok (.iconst 0, 1) := dk_3 (dk_at dksX1_like_1 9 rfl rfl)
theorem dX1_like_34 : decode cX1_like 34 = .ok (.if_icmp .ne 7, 3) := dk_160 0 7 (dk_at dksX1_like_1 10 rfl rfl)
theorem dX1_like_37 : decode cX1_like 37 = .ok (.iconst 1, 1) := dk_4 (dk_at dksX1_like_1 13 rfl rfl)
theorem dX1_like_38 : decode cX1_like 38 = .ok (.goto 4, 3) := dk_167 0 4 (dk_at dksX1_like_1 14 rfl rfl)
theorem dX1_like_41 : decode cX1_like 41 = .ok (.iconst 0, 1) := dk_3 (dk_at dksX1_like_1 17 rfl rfl)
theorem dX1_like_42 : decode cX1_like 42 = .ok (.iadd, 1) := dk_96 (dk_at dksX1_like_1 18 rfl rfl)
theorem dX1_like_43 : decode cX1_like 43 = .ok (.istore_n 1, 1) := dk_60 (dk_at dksX1_like_1 19 rfl rfl)
theorem dX1_like_44 : decode cX1_like 44 = .ok (.iinc 2 1, 3) := dk_132 2 1 (dk_at dksX1_like_1 20 rfl rfl)
theorem dX1_like_47 : decode cX1_like 47 = .ok (.goto (-43), 3) := dk_167 255 213 (dk_at dksX1_like_2 0 rfl rfl)
theorem dX1_like_50 : decode cX1_like 50 = .ok (.iload_n 1, 1) := dk_27 (dk_at dksX1_like_2 3 rfl rfl)
theorem dX1_like_51 : decode cX1_like 51 = .ok (.ireturn, 1) := dk_172 (dk_at dksX1_like_2 4 rfl rfl)
abbrev cX1_isSigned : ByteArray := prog_11_method_12_code
def yX1_isSigned : MethodName := ⟨RX1, "isSigned", "()Z"⟩
def dkwX1_isSigned_1 : List UInt8 := [46, 2, 160, 0, 5, 3, 172, 132, 1, 1, 167, 255, 224, 4, 172]
abbrev dktX1_isSigned_1 : List UInt8 := dkwX1_isSigned_1 ++ []
def dkwX1_isSigned_0 : List UInt8 := [3, 60, 27, 42, 182, 0, 92, 162, 0, 30, 42, 180, 0, 21, 27, 51, 153, 0, 15, 42, 180, 0, 34, 27]
abbrev dktX1_isSigned_0 : List UInt8 := dkwX1_isSigned_0 ++ dktX1_isSigned_1
theorem dksX1_isSigned_0 : cX1_isSigned.data.toList.drop 0 = dktX1_isSigned_0 := by decide +kernel
theorem dksX1_isSigned_1 : cX1_isSigned.data.toList.drop 24 = dktX1_isSigned_1 := dk_seg dksX1_isSigned_0 24 rfl rfl
theorem dX1_isSigned_0 : decode cX1_isSigned 0 = .ok (.iconst 0, 1) := dk_3 (dk_at dksX1_isSigned_0 0 rfl rfl)
theorem dX1_isSigned_1 : decode cX1_isSigned 1 = .ok (.istore_n 1, 1) := dk_60 (dk_at dksX1_isSigned_0 1 rfl rfl)
theorem dX1_isSigned_2 : decode cX1_isSigned 2 = .ok (.iload_n 1, 1) := dk_27 (dk_at dksX1_isSigned_0 2 rfl rfl)
theorem dX1_isSigned_3 : decode cX1_isSigned 3 = .ok (.aload_n 0, 1) := dk_42 (dk_at dksX1_isSigned_0 3 rfl rfl)
theorem dX1_isSigned_4 : decode cX1_isSigned 4 = .ok (.invokevirtual 92, 3) := dk_182 0 92 (dk_at dksX1_isSigned_0 4 rfl rfl)
theorem dX1_isSigned_7 : decode cX1_isSigned 7 = .ok (.if_icmp .ge 30, 3) := dk_162 0 30 (dk_at dksX1_isSigned_0 7 rfl rfl)
theorem dX1_isSigned_10 : decode cX1_isSigned 10 = .ok (.aload_n 0, 1) := dk_42 (dk_at dksX1_isSigned_0 10 rfl rfl)
theorem dX1_isSigned_11 : decode cX1_isSigned 11 = .ok (.getfield 21, 3) := dk_180 0 21 (dk_at dksX1_isSigned_0 11 rfl rfl)
theorem dX1_isSigned_14 : decode cX1_isSigned 14 = .ok (.iload_n 1, 1) := dk_27 (dk_at dksX1_isSigned_0 14 rfl rfl)
theorem dX1_isSigned_15 : decode cX1_isSigned 15 = .ok (.baload, 1) := dk_51 (dk_at dksX1_isSigned_0 15 rfl rfl)
theorem dX1_isSigned_16 : decode cX1_isSigned 16 = .ok (.ifCond .eq 15, 3) := dk_153 0 15 (dk_at dksX1_isSigned_0 16 rfl rfl)
theorem dX1_isSigned_19 : decode cX1_isSigned 19 = .ok (.aload_n 0, 1) := dk_42 (dk_at dksX1_isSigned_0 19 rfl rfl)
theorem dX1_isSigned_20 : decode cX1_isSigned 20 = .ok (.getfield 34, 3) := dk_180 0 34 (dk_at dksX1_isSigned_0 20 rfl rfl)
theorem dX1_isSigned_23 : decode cX1_isSigned 23 = .ok (.iload_n 1, 1) := dk_27 (dk_at dksX1_isSigned_0 23 rfl rfl)
theorem dX1_isSigned_24 : decode cX1_isSigned 24 = .ok (.iaload, 1) := dk_46 (dk_at dksX1_isSigned_1 0 rfl rfl)
theorem dX1_isSigned_25 : decode cX1_isSigned 25 = .ok (.iconst (-1), 1) := dk_2 (dk_at dksX1_isSigned_1 1 rfl rfl)
theorem dX1_isSigned_26 : decode cX1_isSigned 26 = .ok (.if_icmp .ne 5, 3) := dk_160 0 5 (dk_at dksX1_isSigned_1 2 rfl rfl)
theorem dX1_isSigned_29 : decode cX1_isSigned 29 = .ok (.iconst 0, 1) := dk_3 (dk_at dksX1_isSigned_1 5 rfl rfl)
theorem dX1_isSigned_30 : decode cX1_isSigned 30 = .ok (.ireturn, 1) := dk_172 (dk_at dksX1_isSigned_1 6 rfl rfl)
theorem dX1_isSigned_31 : decode cX1_isSigned 31 = .ok (.iinc 1 1, 3) := dk_132 1 1 (dk_at dksX1_isSigned_1 7 rfl rfl)
theorem dX1_isSigned_34 : decode cX1_isSigned 34 = .ok (.goto (-32), 3) := dk_167 255 224 (dk_at dksX1_isSigned_1 10 rfl rfl)
theorem dX1_isSigned_37 : decode cX1_isSigned 37 = .ok (.iconst 1, 1) := dk_4 (dk_at dksX1_isSigned_1 13 rfl rfl)
theorem dX1_isSigned_38 : decode cX1_isSigned 38 = .ok (.ireturn, 1) := dk_172 (dk_at dksX1_isSigned_1 14 rfl rfl)
abbrev cX1_swapsWinds : ByteArray := prog_11_method_22_code
def yX1_swapsWinds : MethodName := ⟨RX1, "swapsWinds", "(II)V"⟩
def dkwX1_swapsWinds_2 : List UInt8 := [21, 4, 79, 132, 3, 1, 167, 255, 204, 177]
abbrev dktX1_swapsWinds_2 : List UInt8 := dkwX1_swapsWinds_2 ++ []
def dkwX1_swapsWinds_1 : List UInt8 := [27, 104, 29, 96, 42, 180, 0, 18, 5, 28, 104, 29, 96, 46, 79, 42, 180, 0, 18, 5, 28, 104, 29, 96]
abbrev dktX1_swapsWinds_1 : List UInt8 := dkwX1_swapsWinds_1 ++ dktX1_swapsWinds_2
def dkwX1_swapsWinds_0 : List UInt8 := [3, 62, 29, 5, 162, 0, 53, 42, 180, 0, 18, 5, 27, 104, 29, 96, 46, 54, 4, 42, 180, 0, 18, 5]
abbrev dktX1_swapsWinds_0 : List UInt8 := dkwX1_swapsWinds_0 ++ dktX1_swapsWinds_1
theorem dksX1_swapsWinds_0 : cX1_swapsWinds.data.toList.drop 0 = dktX1_swapsWinds_0 := by decide +kernel
theorem dksX1_swapsWinds_1 : cX1_swapsWinds.data.toList.drop 24 = dktX1_swapsWinds_1 := dk_seg dksX1_swapsWinds_0 24 rfl rfl
theorem dksX1_swapsWinds_2 : cX1_swapsWinds.data.toList.drop 48 = dktX1_swapsWinds_2 := dk_seg dksX1_swapsWinds_1 24 rfl rfl
theorem dX1_swapsWinds_0 : decode cX1_swapsWinds 0 = .ok (.iconst 0, 1) := dk_3 (dk_at dksX1_swapsWinds_0 0 rfl rfl)
theorem dX1_swapsWinds_1 : decode cX1_swapsWinds 1 = .ok (.istore_n 3, 1) := dk_62 (dk_at dksX1_swapsWinds_0 1 rfl rfl)
theorem dX1_swapsWinds_2 : decode cX1_swapsWinds 2 = .ok (.iload_n 3, 1) := dk_29 (dk_at dksX1_swapsWinds_0 2 rfl rfl)
theorem dX1_swapsWinds_3 : decode cX1_swapsWinds 3 = .ok (.iconst 2, 1) := dk_5 (dk_at dksX1_swapsWinds_0 3 rfl rfl)
theorem dX1_swapsWinds_4 : decode cX1_swapsWinds 4 = .ok (.if_icmp .ge 53, 3) := dk_162 0 53 (dk_at dksX1_swapsWinds_0 4 rfl rfl)
theorem dX1_swapsWinds_7 : decode cX1_swapsWinds 7 = .ok (.aload_n 0, 1) := dk_42 (dk_at dksX1_swapsWinds_0 7 rfl rfl)
theorem dX1_swapsWinds_8 : decode cX1_swapsWinds 8 = .ok (.getfield 18, 3) := dk_180 0 18 (dk_at dksX1_swapsWinds_0 8 rfl rfl)
theorem dX1_swapsWinds_11 : decode cX1_swapsWinds 11 = .ok (.iconst 2, 1) := dk_5 (dk_at dksX1_swapsWinds_0 11 rfl rfl)
theorem dX1_swapsWinds_12 : decode cX1_swapsWinds 12 = .ok (.iload_n 1, 1) := dk_27 (dk_at dksX1_swapsWinds_0 12 rfl rfl)
theorem dX1_swapsWinds_13 : decode cX1_swapsWinds 13 = .ok (.imul, 1) := dk_104 (dk_at dksX1_swapsWinds_0 13 rfl rfl)
theorem dX1_swapsWinds_14 : decode cX1_swapsWinds 14 = .ok (.iload_n 3, 1) := dk_29 (dk_at dksX1_swapsWinds_0 14 rfl rfl)
theorem dX1_swapsWinds_15 : decode cX1_swapsWinds 15 = .ok (.iadd, 1) := dk_96 (dk_at dksX1_swapsWinds_0 15 rfl rfl)
theorem dX1_swapsWinds_16 : decode cX1_swapsWinds 16 = .ok (.iaload, 1) := dk_46 (dk_at dksX1_swapsWinds_0 16 rfl rfl)
theorem dX1_swapsWinds_17 : decode cX1_swapsWinds 17 = .ok (.istore 4, 2) := dk_54 4 (dk_at dksX1_swapsWinds_0 17 rfl rfl)
theorem dX1_swapsWinds_19 : decode cX1_swapsWinds 19 = .ok (.aload_n 0, 1) := dk_42 (dk_at dksX1_swapsWinds_0 19 rfl rfl)
theorem dX1_swapsWinds_20 : decode cX1_swapsWinds 20 = .ok (.getfield 18, 3) := dk_180 0 18 (dk_at dksX1_swapsWinds_0 20 rfl rfl)
theorem dX1_swapsWinds_23 : decode cX1_swapsWinds 23 = .ok (.iconst 2, 1) := dk_5 (dk_at dksX1_swapsWinds_0 23 rfl rfl)
theorem dX1_swapsWinds_24 : decode cX1_swapsWinds 24 = .ok (.iload_n 1, 1) := dk_27 (dk_at dksX1_swapsWinds_1 0 rfl rfl)
theorem dX1_swapsWinds_25 : decode cX1_swapsWinds 25 = .ok (.imul, 1) := dk_104 (dk_at dksX1_swapsWinds_1 1 rfl rfl)
theorem dX1_swapsWinds_26 : decode cX1_swapsWinds 26 = .ok (.iload_n 3, 1) := dk_29 (dk_at dksX1_swapsWinds_1 2 rfl rfl)
theorem dX1_swapsWinds_27 : decode cX1_swapsWinds 27 = .ok (.iadd, 1) := dk_96 (dk_at dksX1_swapsWinds_1 3 rfl rfl)
theorem dX1_swapsWinds_28 : decode cX1_swapsWinds 28 = .ok (.aload_n 0, 1) := dk_42 (dk_at dksX1_swapsWinds_1 4 rfl rfl)
theorem dX1_swapsWinds_29 : decode cX1_swapsWinds 29 = .ok (.getfield 18, 3) := dk_180 0 18 (dk_at dksX1_swapsWinds_1 5 rfl rfl)
theorem dX1_swapsWinds_32 : decode cX1_swapsWinds 32 = .ok (.iconst 2, 1) := dk_5 (dk_at dksX1_swapsWinds_1 8 rfl rfl)
theorem dX1_swapsWinds_33 : decode cX1_swapsWinds 33 = .ok (.iload_n 2, 1) := dk_28 (dk_at dksX1_swapsWinds_1 9 rfl rfl)
theorem dX1_swapsWinds_34 : decode cX1_swapsWinds 34 = .ok (.imul, 1) := dk_104 (dk_at dksX1_swapsWinds_1 10 rfl rfl)
theorem dX1_swapsWinds_35 : decode cX1_swapsWinds 35 = .ok (.iload_n 3, 1) := dk_29 (dk_at dksX1_swapsWinds_1 11 rfl rfl)
theorem dX1_swapsWinds_36 : decode cX1_swapsWinds 36 = .ok (.iadd, 1) := dk_96 (dk_at dksX1_swapsWinds_1 12 rfl rfl)
theorem dX1_swapsWinds_37 : decode cX1_swapsWinds 37 = .ok (.iaload, 1) := dk_46 (dk_at dksX1_swapsWinds_1 13 rfl rfl)
theorem dX1_swapsWinds_38 : decode cX1_swapsWinds 38 = .ok (.iastore, 1) := dk_79 (dk_at dksX1_swapsWinds_1 14 rfl rfl)
theorem dX1_swapsWinds_39 : decode cX1_swapsWinds 39 = .ok (.aload_n 0, 1) := dk_42 (dk_at dksX1_swapsWinds_1 15 rfl rfl)
theorem dX1_swapsWinds_40 : decode cX1_swapsWinds 40 = .ok (.getfield 18, 3) := dk_180 0 18 (dk_at dksX1_swapsWinds_1 16 rfl rfl)
theorem dX1_swapsWinds_43 : decode cX1_swapsWinds 43 = .ok (.iconst 2, 1) := dk_5 (dk_at dksX1_swapsWinds_1 19 rfl rfl)
theorem dX1_swapsWinds_44 : decode cX1_swapsWinds 44 = .ok (.iload_n 2, 1) := dk_28 (dk_at dksX1_swapsWinds_1 20 rfl rfl)
theorem dX1_swapsWinds_45 : decode cX1_swapsWinds 45 = .ok (.imul, 1) := dk_104 (dk_at dksX1_swapsWinds_1 21 rfl rfl)
theorem dX1_swapsWinds_46 : decode cX1_swapsWinds 46 = .ok (.iload_n 3, 1) := dk_29 (dk_at dksX1_swapsWinds_1 22 rfl rfl)
theorem dX1_swapsWinds_47 : decode cX1_swapsWinds 47 = .ok (.iadd, 1) := dk_96 (dk_at dksX1_swapsWinds_1 23 rfl rfl)
theorem dX1_swapsWinds_48 : decode cX1_swapsWinds 48 = .ok (.iload 4, 2) := dk_21 4 (dk_at dksX1_swapsWinds_2 0 rfl rfl)
theorem dX1_swapsWinds_50 : decode cX1_swapsWinds 50 = .ok (.iastore, 1) := dk_79 (dk_at dksX1_swapsWinds_2 2 rfl rfl)
theorem dX1_swapsWinds_51 : decode cX1_swapsWinds 51 = .ok (.iinc 3 1, 3) := dk_132 3 1 (dk_at dksX1_swapsWinds_2 3 rfl rfl)
theorem dX1_swapsWinds_54 : decode cX1_swapsWinds 54 = .ok (.goto (-52), 3) := dk_167 255 204 (dk_at dksX1_swapsWinds_2 6 rfl rfl)
theorem dX1_swapsWinds_57 : decode cX1_swapsWinds 57 = .ok (.return_, 1) := dk_177 (dk_at dksX1_swapsWinds_2 9 rfl rfl)
theorem q117 : (Jvm.Cond.initialized "SkySpire$Sky") ∈ lw_all := lw_g (lw_at lw_m1 2 rfl) rfl
theorem q151 : (Jvm.Cond.instantiable "SkySpire$Sky" (21 : Nat)) ∈ lw_all := lw_g (lw_at lw_m1 36 rfl) rfl
theorem q153 : (Jvm.Cond.instanceMethod ({ cls := "SkySpire$Sky", name := "<init>", desc := "()V" } : Jvm.MethodName)) ∈ lw_all := lw_g (lw_at lw_m1 38 rfl) rfl
theorem q154 : (Jvm.Cond.code ({ cls := "SkySpire$Sky", name := "<init>", desc := "()V" } : Jvm.MethodName) prog_11_method_1_code (1 : Nat) (Option.none : Option Jvm.ClassFile.FieldType)) ∈ lw_all := lw_g (lw_at lw_m1 39 rfl) rfl
theorem q155 : (Jvm.Cond.methodLink "SkySpire$Sky" (3 : Nat) ({ cls := "java/lang/Object", name := "<init>", desc := "()V" } : Jvm.MethodName)) ∈ lw_all := lw_g (lw_at lw_m1 40 rfl) rfl
theorem q156 : (Jvm.Cond.fieldLink "SkySpire$Sky" (47 : Nat) "SkySpire$Sky" "side" "I") ∈ lw_all := lw_g (lw_at lw_m1 41 rfl) rfl
theorem q159 : (Jvm.Cond.fieldLink "SkySpire$Sky" (51 : Nat) "SkySpire$Sky" "fades" "I") ∈ lw_all := lw_g (lw_at lw_m1 44 rfl) rfl
theorem q162 : (Jvm.Cond.fieldLink "SkySpire$Sky" (54 : Nat) "SkySpire$Sky" "penMany" "I") ∈ lw_all := lw_g (lw_at lw_m1 47 rfl) rfl
theorem q165 : (Jvm.Cond.fieldLink "SkySpire$Sky" (57 : Nat) "SkySpire$Sky" "windMany" "I") ∈ lw_all := lw_g (lw_at lw_m1 50 rfl) rfl
theorem q168 : (Jvm.Cond.fieldLink "SkySpire$Sky" (60 : Nat) "SkySpire$Sky" "noteMany" "I") ∈ lw_all := lw_g (lw_at lw_m1 53 rfl) rfl
theorem q170 : (Jvm.Cond.fieldLink "SkySpire$Sky" (63 : Nat) "SkySpire$Sky" "undoMany" "I") ∈ lw_all := lw_g (lw_at lw_m1 55 rfl) rfl
theorem q172 : (Jvm.Cond.fieldLink "SkySpire$Sky" (66 : Nat) "SkySpire$Sky" "isTold" "I") ∈ lw_all := lw_g (lw_at lw_m1 57 rfl) rfl
theorem q174 : (Jvm.Cond.fieldLink "SkySpire$Sky" (79 : Nat) "SkySpire$Sky" "now" "I") ∈ lw_all := lw_g (lw_at lw_m1 59 rfl) rfl
theorem q176 : (Jvm.Cond.fieldLink "SkySpire$Sky" (82 : Nat) "SkySpire$Sky" "claps" "I") ∈ lw_all := lw_g (lw_at lw_m1 61 rfl) rfl
theorem q178 : (Jvm.Cond.fieldLink "SkySpire$Sky" (85 : Nat) "SkySpire$Sky" "stayed" "I") ∈ lw_all := lw_g (lw_at lw_m1 63 rfl) rfl
theorem q180 : (Jvm.Cond.fieldLink "SkySpire$Sky" (9 : Nat) "SkySpire$Sky" "toldCell" "[I") ∈ lw_all := lw_g (lw_at lw_m1 65 rfl) rfl
theorem q182 : (Jvm.Cond.fieldLink "SkySpire$Sky" (15 : Nat) "SkySpire$Sky" "toldStiff" "[I") ∈ lw_all := lw_g (lw_at lw_m1 67 rfl) rfl
theorem q184 : (Jvm.Cond.fieldLink "SkySpire$Sky" (18 : Nat) "SkySpire$Sky" "winds" "[I") ∈ lw_all := lw_g (lw_at lw_m1 69 rfl) rfl
theorem q186 : (Jvm.Cond.fieldLink "SkySpire$Sky" (21 : Nat) "SkySpire$Sky" "mark" "[Z") ∈ lw_all := lw_g (lw_at lw_m1 71 rfl) rfl
theorem q189 : (Jvm.Cond.fieldLink "SkySpire$Sky" (25 : Nat) "SkySpire$Sky" "notes" "[I") ∈ lw_all := lw_g (lw_at lw_m1 74 rfl) rfl
theorem q191 : (Jvm.Cond.fieldLink "SkySpire$Sky" (28 : Nat) "SkySpire$Sky" "cell" "[I") ∈ lw_all := lw_g (lw_at lw_m1 76 rfl) rfl
theorem q193 : (Jvm.Cond.fieldLink "SkySpire$Sky" (31 : Nat) "SkySpire$Sky" "stiff" "[I") ∈ lw_all := lw_g (lw_at lw_m1 78 rfl) rfl
theorem q195 : (Jvm.Cond.fieldLink "SkySpire$Sky" (34 : Nat) "SkySpire$Sky" "whose" "[I") ∈ lw_all := lw_g (lw_at lw_m1 80 rfl) rfl
theorem q197 : (Jvm.Cond.fieldLink "SkySpire$Sky" (37 : Nat) "SkySpire$Sky" "when" "[I") ∈ lw_all := lw_g (lw_at lw_m1 82 rfl) rfl
theorem q199 : (Jvm.Cond.fieldLink "SkySpire$Sky" (40 : Nat) "SkySpire$Sky" "undo" "[I") ∈ lw_all := lw_g (lw_at lw_m1 84 rfl) rfl
theorem q201 : (Jvm.Cond.fieldLink "SkySpire$Sky" (43 : Nat) "SkySpire$Sky" "words" "[J") ∈ lw_all := lw_g (lw_at lw_m1 86 rfl) rfl
theorem q202 : (Jvm.Cond.lays "SkySpire$Sky" "SkySpire$Sky" "side" "I") ∈ lw_all := lw_g (lw_at lw_m1 87 rfl) rfl
theorem q203 : (Jvm.Cond.soleField "SkySpire$Sky" "side") ∈ lw_all := lw_g (lw_at lw_m1 88 rfl) rfl
theorem q204 : (Jvm.Cond.lays "SkySpire$Sky" "SkySpire$Sky" "fades" "I") ∈ lw_all := lw_g (lw_at lw_m1 89 rfl) rfl
theorem q205 : (Jvm.Cond.soleField "SkySpire$Sky" "fades") ∈ lw_all := lw_g (lw_at lw_m1 90 rfl) rfl
theorem q206 : (Jvm.Cond.lays "SkySpire$Sky" "SkySpire$Sky" "penMany" "I") ∈ lw_all := lw_g (lw_at lw_m1 91 rfl) rfl
theorem q207 : (Jvm.Cond.soleField "SkySpire$Sky" "penMany") ∈ lw_all := lw_g (lw_at lw_m1 92 rfl) rfl
theorem q208 : (Jvm.Cond.lays "SkySpire$Sky" "SkySpire$Sky" "windMany" "I") ∈ lw_all := lw_g (lw_at lw_m1 93 rfl) rfl
theorem q209 : (Jvm.Cond.soleField "SkySpire$Sky" "windMany") ∈ lw_all := lw_g (lw_at lw_m1 94 rfl) rfl
theorem q210 : (Jvm.Cond.lays "SkySpire$Sky" "SkySpire$Sky" "noteMany" "I") ∈ lw_all := lw_g (lw_at lw_m1 95 rfl) rfl
theorem q211 : (Jvm.Cond.soleField "SkySpire$Sky" "noteMany") ∈ lw_all := lw_g (lw_at lw_m1 96 rfl) rfl
theorem q212 : (Jvm.Cond.lays "SkySpire$Sky" "SkySpire$Sky" "undoMany" "I") ∈ lw_all := lw_g (lw_at lw_m1 97 rfl) rfl
theorem q213 : (Jvm.Cond.soleField "SkySpire$Sky" "undoMany") ∈ lw_all := lw_g (lw_at lw_m1 98 rfl) rfl
theorem q214 : (Jvm.Cond.lays "SkySpire$Sky" "SkySpire$Sky" "isTold" "I") ∈ lw_all := lw_g (lw_at lw_m1 99 rfl) rfl
theorem q215 : (Jvm.Cond.soleField "SkySpire$Sky" "isTold") ∈ lw_all := lw_g (lw_at lw_m1 100 rfl) rfl
theorem q216 : (Jvm.Cond.lays "SkySpire$Sky" "SkySpire$Sky" "now" "I") ∈ lw_all := lw_g (lw_at lw_m1 101 rfl) rfl
theorem q217 : (Jvm.Cond.soleField "SkySpire$Sky" "now") ∈ lw_all := lw_g (lw_at lw_m1 102 rfl) rfl
theorem q218 : (Jvm.Cond.lays "SkySpire$Sky" "SkySpire$Sky" "claps" "I") ∈ lw_all := lw_g (lw_at lw_m1 103 rfl) rfl
theorem q219 : (Jvm.Cond.soleField "SkySpire$Sky" "claps") ∈ lw_all := lw_g (lw_at lw_m1 104 rfl) rfl
theorem q220 : (Jvm.Cond.lays "SkySpire$Sky" "SkySpire$Sky" "stayed" "I") ∈ lw_all := lw_g (lw_at lw_m1 105 rfl) rfl
theorem q221 : (Jvm.Cond.soleField "SkySpire$Sky" "stayed") ∈ lw_all := lw_g (lw_at lw_m1 106 rfl) rfl
theorem q222 : (Jvm.Cond.laysFinal "SkySpire$Sky" "SkySpire$Sky" "toldCell" "[I") ∈ lw_all := lw_g (lw_at lw_m1 107 rfl) rfl
theorem q223 : (Jvm.Cond.soleField "SkySpire$Sky" "toldCell") ∈ lw_all := lw_g (lw_at lw_m1 108 rfl) rfl
theorem q224 : (Jvm.Cond.laysFinal "SkySpire$Sky" "SkySpire$Sky" "toldStiff" "[I") ∈ lw_all := lw_g (lw_at lw_m1 109 rfl) rfl
theorem q225 : (Jvm.Cond.soleField "SkySpire$Sky" "toldStiff") ∈ lw_all := lw_g (lw_at lw_m1 110 rfl) rfl
theorem q226 : (Jvm.Cond.laysFinal "SkySpire$Sky" "SkySpire$Sky" "winds" "[I") ∈ lw_all := lw_g (lw_at lw_m1 111 rfl) rfl
theorem q227 : (Jvm.Cond.soleField "SkySpire$Sky" "winds") ∈ lw_all := lw_g (lw_at lw_m1 112 rfl) rfl
theorem q228 : (Jvm.Cond.laysFinal "SkySpire$Sky" "SkySpire$Sky" "mark" "[Z") ∈ lw_all := lw_g (lw_at lw_m1 113 rfl) rfl
theorem q229 : (Jvm.Cond.soleField "SkySpire$Sky" "mark") ∈ lw_all := lw_g (lw_at lw_m1 114 rfl) rfl
theorem q230 : (Jvm.Cond.laysFinal "SkySpire$Sky" "SkySpire$Sky" "notes" "[I") ∈ lw_all := lw_g (lw_at lw_m1 115 rfl) rfl
theorem q231 : (Jvm.Cond.soleField "SkySpire$Sky" "notes") ∈ lw_all := lw_g (lw_at lw_m1 116 rfl) rfl
theorem q232 : (Jvm.Cond.laysFinal "SkySpire$Sky" "SkySpire$Sky" "cell" "[I") ∈ lw_all := lw_g (lw_at lw_m1 117 rfl) rfl
theorem q233 : (Jvm.Cond.soleField "SkySpire$Sky" "cell") ∈ lw_all := lw_g (lw_at lw_m1 118 rfl) rfl
theorem q234 : (Jvm.Cond.laysFinal "SkySpire$Sky" "SkySpire$Sky" "stiff" "[I") ∈ lw_all := lw_g (lw_at lw_m1 119 rfl) rfl
theorem q235 : (Jvm.Cond.soleField "SkySpire$Sky" "stiff") ∈ lw_all := lw_g (lw_at lw_m1 120 rfl) rfl
theorem q236 : (Jvm.Cond.laysFinal "SkySpire$Sky" "SkySpire$Sky" "whose" "[I") ∈ lw_all := lw_g (lw_at lw_m1 121 rfl) rfl
theorem q237 : (Jvm.Cond.soleField "SkySpire$Sky" "whose") ∈ lw_all := lw_g (lw_at lw_m1 122 rfl) rfl
theorem q238 : (Jvm.Cond.laysFinal "SkySpire$Sky" "SkySpire$Sky" "when" "[I") ∈ lw_all := lw_g (lw_at lw_m1 123 rfl) rfl
theorem q239 : (Jvm.Cond.soleField "SkySpire$Sky" "when") ∈ lw_all := lw_g (lw_at lw_m1 124 rfl) rfl
theorem q240 : (Jvm.Cond.laysFinal "SkySpire$Sky" "SkySpire$Sky" "undo" "[I") ∈ lw_all := lw_g (lw_at lw_m1 125 rfl) rfl
theorem q241 : (Jvm.Cond.soleField "SkySpire$Sky" "undo") ∈ lw_all := lw_g (lw_at lw_m1 126 rfl) rfl
theorem q242 : (Jvm.Cond.laysFinal "SkySpire$Sky" "SkySpire$Sky" "words" "[J") ∈ lw_all := lw_g (lw_at lw_m1 127 rfl) rfl
theorem q243 : (Jvm.Cond.soleField "SkySpire$Sky" "words") ∈ lw_all := lw_g (lw_at lw_m1 128 rfl) rfl
theorem q244 : (Jvm.Cond.superclass "SkySpire$Sky" "java/lang/Object") ∈ lw_all := lw_g (lw_at lw_m1 129 rfl) rfl
theorem q471 : (Jvm.Cond.instanceMethod ({ cls := "SkySpire$Sky", name := "copies", desc := "(LSkySpire$Sky;)LSkySpire$Sky;" } : Jvm.MethodName)) ∈ lw_all := lw_g (lw_at lw_m2 116 rfl) rfl
theorem q472 : (Jvm.Cond.selects "SkySpire$Sky" ({ cls := "SkySpire$Sky", name := "copies", desc := "(LSkySpire$Sky;)LSkySpire$Sky;" } : Jvm.MethodName) ({ cls := "SkySpire$Sky", name := "copies", desc := "(LSkySpire$Sky;)LSkySpire$Sky;" } : Jvm.MethodName)) ∈ lw_all := lw_g (lw_at lw_m2 117 rfl) rfl
theorem q473 : (Jvm.Cond.code ({ cls := "SkySpire$Sky", name := "copies", desc := "(LSkySpire$Sky;)LSkySpire$Sky;" } : Jvm.MethodName) prog_11_method_2_code (2 : Nat) (Option.some (Jvm.ClassFile.FieldType.object "SkySpire$Sky"))) ∈ lw_all := lw_g (lw_at lw_m2 118 rfl) rfl
theorem q474 : (Jvm.Cond.methodLink "SkySpire$Sky" (69 : Nat) ({ cls := "java/lang/System", name := "arraycopy", desc := "(Ljava/lang/Object;ILjava/lang/Object;II)V" } : Jvm.MethodName)) ∈ lw_all := lw_g (lw_at lw_m2 119 rfl) rfl
theorem q477 : (Jvm.Cond.methodLink "SkySpire$Sky" (75 : Nat) ({ cls := "SkySpire$Sky", name := "standsAs", desc := "(LSkySpire$Sky;)LSkySpire$Sky;" } : Jvm.MethodName)) ∈ lw_all := lw_g (lw_at lw_m2 122 rfl) rfl
theorem q478 : (Jvm.Cond.instanceMethod ({ cls := "SkySpire$Sky", name := "standsAs", desc := "(LSkySpire$Sky;)LSkySpire$Sky;" } : Jvm.MethodName)) ∈ lw_all := lw_g (lw_at lw_m2 123 rfl) rfl
theorem q479 : (Jvm.Cond.selects "SkySpire$Sky" ({ cls := "SkySpire$Sky", name := "standsAs", desc := "(LSkySpire$Sky;)LSkySpire$Sky;" } : Jvm.MethodName) ({ cls := "SkySpire$Sky", name := "standsAs", desc := "(LSkySpire$Sky;)LSkySpire$Sky;" } : Jvm.MethodName)) ∈ lw_all := lw_g (lw_at lw_m2 124 rfl) rfl
theorem q480 : (Jvm.Cond.code ({ cls := "SkySpire$Sky", name := "standsAs", desc := "(LSkySpire$Sky;)LSkySpire$Sky;" } : Jvm.MethodName) prog_11_method_3_code (2 : Nat) (Option.some (Jvm.ClassFile.FieldType.object "SkySpire$Sky"))) ∈ lw_all := lw_g (lw_at lw_m2 125 rfl) rfl
theorem q581 : (Jvm.Cond.instanceMethod ({ cls := "SkySpire$Sky", name := "cells", desc := "()I" } : Jvm.MethodName)) ∈ lw_all := lw_g (lw_at lw_m2 226 rfl) rfl
theorem q582 : (Jvm.Cond.selects "SkySpire$Sky" ({ cls := "SkySpire$Sky", name := "cells", desc := "()I" } : Jvm.MethodName) ({ cls := "SkySpire$Sky", name := "cells", desc := "()I" } : Jvm.MethodName)) ∈ lw_all := lw_g (lw_at lw_m2 227 rfl) rfl
theorem q583 : (Jvm.Cond.code ({ cls := "SkySpire$Sky", name := "cells", desc := "()I" } : Jvm.MethodName) prog_11_method_8_code (1 : Nat) (Option.some Jvm.ClassFile.FieldType.int)) ∈ lw_all := lw_g (lw_at lw_m2 228 rfl) rfl
theorem q597 : (Jvm.Cond.instanceMethod ({ cls := "SkySpire$Sky", name := "begins", desc := "()V" } : Jvm.MethodName)) ∈ lw_all := lw_g (lw_at lw_m3 2 rfl) rfl
theorem q598 : (Jvm.Cond.selects "SkySpire$Sky" ({ cls := "SkySpire$Sky", name := "begins", desc := "()V" } : Jvm.MethodName) ({ cls := "SkySpire$Sky", name := "begins", desc := "()V" } : Jvm.MethodName)) ∈ lw_all := lw_g (lw_at lw_m3 3 rfl) rfl
theorem q599 : (Jvm.Cond.code ({ cls := "SkySpire$Sky", name := "begins", desc := "()V" } : Jvm.MethodName) prog_11_method_6_code (2 : Nat) (Option.none : Option Jvm.ClassFile.FieldType)) ∈ lw_all := lw_g (lw_at lw_m3 4 rfl) rfl
theorem q600 : (Jvm.Cond.methodLink "SkySpire$Sky" (88 : Nat) ({ cls := "SkySpire$Sky", name := "blots", desc := "(I)V" } : Jvm.MethodName)) ∈ lw_all := lw_g (lw_at lw_m3 5 rfl) rfl
theorem q601 : (Jvm.Cond.instanceMethod ({ cls := "SkySpire$Sky", name := "blots", desc := "(I)V" } : Jvm.MethodName)) ∈ lw_all := lw_g (lw_at lw_m3 6 rfl) rfl
theorem q602 : (Jvm.Cond.selects "SkySpire$Sky" ({ cls := "SkySpire$Sky", name := "blots", desc := "(I)V" } : Jvm.MethodName) ({ cls := "SkySpire$Sky", name := "blots", desc := "(I)V" } : Jvm.MethodName)) ∈ lw_all := lw_g (lw_at lw_m3 7 rfl) rfl
theorem q603 : (Jvm.Cond.code ({ cls := "SkySpire$Sky", name := "blots", desc := "(I)V" } : Jvm.MethodName) prog_11_method_7_code (2 : Nat) (Option.none : Option Jvm.ClassFile.FieldType)) ∈ lw_all := lw_g (lw_at lw_m3 8 rfl) rfl
theorem q795 : (Jvm.Cond.instanceMethod ({ cls := "SkySpire$Sky", name := "strokesOf", desc := "(I)I" } : Jvm.MethodName)) ∈ lw_all := lw_g (lw_at lw_m3 200 rfl) rfl
theorem q796 : (Jvm.Cond.selects "SkySpire$Sky" ({ cls := "SkySpire$Sky", name := "strokesOf", desc := "(I)I" } : Jvm.MethodName) ({ cls := "SkySpire$Sky", name := "strokesOf", desc := "(I)I" } : Jvm.MethodName)) ∈ lw_all := lw_g (lw_at lw_m3 201 rfl) rfl
theorem q797 : (Jvm.Cond.code ({ cls := "SkySpire$Sky", name := "strokesOf", desc := "(I)I" } : Jvm.MethodName) prog_11_method_10_code (4 : Nat) (Option.some Jvm.ClassFile.FieldType.int)) ∈ lw_all := lw_g (lw_at lw_m3 202 rfl) rfl
theorem q798 : (Jvm.Cond.methodLink "SkySpire$Sky" (92 : Nat) ({ cls := "SkySpire$Sky", name := "cells", desc := "()I" } : Jvm.MethodName)) ∈ lw_all := lw_g (lw_at lw_m3 203 rfl) rfl
theorem q815 : (Jvm.Cond.instanceMethod ({ cls := "SkySpire$Sky", name := "takes", desc := "(I)V" } : Jvm.MethodName)) ∈ lw_all := lw_g (lw_at lw_m3 220 rfl) rfl
theorem q816 : (Jvm.Cond.selects "SkySpire$Sky" ({ cls := "SkySpire$Sky", name := "takes", desc := "(I)V" } : Jvm.MethodName) ({ cls := "SkySpire$Sky", name := "takes", desc := "(I)V" } : Jvm.MethodName)) ∈ lw_all := lw_g (lw_at lw_m3 221 rfl) rfl
theorem q817 : (Jvm.Cond.code ({ cls := "SkySpire$Sky", name := "takes", desc := "(I)V" } : Jvm.MethodName) prog_11_method_5_code (3 : Nat) (Option.none : Option Jvm.ClassFile.FieldType)) ∈ lw_all := lw_g (lw_at lw_m3 222 rfl) rfl
theorem q828 : (Jvm.Cond.instanceMethod ({ cls := "SkySpire$Sky", name := "lays", desc := "(I)V" } : Jvm.MethodName)) ∈ lw_all := lw_g (lw_at lw_m3 233 rfl) rfl
theorem q829 : (Jvm.Cond.selects "SkySpire$Sky" ({ cls := "SkySpire$Sky", name := "lays", desc := "(I)V" } : Jvm.MethodName) ({ cls := "SkySpire$Sky", name := "lays", desc := "(I)V" } : Jvm.MethodName)) ∈ lw_all := lw_g (lw_at lw_m3 234 rfl) rfl
theorem q830 : (Jvm.Cond.code ({ cls := "SkySpire$Sky", name := "lays", desc := "(I)V" } : Jvm.MethodName) prog_11_method_4_code (3 : Nat) (Option.none : Option Jvm.ClassFile.FieldType)) ∈ lw_all := lw_g (lw_at lw_m3 235 rfl) rfl
theorem q836 : (Jvm.Cond.instanceMethod ({ cls := "SkySpire$Sky", name := "passes", desc := "(LSkySpire$Rule;)I" } : Jvm.MethodName)) ∈ lw_all := lw_g (lw_at lw_m4 1 rfl) rfl
theorem q837 : (Jvm.Cond.selects "SkySpire$Sky" ({ cls := "SkySpire$Sky", name := "passes", desc := "(LSkySpire$Rule;)I" } : Jvm.MethodName) ({ cls := "SkySpire$Sky", name := "passes", desc := "(LSkySpire$Rule;)I" } : Jvm.MethodName)) ∈ lw_all := lw_g (lw_at lw_m4 2 rfl) rfl
theorem q838 : (Jvm.Cond.code ({ cls := "SkySpire$Sky", name := "passes", desc := "(LSkySpire$Rule;)I" } : Jvm.MethodName) prog_11_method_20_code (4 : Nat) (Option.some Jvm.ClassFile.FieldType.int)) ∈ lw_all := lw_g (lw_at lw_m4 3 rfl) rfl
theorem q839 : (Jvm.Cond.methodLink "SkySpire$Sky" (124 : Nat) ({ cls := "SkySpire$Sky", name := "writes", desc := "(ILSkySpire$Rule;)Z" } : Jvm.MethodName)) ∈ lw_all := lw_g (lw_at lw_m4 4 rfl) rfl
theorem q840 : (Jvm.Cond.privateMethod ({ cls := "SkySpire$Sky", name := "writes", desc := "(ILSkySpire$Rule;)Z" } : Jvm.MethodName)) ∈ lw_tbl := lw_at lw_m4 5 rfl
theorem q841 : (Jvm.Cond.instanceMethod ({ cls := "SkySpire$Sky", name := "writes", desc := "(ILSkySpire$Rule;)Z" } : Jvm.MethodName)) ∈ lw_all := lw_g (lw_at lw_m4 6 rfl) rfl
theorem q842 : (Jvm.Cond.code ({ cls := "SkySpire$Sky", name := "writes", desc := "(ILSkySpire$Rule;)Z" } : Jvm.MethodName) prog_11_method_16_code (4 : Nat) (Option.some Jvm.ClassFile.FieldType.boolean)) ∈ lw_all := lw_g (lw_at lw_m4 7 rfl) rfl
theorem q843 : (Jvm.Cond.methodLinkNest "SkySpire$Sky" (96 : Nat) ({ cls := "SkySpire", name := "has", desc := "(II)Z" } : Jvm.MethodName) "SkySpire") ∈ lw_tbl := lw_at lw_m4 8 rfl
theorem q846 : (Jvm.Cond.methodLink "SkySpire$Sky" (100 : Nat) ({ cls := "SkySpire$Sky", name := "wayOn", desc := "(I)I" } : Jvm.MethodName)) ∈ lw_all := lw_g (lw_at lw_m4 11 rfl) rfl
theorem q847 : (Jvm.Cond.privateMethod ({ cls := "SkySpire$Sky", name := "wayOn", desc := "(I)I" } : Jvm.MethodName)) ∈ lw_tbl := lw_at lw_m4 12 rfl
theorem q848 : (Jvm.Cond.instanceMethod ({ cls := "SkySpire$Sky", name := "wayOn", desc := "(I)I" } : Jvm.MethodName)) ∈ lw_all := lw_g (lw_at lw_m4 13 rfl) rfl
theorem q849 : (Jvm.Cond.code ({ cls := "SkySpire$Sky", name := "wayOn", desc := "(I)I" } : Jvm.MethodName) prog_11_method_13_code (2 : Nat) (Option.some Jvm.ClassFile.FieldType.int)) ∈ lw_all := lw_g (lw_at lw_m4 14 rfl) rfl
theorem q850 : (Jvm.Cond.methodLink "SkySpire$Sky" (104 : Nat) ({ cls := "SkySpire$Sky", name := "forceOn", desc := "(I)I" } : Jvm.MethodName)) ∈ lw_all := lw_g (lw_at lw_m4 15 rfl) rfl
theorem q851 : (Jvm.Cond.privateMethod ({ cls := "SkySpire$Sky", name := "forceOn", desc := "(I)I" } : Jvm.MethodName)) ∈ lw_tbl := lw_at lw_m4 16 rfl
theorem q852 : (Jvm.Cond.instanceMethod ({ cls := "SkySpire$Sky", name := "forceOn", desc := "(I)I" } : Jvm.MethodName)) ∈ lw_all := lw_g (lw_at lw_m4 17 rfl) rfl
theorem q853 : (Jvm.Cond.code ({ cls := "SkySpire$Sky", name := "forceOn", desc := "(I)I" } : Jvm.MethodName) prog_11_method_14_code (2 : Nat) (Option.some Jvm.ClassFile.FieldType.int)) ∈ lw_all := lw_g (lw_at lw_m4 18 rfl) rfl
theorem q854 : (Jvm.Cond.methodLink "SkySpire$Sky" (107 : Nat) ({ cls := "SkySpire$Sky", name := "strokesOf", desc := "(I)I" } : Jvm.MethodName)) ∈ lw_all := lw_g (lw_at lw_m4 19 rfl) rfl
theorem q855 : (Jvm.Cond.methodLink "SkySpire$Sky" (110 : Nat) ({ cls := "SkySpire$Rule", name := "summed", desc := "([J)J" } : Jvm.MethodName)) ∈ lw_all := lw_g (lw_at lw_m4 20 rfl) rfl
theorem q891 : (Jvm.Cond.methodLink "SkySpire$Sky" (128 : Nat) ({ cls := "SkySpire$Sky", name := "moves", desc := "()V" } : Jvm.MethodName)) ∈ lw_all := lw_g (lw_at lw_m4 56 rfl) rfl
theorem q892 : (Jvm.Cond.privateMethod ({ cls := "SkySpire$Sky", name := "moves", desc := "()V" } : Jvm.MethodName)) ∈ lw_tbl := lw_at lw_m4 57 rfl
theorem q893 : (Jvm.Cond.instanceMethod ({ cls := "SkySpire$Sky", name := "moves", desc := "()V" } : Jvm.MethodName)) ∈ lw_all := lw_g (lw_at lw_m4 58 rfl) rfl
theorem q894 : (Jvm.Cond.code ({ cls := "SkySpire$Sky", name := "moves", desc := "()V" } : Jvm.MethodName) prog_11_method_17_code (3 : Nat) (Option.none : Option Jvm.ClassFile.FieldType)) ∈ lw_all := lw_g (lw_at lw_m4 59 rfl) rfl
theorem q895 : (Jvm.Cond.methodLink "SkySpire$Sky" (116 : Nat) ({ cls := "SkySpire$Sky", name := "beside", desc := "(II)I" } : Jvm.MethodName)) ∈ lw_all := lw_g (lw_at lw_m4 60 rfl) rfl
theorem q896 : (Jvm.Cond.instanceMethod ({ cls := "SkySpire$Sky", name := "beside", desc := "(II)I" } : Jvm.MethodName)) ∈ lw_all := lw_g (lw_at lw_m4 61 rfl) rfl
theorem q897 : (Jvm.Cond.selects "SkySpire$Sky" ({ cls := "SkySpire$Sky", name := "beside", desc := "(II)I" } : Jvm.MethodName) ({ cls := "SkySpire$Sky", name := "beside", desc := "(II)I" } : Jvm.MethodName)) ∈ lw_all := lw_g (lw_at lw_m4 62 rfl) rfl
theorem q898 : (Jvm.Cond.code ({ cls := "SkySpire$Sky", name := "beside", desc := "(II)I" } : Jvm.MethodName) prog_11_method_15_code (3 : Nat) (Option.some Jvm.ClassFile.FieldType.int)) ∈ lw_all := lw_g (lw_at lw_m4 63 rfl) rfl
theorem q899 : (Jvm.Cond.methodLink "SkySpire$Sky" (131 : Nat) ({ cls := "SkySpire$Sky", name := "falls", desc := "(II)V" } : Jvm.MethodName)) ∈ lw_all := lw_g (lw_at lw_m4 64 rfl) rfl
theorem q900 : (Jvm.Cond.privateMethod ({ cls := "SkySpire$Sky", name := "falls", desc := "(II)V" } : Jvm.MethodName)) ∈ lw_tbl := lw_at lw_m4 65 rfl
theorem q901 : (Jvm.Cond.instanceMethod ({ cls := "SkySpire$Sky", name := "falls", desc := "(II)V" } : Jvm.MethodName)) ∈ lw_all := lw_g (lw_at lw_m4 66 rfl) rfl
theorem q902 : (Jvm.Cond.code ({ cls := "SkySpire$Sky", name := "falls", desc := "(II)V" } : Jvm.MethodName) prog_11_method_19_code (6 : Nat) (Option.none : Option Jvm.ClassFile.FieldType)) ∈ lw_all := lw_g (lw_at lw_m4 67 rfl) rfl
theorem q903 : (Jvm.Cond.methodLink "SkySpire$Sky" (120 : Nat) ({ cls := "SkySpire$Sky", name := "draws", desc := "(II)V" } : Jvm.MethodName)) ∈ lw_all := lw_g (lw_at lw_m4 68 rfl) rfl
theorem q904 : (Jvm.Cond.instanceMethod ({ cls := "SkySpire$Sky", name := "draws", desc := "(II)V" } : Jvm.MethodName)) ∈ lw_all := lw_g (lw_at lw_m4 69 rfl) rfl
theorem q905 : (Jvm.Cond.selects "SkySpire$Sky" ({ cls := "SkySpire$Sky", name := "draws", desc := "(II)V" } : Jvm.MethodName) ({ cls := "SkySpire$Sky", name := "draws", desc := "(II)V" } : Jvm.MethodName)) ∈ lw_all := lw_g (lw_at lw_m4 70 rfl) rfl
theorem q906 : (Jvm.Cond.code ({ cls := "SkySpire$Sky", name := "draws", desc := "(II)V" } : Jvm.MethodName) prog_11_method_18_code (3 : Nat) (Option.none : Option Jvm.ClassFile.FieldType)) ∈ lw_all := lw_g (lw_at lw_m4 71 rfl) rfl
theorem q932 : (Jvm.Cond.instanceMethod ({ cls := "SkySpire$Sky", name := "goesOn", desc := "(ILSkySpire$Rule;)LSkySpire$Sky;" } : Jvm.MethodName)) ∈ lw_all := lw_g (lw_at lw_m4 97 rfl) rfl
theorem q933 : (Jvm.Cond.selects "SkySpire$Sky" ({ cls := "SkySpire$Sky", name := "goesOn", desc := "(ILSkySpire$Rule;)LSkySpire$Sky;" } : Jvm.MethodName) ({ cls := "SkySpire$Sky", name := "goesOn", desc := "(ILSkySpire$Rule;)LSkySpire$Sky;" } : Jvm.MethodName)) ∈ lw_all := lw_g (lw_at lw_m4 98 rfl) rfl
theorem q934 : (Jvm.Cond.code ({ cls := "SkySpire$Sky", name := "goesOn", desc := "(ILSkySpire$Rule;)LSkySpire$Sky;" } : Jvm.MethodName) prog_11_method_21_code (4 : Nat) (Option.some (Jvm.ClassFile.FieldType.object "SkySpire$Sky"))) ∈ lw_all := lw_g (lw_at lw_m4 99 rfl) rfl
theorem q935 : (Jvm.Cond.methodLink "SkySpire$Sky" (134 : Nat) ({ cls := "SkySpire$Sky", name := "passes", desc := "(LSkySpire$Rule;)I" } : Jvm.MethodName)) ∈ lw_all := lw_g (lw_at lw_m4 100 rfl) rfl
theorem q937 : (Jvm.Cond.instanceMethod ({ cls := "SkySpire$Sky", name := "strokes", desc := "()I" } : Jvm.MethodName)) ∈ lw_all := lw_g (lw_at lw_m4 102 rfl) rfl
theorem q938 : (Jvm.Cond.selects "SkySpire$Sky" ({ cls := "SkySpire$Sky", name := "strokes", desc := "()I" } : Jvm.MethodName) ({ cls := "SkySpire$Sky", name := "strokes", desc := "()I" } : Jvm.MethodName)) ∈ lw_all := lw_g (lw_at lw_m4 103 rfl) rfl
theorem q939 : (Jvm.Cond.code ({ cls := "SkySpire$Sky", name := "strokes", desc := "()I" } : Jvm.MethodName) prog_11_method_9_code (3 : Nat) (Option.some Jvm.ClassFile.FieldType.int)) ∈ lw_all := lw_g (lw_at lw_m4 104 rfl) rfl
theorem q941 : (Jvm.Cond.instanceMethod ({ cls := "SkySpire$Sky", name := "like", desc := "()I" } : Jvm.MethodName)) ∈ lw_all := lw_g (lw_at lw_m4 106 rfl) rfl
theorem q942 : (Jvm.Cond.selects "SkySpire$Sky" ({ cls := "SkySpire$Sky", name := "like", desc := "()I" } : Jvm.MethodName) ({ cls := "SkySpire$Sky", name := "like", desc := "()I" } : Jvm.MethodName)) ∈ lw_all := lw_g (lw_at lw_m4 107 rfl) rfl
theorem q943 : (Jvm.Cond.code ({ cls := "SkySpire$Sky", name := "like", desc := "()I" } : Jvm.MethodName) prog_11_method_11_code (3 : Nat) (Option.some Jvm.ClassFile.FieldType.int)) ∈ lw_all := lw_g (lw_at lw_m4 108 rfl) rfl
theorem q949 : (Jvm.Cond.instanceMethod ({ cls := "SkySpire$Sky", name := "isSigned", desc := "()Z" } : Jvm.MethodName)) ∈ lw_all := lw_g (lw_at lw_m4 114 rfl) rfl
theorem q950 : (Jvm.Cond.selects "SkySpire$Sky" ({ cls := "SkySpire$Sky", name := "isSigned", desc := "()Z" } : Jvm.MethodName) ({ cls := "SkySpire$Sky", name := "isSigned", desc := "()Z" } : Jvm.MethodName)) ∈ lw_all := lw_g (lw_at lw_m4 115 rfl) rfl
theorem q951 : (Jvm.Cond.code ({ cls := "SkySpire$Sky", name := "isSigned", desc := "()Z" } : Jvm.MethodName) prog_11_method_12_code (2 : Nat) (Option.some Jvm.ClassFile.FieldType.boolean)) ∈ lw_all := lw_g (lw_at lw_m4 116 rfl) rfl
theorem q986 : (Jvm.Cond.instanceMethod ({ cls := "SkySpire$Sky", name := "swapsWinds", desc := "(II)V" } : Jvm.MethodName)) ∈ lw_all := lw_g (lw_at lw_m4 151 rfl) rfl
theorem q987 : (Jvm.Cond.selects "SkySpire$Sky" ({ cls := "SkySpire$Sky", name := "swapsWinds", desc := "(II)V" } : Jvm.MethodName) ({ cls := "SkySpire$Sky", name := "swapsWinds", desc := "(II)V" } : Jvm.MethodName)) ∈ lw_all := lw_g (lw_at lw_m4 152 rfl) rfl
theorem q988 : (Jvm.Cond.code ({ cls := "SkySpire$Sky", name := "swapsWinds", desc := "(II)V" } : Jvm.MethodName) prog_11_method_22_code (5 : Nat) (Option.none : Option Jvm.ClassFile.FieldType)) ∈ lw_all := lw_g (lw_at lw_m4 153 rfl) rfl
theorem in_X1 : ∀ w ∈ wsX10, w ∈ lw_all := lw_in wsX10 [202, 204, 206, 208, 210, 212, 214, 216, 218, 220, 222, 224, 226, 228, 230, 232, 234, 236, 238, 240, 242] (by decide +kernel) (by decide +kernel)
